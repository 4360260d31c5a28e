/-! weakest preconditions, methods that copy: printed by wpc.py -/
set_option maxRecDepth 100000
theorem dX0_alike_0 : decode prog_1_method_2_code 0 = .ok (.aload_n 1, 1) := by decide +kernel
theorem dX0_alike_1 : decode prog_1_method_2_code 1 = .ok (.ifnull 7, 3) := by decide +kernel
theorem dX0_alike_4 : decode prog_1_method_2_code 4 = .ok (.aload_n 3, 1) := by decide +kernel
theorem dX0_alike_5 : decode prog_1_method_2_code 5 = .ok (.ifnonnull 19, 3) := by decide +kernel
theorem dX0_alike_8 : decode prog_1_method_2_code 8 = .ok (.aload_n 1, 1) := by decide +kernel
theorem dX0_alike_9 : decode prog_1_method_2_code 9 = .ok (.aload_n 3, 1) := by decide +kernel
theorem dX0_alike_10 : decode prog_1_method_2_code 10 = .ok (.if_acmp .ne 12, 3) := by decide +kernel
theorem dX0_alike_13 : decode prog_1_method_2_code 13 = .ok (.iload_n 0, 1) := by decide +kernel
theorem dX0_alike_14 : decode prog_1_method_2_code 14 = .ok (.iload_n 2, 1) := by decide +kernel
theorem dX0_alike_15 : decode prog_1_method_2_code 15 = .ok (.if_icmp .ne 7, 3) := by decide +kernel
theorem dX0_alike_18 : decode prog_1_method_2_code 18 = .ok (.iconst 1, 1) := by decide +kernel
theorem dX0_alike_19 : decode prog_1_method_2_code 19 = .ok (.goto 4, 3) := by decide +kernel
theorem dX0_alike_22 : decode prog_1_method_2_code 22 = .ok (.iconst 0, 1) := by decide +kernel
theorem dX0_alike_23 : decode prog_1_method_2_code 23 = .ok (.ireturn, 1) := by decide +kernel
theorem dX0_alike_24 : decode prog_1_method_2_code 24 = .ok (.aload_n 1, 1) := by decide +kernel
theorem dX0_alike_25 : decode prog_1_method_2_code 25 = .ok (.aload_n 3, 1) := by decide +kernel
theorem dX0_alike_26 : decode prog_1_method_2_code 26 = .ok (.invokevirtual 3, 3) := by decide +kernel
theorem dX0_alike_29 : decode prog_1_method_2_code 29 = .ok (.ireturn, 1) := by decide +kernel
theorem dX0_add_0 : decode prog_1_method_19_code 0 = .ok (.iload_n 1, 1) := by decide +kernel
theorem dX0_add_1 : decode prog_1_method_19_code 1 = .ok (.invokestatic 102, 3) := by decide +kernel
theorem dX0_add_4 : decode prog_1_method_19_code 4 = .ok (.ifCond .ne 5, 3) := by decide +kernel
theorem dX0_add_7 : decode prog_1_method_19_code 7 = .ok (.iconst 0, 1) := by decide +kernel
theorem dX0_add_8 : decode prog_1_method_19_code 8 = .ok (.ireturn, 1) := by decide +kernel
theorem dX0_add_9 : decode prog_1_method_19_code 9 = .ok (.aload_n 0, 1) := by decide +kernel
theorem dX0_add_10 : decode prog_1_method_19_code 10 = .ok (.iload_n 1, 1) := by decide +kernel
theorem dX0_add_11 : decode prog_1_method_19_code 11 = .ok (.invokevirtual 177, 3) := by decide +kernel
theorem dX0_add_14 : decode prog_1_method_19_code 14 = .ok (.ifCond .eq 33, 3) := by decide +kernel
theorem dX0_add_17 : decode prog_1_method_19_code 17 = .ok (.aload_n 0, 1) := by decide +kernel
theorem dX0_add_18 : decode prog_1_method_19_code 18 = .ok (.iload_n 1, 1) := by decide +kernel
theorem dX0_add_19 : decode prog_1_method_19_code 19 = .ok (.invokevirtual 180, 3) := by decide +kernel
theorem dX0_add_22 : decode prog_1_method_19_code 22 = .ok (.astore 5, 2) := by decide +kernel
theorem dX0_add_24 : decode prog_1_method_19_code 24 = .ok (.aload 5, 2) := by decide +kernel
theorem dX0_add_26 : decode prog_1_method_19_code 26 = .ok (.instanceof 198, 3) := by decide +kernel
theorem dX0_add_29 : decode prog_1_method_19_code 29 = .ok (.ifCond .eq 18, 3) := by decide +kernel
theorem dX0_add_32 : decode prog_1_method_19_code 32 = .ok (.aload 5, 2) := by decide +kernel
theorem dX0_add_34 : decode prog_1_method_19_code 34 = .ok (.checkcast 198, 3) := by decide +kernel
theorem dX0_add_37 : decode prog_1_method_19_code 37 = .ok (.astore 4, 2) := by decide +kernel
theorem dX0_add_39 : decode prog_1_method_19_code 39 = .ok (.aload 4, 2) := by decide +kernel
theorem dX0_add_41 : decode prog_1_method_19_code 41 = .ok (.getfield 200, 3) := by decide +kernel
theorem dX0_add_44 : decode prog_1_method_19_code 44 = .ok (.goto 6, 3) := by decide +kernel
theorem dX0_add_47 : decode prog_1_method_19_code 47 = .ok (.iconst 0, 1) := by decide +kernel
theorem dX0_add_48 : decode prog_1_method_19_code 48 = .ok (.newarray .int, 2) := by decide +kernel
theorem dX0_add_50 : decode prog_1_method_19_code 50 = .ok (.astore_n 3, 1) := by decide +kernel
theorem dX0_add_51 : decode prog_1_method_19_code 51 = .ok (.aload_n 3, 1) := by decide +kernel
theorem dX0_add_52 : decode prog_1_method_19_code 52 = .ok (.arraylength, 1) := by decide +kernel
theorem dX0_add_53 : decode prog_1_method_19_code 53 = .ok (.bipush 64, 2) := by decide +kernel
theorem dX0_add_55 : decode prog_1_method_19_code 55 = .ok (.if_icmp .ne 5, 3) := by decide +kernel
theorem dX0_add_58 : decode prog_1_method_19_code 58 = .ok (.iconst 0, 1) := by decide +kernel
theorem dX0_add_59 : decode prog_1_method_19_code 59 = .ok (.ireturn, 1) := by decide +kernel
theorem dX0_add_60 : decode prog_1_method_19_code 60 = .ok (.aload_n 3, 1) := by decide +kernel
theorem dX0_add_61 : decode prog_1_method_19_code 61 = .ok (.arraylength, 1) := by decide +kernel
theorem dX0_add_62 : decode prog_1_method_19_code 62 = .ok (.iconst 1, 1) := by decide +kernel
theorem dX0_add_63 : decode prog_1_method_19_code 63 = .ok (.iadd, 1) := by decide +kernel
theorem dX0_add_64 : decode prog_1_method_19_code 64 = .ok (.newarray .int, 2) := by decide +kernel
theorem dX0_add_66 : decode prog_1_method_19_code 66 = .ok (.astore 4, 2) := by decide +kernel
theorem dX0_add_68 : decode prog_1_method_19_code 68 = .ok (.aload_n 3, 1) := by decide +kernel
theorem dX0_add_69 : decode prog_1_method_19_code 69 = .ok (.iconst 0, 1) := by decide +kernel
theorem dX0_add_70 : decode prog_1_method_19_code 70 = .ok (.aload 4, 2) := by decide +kernel
theorem dX0_add_72 : decode prog_1_method_19_code 72 = .ok (.iconst 0, 1) := by decide +kernel
theorem dX0_add_73 : decode prog_1_method_19_code 73 = .ok (.aload_n 3, 1) := by decide +kernel
theorem dX0_add_74 : decode prog_1_method_19_code 74 = .ok (.arraylength, 1) := by decide +kernel
theorem dX0_add_75 : decode prog_1_method_19_code 75 = .ok (.invokestatic 203, 3) := by decide +kernel
theorem dX0_add_78 : decode prog_1_method_19_code 78 = .ok (.aload 4, 2) := by decide +kernel
theorem dX0_add_80 : decode prog_1_method_19_code 80 = .ok (.aload_n 3, 1) := by decide +kernel
theorem dX0_add_81 : decode prog_1_method_19_code 81 = .ok (.arraylength, 1) := by decide +kernel
theorem dX0_add_82 : decode prog_1_method_19_code 82 = .ok (.iload_n 2, 1) := by decide +kernel
theorem dX0_add_83 : decode prog_1_method_19_code 83 = .ok (.iastore, 1) := by decide +kernel
theorem dX0_add_84 : decode prog_1_method_19_code 84 = .ok (.aload_n 0, 1) := by decide +kernel
theorem dX0_add_85 : decode prog_1_method_19_code 85 = .ok (.getfield 40, 3) := by decide +kernel
theorem dX0_add_88 : decode prog_1_method_19_code 88 = .ok (.getfield 108, 3) := by decide +kernel
theorem dX0_add_91 : decode prog_1_method_19_code 91 = .ok (.iload_n 1, 1) := by decide +kernel
theorem dX0_add_92 : decode prog_1_method_19_code 92 = .ok (.iconst 0, 1) := by decide +kernel
theorem dX0_add_93 : decode prog_1_method_19_code 93 = .ok (.new 198, 3) := by decide +kernel
theorem dX0_add_96 : decode prog_1_method_19_code 96 = .ok (.dup, 1) := by decide +kernel
theorem dX0_add_97 : decode prog_1_method_19_code 97 = .ok (.aload 4, 2) := by decide +kernel
theorem dX0_add_99 : decode prog_1_method_19_code 99 = .ok (.invokespecial 209, 3) := by decide +kernel
theorem dX0_add_102 : decode prog_1_method_19_code 102 = .ok (.invokevirtual 195, 3) := by decide +kernel
theorem dX0_add_105 : decode prog_1_method_19_code 105 = .ok (.iconst 1, 1) := by decide +kernel
theorem dX0_add_106 : decode prog_1_method_19_code 106 = .ok (.ireturn, 1) := by decide +kernel
theorem dX2_begin_0 : decode prog_26_method_3_code 0 = .ok (.aload_n 1, 1) := by decide +kernel
theorem dX2_begin_1 : decode prog_26_method_3_code 1 = .ok (.iconst 0, 1) := by decide +kernel
theorem dX2_begin_2 : decode prog_26_method_3_code 2 = .ok (.aload_n 0, 1) := by decide +kernel
theorem dX2_begin_3 : decode prog_26_method_3_code 3 = .ok (.getfield 9, 3) := by decide +kernel
theorem dX2_begin_6 : decode prog_26_method_3_code 6 = .ok (.iconst 0, 1) := by decide +kernel
theorem dX2_begin_7 : decode prog_26_method_3_code 7 = .ok (.iload_n 2, 1) := by decide +kernel
theorem dX2_begin_8 : decode prog_26_method_3_code 8 = .ok (.invokestatic 28, 3) := by decide +kernel
theorem dX2_begin_11 : decode prog_26_method_3_code 11 = .ok (.aload_n 0, 1) := by decide +kernel
theorem dX2_begin_12 : decode prog_26_method_3_code 12 = .ok (.iload_n 2, 1) := by decide +kernel
theorem dX2_begin_13 : decode prog_26_method_3_code 13 = .ok (.putfield 34, 3) := by decide +kernel
theorem dX2_begin_16 : decode prog_26_method_3_code 16 = .ok (.aload_n 0, 1) := by decide +kernel
theorem dX2_begin_17 : decode prog_26_method_3_code 17 = .ok (.iconst 0, 1) := by decide +kernel
theorem dX2_begin_18 : decode prog_26_method_3_code 18 = .ok (.putfield 37, 3) := by decide +kernel
theorem dX2_begin_21 : decode prog_26_method_3_code 21 = .ok (.aload_n 0, 1) := by decide +kernel
theorem dX2_begin_22 : decode prog_26_method_3_code 22 = .ok (.iconst 0, 1) := by decide +kernel
theorem dX2_begin_23 : decode prog_26_method_3_code 23 = .ok (.putfield 40, 3) := by decide +kernel
theorem dX2_begin_26 : decode prog_26_method_3_code 26 = .ok (.return_, 1) := by decide +kernel
theorem dX4_keep_0 : decode prog_27_method_3_code 0 = .ok (.aload_n 0, 1) := by decide +kernel
theorem dX4_keep_1 : decode prog_27_method_3_code 1 = .ok (.getfield 9, 3) := by decide +kernel
theorem dX4_keep_4 : decode prog_27_method_3_code 4 = .ok (.iconst 0, 1) := by decide +kernel
theorem dX4_keep_5 : decode prog_27_method_3_code 5 = .ok (.aload_n 0, 1) := by decide +kernel
theorem dX4_keep_6 : decode prog_27_method_3_code 6 = .ok (.getfield 15, 3) := by decide +kernel
theorem dX4_keep_9 : decode prog_27_method_3_code 9 = .ok (.bipush 8, 2) := by decide +kernel
theorem dX4_keep_11 : decode prog_27_method_3_code 11 = .ok (.iload_n 1, 1) := by decide +kernel
theorem dX4_keep_12 : decode prog_27_method_3_code 12 = .ok (.imul, 1) := by decide +kernel
theorem dX4_keep_13 : decode prog_27_method_3_code 13 = .ok (.bipush 8, 2) := by decide +kernel
theorem dX4_keep_15 : decode prog_27_method_3_code 15 = .ok (.invokestatic 34, 3) := by decide +kernel
theorem dX4_keep_18 : decode prog_27_method_3_code 18 = .ok (.aload_n 0, 1) := by decide +kernel
theorem dX4_keep_19 : decode prog_27_method_3_code 19 = .ok (.getfield 27, 3) := by decide +kernel
theorem dX4_keep_22 : decode prog_27_method_3_code 22 = .ok (.iconst 0, 1) := by decide +kernel
theorem dX4_keep_23 : decode prog_27_method_3_code 23 = .ok (.aload_n 0, 1) := by decide +kernel
theorem dX4_keep_24 : decode prog_27_method_3_code 24 = .ok (.getfield 31, 3) := by decide +kernel
theorem dX4_keep_27 : decode prog_27_method_3_code 27 = .ok (.bipush 8, 2) := by decide +kernel
theorem dX4_keep_29 : decode prog_27_method_3_code 29 = .ok (.iload_n 1, 1) := by decide +kernel
theorem dX4_keep_30 : decode prog_27_method_3_code 30 = .ok (.imul, 1) := by decide +kernel
theorem dX4_keep_31 : decode prog_27_method_3_code 31 = .ok (.bipush 8, 2) := by decide +kernel
theorem dX4_keep_33 : decode prog_27_method_3_code 33 = .ok (.invokestatic 34, 3) := by decide +kernel
theorem dX4_keep_36 : decode prog_27_method_3_code 36 = .ok (.iconst 0, 1) := by decide +kernel
theorem dX4_keep_37 : decode prog_27_method_3_code 37 = .ok (.istore_n 2, 1) := by decide +kernel
theorem dX4_keep_38 : decode prog_27_method_3_code 38 = .ok (.iload_n 2, 1) := by decide +kernel
theorem dX4_keep_39 : decode prog_27_method_3_code 39 = .ok (.bipush 8, 2) := by decide +kernel
theorem dX4_keep_41 : decode prog_27_method_3_code 41 = .ok (.if_icmp .ge 26, 3) := by decide +kernel
theorem dX4_keep_44 : decode prog_27_method_3_code 44 = .ok (.aload_n 0, 1) := by decide +kernel
theorem dX4_keep_45 : decode prog_27_method_3_code 45 = .ok (.getfield 24, 3) := by decide +kernel
theorem dX4_keep_48 : decode prog_27_method_3_code 48 = .ok (.bipush 8, 2) := by decide +kernel
theorem dX4_keep_50 : decode prog_27_method_3_code 50 = .ok (.iload_n 1, 1) := by decide +kernel
theorem dX4_keep_51 : decode prog_27_method_3_code 51 = .ok (.imul, 1) := by decide +kernel
theorem dX4_keep_52 : decode prog_27_method_3_code 52 = .ok (.iload_n 2, 1) := by decide +kernel
theorem dX4_keep_53 : decode prog_27_method_3_code 53 = .ok (.iadd, 1) := by decide +kernel
theorem dX4_keep_54 : decode prog_27_method_3_code 54 = .ok (.aload_n 0, 1) := by decide +kernel
theorem dX4_keep_55 : decode prog_27_method_3_code 55 = .ok (.getfield 20, 3) := by decide +kernel
theorem dX4_keep_58 : decode prog_27_method_3_code 58 = .ok (.iload_n 2, 1) := by decide +kernel
theorem dX4_keep_59 : decode prog_27_method_3_code 59 = .ok (.aaload, 1) := by decide +kernel
theorem dX4_keep_60 : decode prog_27_method_3_code 60 = .ok (.aastore, 1) := by decide +kernel
theorem dX4_keep_61 : decode prog_27_method_3_code 61 = .ok (.iinc 2 1, 3) := by decide +kernel
theorem dX4_keep_64 : decode prog_27_method_3_code 64 = .ok (.goto (-26), 3) := by decide +kernel
theorem dX4_keep_67 : decode prog_27_method_3_code 67 = .ok (.return_, 1) := by decide +kernel
theorem dX4_back_0 : decode prog_27_method_4_code 0 = .ok (.aload_n 0, 1) := by decide +kernel
theorem dX4_back_1 : decode prog_27_method_4_code 1 = .ok (.getfield 15, 3) := by decide +kernel
theorem dX4_back_4 : decode prog_27_method_4_code 4 = .ok (.bipush 8, 2) := by decide +kernel
theorem dX4_back_6 : decode prog_27_method_4_code 6 = .ok (.iload_n 1, 1) := by decide +kernel
theorem dX4_back_7 : decode prog_27_method_4_code 7 = .ok (.imul, 1) := by decide +kernel
theorem dX4_back_8 : decode prog_27_method_4_code 8 = .ok (.aload_n 0, 1) := by decide +kernel
theorem dX4_back_9 : decode prog_27_method_4_code 9 = .ok (.getfield 9, 3) := by decide +kernel
theorem dX4_back_12 : decode prog_27_method_4_code 12 = .ok (.iconst 0, 1) := by decide +kernel
theorem dX4_back_13 : decode prog_27_method_4_code 13 = .ok (.bipush 8, 2) := by decide +kernel
theorem dX4_back_15 : decode prog_27_method_4_code 15 = .ok (.invokestatic 34, 3) := by decide +kernel
theorem dX4_back_18 : decode prog_27_method_4_code 18 = .ok (.aload_n 0, 1) := by decide +kernel
theorem dX4_back_19 : decode prog_27_method_4_code 19 = .ok (.getfield 31, 3) := by decide +kernel
theorem dX4_back_22 : decode prog_27_method_4_code 22 = .ok (.bipush 8, 2) := by decide +kernel
theorem dX4_back_24 : decode prog_27_method_4_code 24 = .ok (.iload_n 1, 1) := by decide +kernel
theorem dX4_back_25 : decode prog_27_method_4_code 25 = .ok (.imul, 1) := by decide +kernel
theorem dX4_back_26 : decode prog_27_method_4_code 26 = .ok (.aload_n 0, 1) := by decide +kernel
theorem dX4_back_27 : decode prog_27_method_4_code 27 = .ok (.getfield 27, 3) := by decide +kernel
theorem dX4_back_30 : decode prog_27_method_4_code 30 = .ok (.iconst 0, 1) := by decide +kernel
theorem dX4_back_31 : decode prog_27_method_4_code 31 = .ok (.bipush 8, 2) := by decide +kernel
theorem dX4_back_33 : decode prog_27_method_4_code 33 = .ok (.invokestatic 34, 3) := by decide +kernel
theorem dX4_back_36 : decode prog_27_method_4_code 36 = .ok (.iconst 0, 1) := by decide +kernel
theorem dX4_back_37 : decode prog_27_method_4_code 37 = .ok (.istore_n 2, 1) := by decide +kernel
theorem dX4_back_38 : decode prog_27_method_4_code 38 = .ok (.iload_n 2, 1) := by decide +kernel
theorem dX4_back_39 : decode prog_27_method_4_code 39 = .ok (.bipush 8, 2) := by decide +kernel
theorem dX4_back_41 : decode prog_27_method_4_code 41 = .ok (.if_icmp .ge 26, 3) := by decide +kernel
theorem dX4_back_44 : decode prog_27_method_4_code 44 = .ok (.aload_n 0, 1) := by decide +kernel
theorem dX4_back_45 : decode prog_27_method_4_code 45 = .ok (.getfield 20, 3) := by decide +kernel
theorem dX4_back_48 : decode prog_27_method_4_code 48 = .ok (.iload_n 2, 1) := by decide +kernel
theorem dX4_back_49 : decode prog_27_method_4_code 49 = .ok (.aload_n 0, 1) := by decide +kernel
theorem dX4_back_50 : decode prog_27_method_4_code 50 = .ok (.getfield 24, 3) := by decide +kernel
theorem dX4_back_53 : decode prog_27_method_4_code 53 = .ok (.bipush 8, 2) := by decide +kernel
theorem dX4_back_55 : decode prog_27_method_4_code 55 = .ok (.iload_n 1, 1) := by decide +kernel
theorem dX4_back_56 : decode prog_27_method_4_code 56 = .ok (.imul, 1) := by decide +kernel
theorem dX4_back_57 : decode prog_27_method_4_code 57 = .ok (.iload_n 2, 1) := by decide +kernel
theorem dX4_back_58 : decode prog_27_method_4_code 58 = .ok (.iadd, 1) := by decide +kernel
theorem dX4_back_59 : decode prog_27_method_4_code 59 = .ok (.aaload, 1) := by decide +kernel
theorem dX4_back_60 : decode prog_27_method_4_code 60 = .ok (.aastore, 1) := by decide +kernel
theorem dX4_back_61 : decode prog_27_method_4_code 61 = .ok (.iinc 2 1, 3) := by decide +kernel
theorem dX4_back_64 : decode prog_27_method_4_code 64 = .ok (.goto (-26), 3) := by decide +kernel
theorem dX4_back_67 : decode prog_27_method_4_code 67 = .ok (.return_, 1) := by decide +kernel
theorem dX4_mark_0 : decode prog_27_method_5_code 0 = .ok (.aload_n 0, 1) := by decide +kernel
theorem dX4_mark_1 : decode prog_27_method_5_code 1 = .ok (.getfield 40, 3) := by decide +kernel
theorem dX4_mark_4 : decode prog_27_method_5_code 4 = .ok (.bipush 6, 2) := by decide +kernel
theorem dX4_mark_6 : decode prog_27_method_5_code 6 = .ok (.if_icmp .ne 74, 3) := by decide +kernel
theorem dX4_mark_9 : decode prog_27_method_5_code 9 = .ok (.aload_n 0, 1) := by decide +kernel
theorem dX4_mark_10 : decode prog_27_method_5_code 10 = .ok (.getfield 15, 3) := by decide +kernel
theorem dX4_mark_13 : decode prog_27_method_5_code 13 = .ok (.bipush 8, 2) := by decide +kernel
theorem dX4_mark_15 : decode prog_27_method_5_code 15 = .ok (.aload_n 0, 1) := by decide +kernel
theorem dX4_mark_16 : decode prog_27_method_5_code 16 = .ok (.getfield 15, 3) := by decide +kernel
theorem dX4_mark_19 : decode prog_27_method_5_code 19 = .ok (.iconst 0, 1) := by decide +kernel
theorem dX4_mark_20 : decode prog_27_method_5_code 20 = .ok (.bipush 40, 2) := by decide +kernel
theorem dX4_mark_22 : decode prog_27_method_5_code 22 = .ok (.invokestatic 34, 3) := by decide +kernel
theorem dX4_mark_25 : decode prog_27_method_5_code 25 = .ok (.aload_n 0, 1) := by decide +kernel
theorem dX4_mark_26 : decode prog_27_method_5_code 26 = .ok (.getfield 31, 3) := by decide +kernel
theorem dX4_mark_29 : decode prog_27_method_5_code 29 = .ok (.bipush 8, 2) := by decide +kernel
theorem dX4_mark_31 : decode prog_27_method_5_code 31 = .ok (.aload_n 0, 1) := by decide +kernel
theorem dX4_mark_32 : decode prog_27_method_5_code 32 = .ok (.getfield 31, 3) := by decide +kernel
theorem dX4_mark_35 : decode prog_27_method_5_code 35 = .ok (.iconst 0, 1) := by decide +kernel
theorem dX4_mark_36 : decode prog_27_method_5_code 36 = .ok (.bipush 40, 2) := by decide +kernel
theorem dX4_mark_38 : decode prog_27_method_5_code 38 = .ok (.invokestatic 34, 3) := by decide +kernel
theorem dX4_mark_41 : decode prog_27_method_5_code 41 = .ok (.iconst 0, 1) := by decide +kernel
theorem dX4_mark_42 : decode prog_27_method_5_code 42 = .ok (.istore_n 1, 1) := by decide +kernel
theorem dX4_mark_43 : decode prog_27_method_5_code 43 = .ok (.iload_n 1, 1) := by decide +kernel
theorem dX4_mark_44 : decode prog_27_method_5_code 44 = .ok (.bipush 40, 2) := by decide +kernel
theorem dX4_mark_46 : decode prog_27_method_5_code 46 = .ok (.if_icmp .ge 24, 3) := by decide +kernel
theorem dX4_mark_49 : decode prog_27_method_5_code 49 = .ok (.aload_n 0, 1) := by decide +kernel
theorem dX4_mark_50 : decode prog_27_method_5_code 50 = .ok (.getfield 24, 3) := by decide +kernel
theorem dX4_mark_53 : decode prog_27_method_5_code 53 = .ok (.iload_n 1, 1) := by decide +kernel
theorem dX4_mark_54 : decode prog_27_method_5_code 54 = .ok (.aload_n 0, 1) := by decide +kernel
theorem dX4_mark_55 : decode prog_27_method_5_code 55 = .ok (.getfield 24, 3) := by decide +kernel
theorem dX4_mark_58 : decode prog_27_method_5_code 58 = .ok (.iload_n 1, 1) := by decide +kernel
theorem dX4_mark_59 : decode prog_27_method_5_code 59 = .ok (.bipush 8, 2) := by decide +kernel
theorem dX4_mark_61 : decode prog_27_method_5_code 61 = .ok (.iadd, 1) := by decide +kernel
theorem dX4_mark_62 : decode prog_27_method_5_code 62 = .ok (.aaload, 1) := by decide +kernel
theorem dX4_mark_63 : decode prog_27_method_5_code 63 = .ok (.aastore, 1) := by decide +kernel
theorem dX4_mark_64 : decode prog_27_method_5_code 64 = .ok (.iinc 1 1, 3) := by decide +kernel
theorem dX4_mark_67 : decode prog_27_method_5_code 67 = .ok (.goto (-24), 3) := by decide +kernel
theorem dX4_mark_70 : decode prog_27_method_5_code 70 = .ok (.aload_n 0, 1) := by decide +kernel
theorem dX4_mark_71 : decode prog_27_method_5_code 71 = .ok (.dup, 1) := by decide +kernel
theorem dX4_mark_72 : decode prog_27_method_5_code 72 = .ok (.getfield 40, 3) := by decide +kernel
theorem dX4_mark_75 : decode prog_27_method_5_code 75 = .ok (.iconst 1, 1) := by decide +kernel
theorem dX4_mark_76 : decode prog_27_method_5_code 76 = .ok (.isub, 1) := by decide +kernel
theorem dX4_mark_77 : decode prog_27_method_5_code 77 = .ok (.putfield 40, 3) := by decide +kernel
theorem dX4_mark_80 : decode prog_27_method_5_code 80 = .ok (.aload_n 0, 1) := by decide +kernel
theorem dX4_mark_81 : decode prog_27_method_5_code 81 = .ok (.aload_n 0, 1) := by decide +kernel
theorem dX4_mark_82 : decode prog_27_method_5_code 82 = .ok (.getfield 40, 3) := by decide +kernel
theorem dX4_mark_85 : decode prog_27_method_5_code 85 = .ok (.invokevirtual 44, 3) := by decide +kernel
theorem dX4_mark_88 : decode prog_27_method_5_code 88 = .ok (.aload_n 0, 1) := by decide +kernel
theorem dX4_mark_89 : decode prog_27_method_5_code 89 = .ok (.dup, 1) := by decide +kernel
theorem dX4_mark_90 : decode prog_27_method_5_code 90 = .ok (.getfield 40, 3) := by decide +kernel
theorem dX4_mark_93 : decode prog_27_method_5_code 93 = .ok (.iconst 1, 1) := by decide +kernel
theorem dX4_mark_94 : decode prog_27_method_5_code 94 = .ok (.iadd, 1) := by decide +kernel
theorem dX4_mark_95 : decode prog_27_method_5_code 95 = .ok (.putfield 40, 3) := by decide +kernel
theorem dX4_mark_98 : decode prog_27_method_5_code 98 = .ok (.aload_n 0, 1) := by decide +kernel
theorem dX4_mark_99 : decode prog_27_method_5_code 99 = .ok (.getfield 40, 3) := by decide +kernel
theorem dX4_mark_102 : decode prog_27_method_5_code 102 = .ok (.ireturn, 1) := by decide +kernel
theorem dX6_changed_0 : decode prog_14_method_13_code 0 = .ok (.aload_n 1, 1) := by decide +kernel
theorem dX6_changed_1 : decode prog_14_method_13_code 1 = .ok (.instanceof 15, 3) := by decide +kernel
theorem dX6_changed_4 : decode prog_14_method_13_code 4 = .ok (.ifCond .eq 45, 3) := by decide +kernel
theorem dX6_changed_7 : decode prog_14_method_13_code 7 = .ok (.aload_n 1, 1) := by decide +kernel
theorem dX6_changed_8 : decode prog_14_method_13_code 8 = .ok (.checkcast 15, 3) := by decide +kernel
theorem dX6_changed_11 : decode prog_14_method_13_code 11 = .ok (.astore 6, 2) := by decide +kernel
theorem dX6_changed_13 : decode prog_14_method_13_code 13 = .ok (.aload 6, 2) := by decide +kernel
theorem dX6_changed_15 : decode prog_14_method_13_code 15 = .ok (.getfield 60, 3) := by decide +kernel
theorem dX6_changed_18 : decode prog_14_method_13_code 18 = .ok (.invokevirtual 127, 3) := by decide +kernel
theorem dX6_changed_21 : decode prog_14_method_13_code 21 = .ok (.checkcast 94, 3) := by decide +kernel
theorem dX6_changed_24 : decode prog_14_method_13_code 24 = .ok (.astore 7, 2) := by decide +kernel
theorem dX6_changed_26 : decode prog_14_method_13_code 26 = .ok (.aload 7, 2) := by decide +kernel
theorem dX6_changed_28 : decode prog_14_method_13_code 28 = .ok (.iload_n 2, 1) := by decide +kernel
theorem dX6_changed_29 : decode prog_14_method_13_code 29 = .ok (.aload_n 0, 1) := by decide +kernel
theorem dX6_changed_30 : decode prog_14_method_13_code 30 = .ok (.getfield 9, 3) := by decide +kernel
theorem dX6_changed_33 : decode prog_14_method_13_code 33 = .ok (.getfield 95, 3) := by decide +kernel
theorem dX6_changed_36 : decode prog_14_method_13_code 36 = .ok (.iload_n 3, 1) := by decide +kernel
theorem dX6_changed_37 : decode prog_14_method_13_code 37 = .ok (.iaload, 1) := by decide +kernel
theorem dX6_changed_38 : decode prog_14_method_13_code 38 = .ok (.iastore, 1) := by decide +kernel
theorem dX6_changed_39 : decode prog_14_method_13_code 39 = .ok (.new 15, 3) := by decide +kernel
theorem dX6_changed_42 : decode prog_14_method_13_code 42 = .ok (.dup, 1) := by decide +kernel
theorem dX6_changed_43 : decode prog_14_method_13_code 43 = .ok (.aload 7, 2) := by decide +kernel
theorem dX6_changed_45 : decode prog_14_method_13_code 45 = .ok (.invokespecial 31, 3) := by decide +kernel
theorem dX6_changed_48 : decode prog_14_method_13_code 48 = .ok (.areturn, 1) := by decide +kernel
theorem dX6_changed_49 : decode prog_14_method_13_code 49 = .ok (.aload_n 1, 1) := by decide +kernel
theorem dX6_changed_50 : decode prog_14_method_13_code 50 = .ok (.instanceof 47, 3) := by decide +kernel
theorem dX6_changed_53 : decode prog_14_method_13_code 53 = .ok (.ifCond .eq 116, 3) := by decide +kernel
theorem dX6_changed_56 : decode prog_14_method_13_code 56 = .ok (.aload_n 1, 1) := by decide +kernel
theorem dX6_changed_57 : decode prog_14_method_13_code 57 = .ok (.checkcast 47, 3) := by decide +kernel
theorem dX6_changed_60 : decode prog_14_method_13_code 60 = .ok (.astore 6, 2) := by decide +kernel
theorem dX6_changed_62 : decode prog_14_method_13_code 62 = .ok (.aload 6, 2) := by decide +kernel
theorem dX6_changed_64 : decode prog_14_method_13_code 64 = .ok (.getfield 123, 3) := by decide +kernel
theorem dX6_changed_67 : decode prog_14_method_13_code 67 = .ok (.arraylength, 1) := by decide +kernel
theorem dX6_changed_68 : decode prog_14_method_13_code 68 = .ok (.anewarray 94, 3) := by decide +kernel
theorem dX6_changed_71 : decode prog_14_method_13_code 71 = .ok (.astore 7, 2) := by decide +kernel
theorem dX6_changed_73 : decode prog_14_method_13_code 73 = .ok (.iconst 0, 1) := by decide +kernel
theorem dX6_changed_74 : decode prog_14_method_13_code 74 = .ok (.istore 8, 2) := by decide +kernel
theorem dX6_changed_76 : decode prog_14_method_13_code 76 = .ok (.iload 8, 2) := by decide +kernel
theorem dX6_changed_78 : decode prog_14_method_13_code 78 = .ok (.aload 7, 2) := by decide +kernel
theorem dX6_changed_80 : decode prog_14_method_13_code 80 = .ok (.arraylength, 1) := by decide +kernel
theorem dX6_changed_81 : decode prog_14_method_13_code 81 = .ok (.if_icmp .ge 22, 3) := by decide +kernel
theorem dX6_changed_84 : decode prog_14_method_13_code 84 = .ok (.aload 7, 2) := by decide +kernel
theorem dX6_changed_86 : decode prog_14_method_13_code 86 = .ok (.iload 8, 2) := by decide +kernel
theorem dX6_changed_88 : decode prog_14_method_13_code 88 = .ok (.aload 6, 2) := by decide +kernel
theorem dX6_changed_90 : decode prog_14_method_13_code 90 = .ok (.getfield 123, 3) := by decide +kernel
theorem dX6_changed_93 : decode prog_14_method_13_code 93 = .ok (.iload 8, 2) := by decide +kernel
theorem dX6_changed_95 : decode prog_14_method_13_code 95 = .ok (.aaload, 1) := by decide +kernel
theorem dX6_changed_96 : decode prog_14_method_13_code 96 = .ok (.aastore, 1) := by decide +kernel
theorem dX6_changed_97 : decode prog_14_method_13_code 97 = .ok (.iinc 8 1, 3) := by decide +kernel
theorem dX6_changed_100 : decode prog_14_method_13_code 100 = .ok (.goto (-24), 3) := by decide +kernel
theorem dX6_changed_103 : decode prog_14_method_13_code 103 = .ok (.aload 7, 2) := by decide +kernel
theorem dX6_changed_105 : decode prog_14_method_13_code 105 = .ok (.iload_n 2, 1) := by decide +kernel
theorem dX6_changed_106 : decode prog_14_method_13_code 106 = .ok (.aload 5, 2) := by decide +kernel
theorem dX6_changed_108 : decode prog_14_method_13_code 108 = .ok (.getfield 131, 3) := by decide +kernel
theorem dX6_changed_111 : decode prog_14_method_13_code 111 = .ok (.ifnonnull 21, 3) := by decide +kernel
theorem dX6_changed_114 : decode prog_14_method_13_code 114 = .ok (.aload_n 0, 1) := by decide +kernel
theorem dX6_changed_115 : decode prog_14_method_13_code 115 = .ok (.getfield 9, 3) := by decide +kernel
theorem dX6_changed_118 : decode prog_14_method_13_code 118 = .ok (.getfield 98, 3) := by decide +kernel
theorem dX6_changed_121 : decode prog_14_method_13_code 121 = .ok (.iload_n 3, 1) := by decide +kernel
theorem dX6_changed_122 : decode prog_14_method_13_code 122 = .ok (.aaload, 1) := by decide +kernel
theorem dX6_changed_123 : decode prog_14_method_13_code 123 = .ok (.checkcast 15, 3) := by decide +kernel
theorem dX6_changed_126 : decode prog_14_method_13_code 126 = .ok (.getfield 60, 3) := by decide +kernel
theorem dX6_changed_129 : decode prog_14_method_13_code 129 = .ok (.goto 27, 3) := by decide +kernel
theorem dX6_changed_132 : decode prog_14_method_13_code 132 = .ok (.aload_n 0, 1) := by decide +kernel
theorem dX6_changed_133 : decode prog_14_method_13_code 133 = .ok (.aload 7, 2) := by decide +kernel
theorem dX6_changed_135 : decode prog_14_method_13_code 135 = .ok (.iload_n 2, 1) := by decide +kernel
theorem dX6_changed_136 : decode prog_14_method_13_code 136 = .ok (.aaload, 1) := by decide +kernel
theorem dX6_changed_137 : decode prog_14_method_13_code 137 = .ok (.iload 4, 2) := by decide +kernel
theorem dX6_changed_139 : decode prog_14_method_13_code 139 = .ok (.aload_n 0, 1) := by decide +kernel
theorem dX6_changed_140 : decode prog_14_method_13_code 140 = .ok (.getfield 9, 3) := by decide +kernel
theorem dX6_changed_143 : decode prog_14_method_13_code 143 = .ok (.getfield 95, 3) := by decide +kernel
theorem dX6_changed_146 : decode prog_14_method_13_code 146 = .ok (.iload_n 3, 1) := by decide +kernel
theorem dX6_changed_147 : decode prog_14_method_13_code 147 = .ok (.iaload, 1) := by decide +kernel
theorem dX6_changed_148 : decode prog_14_method_13_code 148 = .ok (.aload 5, 2) := by decide +kernel
theorem dX6_changed_150 : decode prog_14_method_13_code 150 = .ok (.getfield 137, 3) := by decide +kernel
theorem dX6_changed_153 : decode prog_14_method_13_code 153 = .ok (.invokevirtual 140, 3) := by decide +kernel
theorem dX6_changed_156 : decode prog_14_method_13_code 156 = .ok (.aastore, 1) := by decide +kernel
theorem dX6_changed_157 : decode prog_14_method_13_code 157 = .ok (.aload_n 0, 1) := by decide +kernel
theorem dX6_changed_158 : decode prog_14_method_13_code 158 = .ok (.aload 7, 2) := by decide +kernel
theorem dX6_changed_160 : decode prog_14_method_13_code 160 = .ok (.aload 5, 2) := by decide +kernel
theorem dX6_changed_162 : decode prog_14_method_13_code 162 = .ok (.getfield 144, 3) := by decide +kernel
theorem dX6_changed_165 : decode prog_14_method_13_code 165 = .ok (.invokevirtual 102, 3) := by decide +kernel
theorem dX6_changed_168 : decode prog_14_method_13_code 168 = .ok (.areturn, 1) := by decide +kernel
theorem dX6_changed_169 : decode prog_14_method_13_code 169 = .ok (.aload_n 1, 1) := by decide +kernel
theorem dX6_changed_170 : decode prog_14_method_13_code 170 = .ok (.invokevirtual 147, 3) := by decide +kernel
theorem dX6_changed_173 : decode prog_14_method_13_code 173 = .ok (.anewarray 78, 3) := by decide +kernel
theorem dX6_changed_176 : decode prog_14_method_13_code 176 = .ok (.astore 6, 2) := by decide +kernel
theorem dX6_changed_178 : decode prog_14_method_13_code 178 = .ok (.iconst 0, 1) := by decide +kernel
theorem dX6_changed_179 : decode prog_14_method_13_code 179 = .ok (.istore 7, 2) := by decide +kernel
theorem dX6_changed_181 : decode prog_14_method_13_code 181 = .ok (.iload 7, 2) := by decide +kernel
theorem dX6_changed_183 : decode prog_14_method_13_code 183 = .ok (.aload 6, 2) := by decide +kernel
theorem dX6_changed_185 : decode prog_14_method_13_code 185 = .ok (.arraylength, 1) := by decide +kernel
theorem dX6_changed_186 : decode prog_14_method_13_code 186 = .ok (.if_icmp .ge 24, 3) := by decide +kernel
theorem dX6_changed_189 : decode prog_14_method_13_code 189 = .ok (.aload 6, 2) := by decide +kernel
theorem dX6_changed_191 : decode prog_14_method_13_code 191 = .ok (.iload 7, 2) := by decide +kernel
theorem dX6_changed_193 : decode prog_14_method_13_code 193 = .ok (.aload_n 1, 1) := by decide +kernel
theorem dX6_changed_194 : decode prog_14_method_13_code 194 = .ok (.checkcast 38, 3) := by decide +kernel
theorem dX6_changed_197 : decode prog_14_method_13_code 197 = .ok (.getfield 125, 3) := by decide +kernel
theorem dX6_changed_200 : decode prog_14_method_13_code 200 = .ok (.iload 7, 2) := by decide +kernel
theorem dX6_changed_202 : decode prog_14_method_13_code 202 = .ok (.aaload, 1) := by decide +kernel
theorem dX6_changed_203 : decode prog_14_method_13_code 203 = .ok (.aastore, 1) := by decide +kernel
theorem dX6_changed_204 : decode prog_14_method_13_code 204 = .ok (.iinc 7 1, 3) := by decide +kernel
theorem dX6_changed_207 : decode prog_14_method_13_code 207 = .ok (.goto (-26), 3) := by decide +kernel
theorem dX6_changed_210 : decode prog_14_method_13_code 210 = .ok (.aload 6, 2) := by decide +kernel
theorem dX6_changed_212 : decode prog_14_method_13_code 212 = .ok (.iload_n 2, 1) := by decide +kernel
theorem dX6_changed_213 : decode prog_14_method_13_code 213 = .ok (.aload_n 0, 1) := by decide +kernel
theorem dX6_changed_214 : decode prog_14_method_13_code 214 = .ok (.getfield 9, 3) := by decide +kernel
theorem dX6_changed_217 : decode prog_14_method_13_code 217 = .ok (.iload_n 3, 1) := by decide +kernel
theorem dX6_changed_218 : decode prog_14_method_13_code 218 = .ok (.invokevirtual 106, 3) := by decide +kernel
theorem dX6_changed_221 : decode prog_14_method_13_code 221 = .ok (.aastore, 1) := by decide +kernel
theorem dX6_changed_222 : decode prog_14_method_13_code 222 = .ok (.aload_n 0, 1) := by decide +kernel
theorem dX6_changed_223 : decode prog_14_method_13_code 223 = .ok (.aload 6, 2) := by decide +kernel
theorem dX6_changed_225 : decode prog_14_method_13_code 225 = .ok (.aload 5, 2) := by decide +kernel
theorem dX6_changed_227 : decode prog_14_method_13_code 227 = .ok (.getfield 144, 3) := by decide +kernel
theorem dX6_changed_230 : decode prog_14_method_13_code 230 = .ok (.invokevirtual 110, 3) := by decide +kernel
theorem dX6_changed_233 : decode prog_14_method_13_code 233 = .ok (.areturn, 1) := by decide +kernel
theorem dX6_part_0 : decode prog_14_method_14_code 0 = .ok (.aload_n 1, 1) := by decide +kernel
theorem dX6_part_1 : decode prog_14_method_14_code 1 = .ok (.invokevirtual 127, 3) := by decide +kernel
theorem dX6_part_4 : decode prog_14_method_14_code 4 = .ok (.checkcast 94, 3) := by decide +kernel
theorem dX6_part_7 : decode prog_14_method_14_code 7 = .ok (.astore 5, 2) := by decide +kernel
theorem dX6_part_9 : decode prog_14_method_14_code 9 = .ok (.aload 5, 2) := by decide +kernel
theorem dX6_part_11 : decode prog_14_method_14_code 11 = .ok (.iload_n 2, 1) := by decide +kernel
theorem dX6_part_12 : decode prog_14_method_14_code 12 = .ok (.iload_n 3, 1) := by decide +kernel
theorem dX6_part_13 : decode prog_14_method_14_code 13 = .ok (.iastore, 1) := by decide +kernel
theorem dX6_part_14 : decode prog_14_method_14_code 14 = .ok (.goto 16, 3) := by decide +kernel
theorem dX6_part_17 : decode prog_14_method_14_code 17 = .ok (.astore 6, 2) := by decide +kernel
theorem dX6_part_19 : decode prog_14_method_14_code 19 = .ok (.aload_n 0, 1) := by decide +kernel
theorem dX6_part_20 : decode prog_14_method_14_code 20 = .ok (.getfield 9, 3) := by decide +kernel
theorem dX6_part_23 : decode prog_14_method_14_code 23 = .ok (.iconst 5, 1) := by decide +kernel
theorem dX6_part_24 : decode prog_14_method_14_code 24 = .ok (.iload 4, 2) := by decide +kernel
theorem dX6_part_26 : decode prog_14_method_14_code 26 = .ok (.invokevirtual 72, 3) := by decide +kernel
theorem dX6_part_29 : decode prog_14_method_14_code 29 = .ok (.athrow, 1) := by decide +kernel
theorem dX6_part_30 : decode prog_14_method_14_code 30 = .ok (.aload 5, 2) := by decide +kernel
theorem dX6_part_32 : decode prog_14_method_14_code 32 = .ok (.areturn, 1) := by decide +kernel
theorem dX7_scanned_0 : decode prog_35_method_7_code 0 = .ok (.aload_n 0, 1) := by decide +kernel
theorem dX7_scanned_1 : decode prog_35_method_7_code 1 = .ok (.invokevirtual 159, 3) := by decide +kernel
theorem dX7_scanned_4 : decode prog_35_method_7_code 4 = .ok (.checkcast 160, 3) := by decide +kernel
theorem dX7_scanned_7 : decode prog_35_method_7_code 7 = .ok (.astore_n 1, 1) := by decide +kernel
theorem dX7_scanned_8 : decode prog_35_method_7_code 8 = .ok (.iconst 1, 1) := by decide +kernel
theorem dX7_scanned_9 : decode prog_35_method_7_code 9 = .ok (.istore_n 2, 1) := by decide +kernel
theorem dX7_scanned_10 : decode prog_35_method_7_code 10 = .ok (.iload_n 2, 1) := by decide +kernel
theorem dX7_scanned_11 : decode prog_35_method_7_code 11 = .ok (.aload_n 1, 1) := by decide +kernel
theorem dX7_scanned_12 : decode prog_35_method_7_code 12 = .ok (.arraylength, 1) := by decide +kernel
theorem dX7_scanned_13 : decode prog_35_method_7_code 13 = .ok (.if_icmp .ge 20, 3) := by decide +kernel
theorem dX7_scanned_16 : decode prog_35_method_7_code 16 = .ok (.aload_n 1, 1) := by decide +kernel
theorem dX7_scanned_17 : decode prog_35_method_7_code 17 = .ok (.iload_n 2, 1) := by decide +kernel
theorem dX7_scanned_18 : decode prog_35_method_7_code 18 = .ok (.dup2, 1) := by decide +kernel
theorem dX7_scanned_19 : decode prog_35_method_7_code 19 = .ok (.iaload, 1) := by decide +kernel
theorem dX7_scanned_20 : decode prog_35_method_7_code 20 = .ok (.aload_n 1, 1) := by decide +kernel
theorem dX7_scanned_21 : decode prog_35_method_7_code 21 = .ok (.iload_n 2, 1) := by decide +kernel
theorem dX7_scanned_22 : decode prog_35_method_7_code 22 = .ok (.iconst 1, 1) := by decide +kernel
theorem dX7_scanned_23 : decode prog_35_method_7_code 23 = .ok (.isub, 1) := by decide +kernel
theorem dX7_scanned_24 : decode prog_35_method_7_code 24 = .ok (.iaload, 1) := by decide +kernel
theorem dX7_scanned_25 : decode prog_35_method_7_code 25 = .ok (.iadd, 1) := by decide +kernel
theorem dX7_scanned_26 : decode prog_35_method_7_code 26 = .ok (.iastore, 1) := by decide +kernel
theorem dX7_scanned_27 : decode prog_35_method_7_code 27 = .ok (.iinc 2 1, 3) := by decide +kernel
theorem dX7_scanned_30 : decode prog_35_method_7_code 30 = .ok (.goto (-20), 3) := by decide +kernel
theorem dX7_scanned_33 : decode prog_35_method_7_code 33 = .ok (.aload_n 1, 1) := by decide +kernel
theorem dX7_scanned_34 : decode prog_35_method_7_code 34 = .ok (.areturn, 1) := by decide +kernel
theorem dX7_sorted_0 : decode prog_35_method_8_code 0 = .ok (.aload_n 0, 1) := by decide +kernel
theorem dX7_sorted_1 : decode prog_35_method_8_code 1 = .ok (.invokevirtual 159, 3) := by decide +kernel
theorem dX7_sorted_4 : decode prog_35_method_8_code 4 = .ok (.checkcast 160, 3) := by decide +kernel
theorem dX7_sorted_7 : decode prog_35_method_8_code 7 = .ok (.astore_n 1, 1) := by decide +kernel
theorem dX7_sorted_8 : decode prog_35_method_8_code 8 = .ok (.iconst 1, 1) := by decide +kernel
theorem dX7_sorted_9 : decode prog_35_method_8_code 9 = .ok (.istore_n 2, 1) := by decide +kernel
theorem dX7_sorted_10 : decode prog_35_method_8_code 10 = .ok (.iload_n 2, 1) := by decide +kernel
theorem dX7_sorted_11 : decode prog_35_method_8_code 11 = .ok (.aload_n 1, 1) := by decide +kernel
theorem dX7_sorted_12 : decode prog_35_method_8_code 12 = .ok (.arraylength, 1) := by decide +kernel
theorem dX7_sorted_13 : decode prog_35_method_8_code 13 = .ok (.if_icmp .ge 52, 3) := by decide +kernel
theorem dX7_sorted_16 : decode prog_35_method_8_code 16 = .ok (.aload_n 1, 1) := by decide +kernel
theorem dX7_sorted_17 : decode prog_35_method_8_code 17 = .ok (.iload_n 2, 1) := by decide +kernel
theorem dX7_sorted_18 : decode prog_35_method_8_code 18 = .ok (.iaload, 1) := by decide +kernel
theorem dX7_sorted_19 : decode prog_35_method_8_code 19 = .ok (.istore_n 3, 1) := by decide +kernel
theorem dX7_sorted_20 : decode prog_35_method_8_code 20 = .ok (.iload_n 2, 1) := by decide +kernel
theorem dX7_sorted_21 : decode prog_35_method_8_code 21 = .ok (.istore 4, 2) := by decide +kernel
theorem dX7_sorted_23 : decode prog_35_method_8_code 23 = .ok (.iload 4, 2) := by decide +kernel
theorem dX7_sorted_25 : decode prog_35_method_8_code 25 = .ok (.ifCond .le 29, 3) := by decide +kernel
theorem dX7_sorted_28 : decode prog_35_method_8_code 28 = .ok (.aload_n 1, 1) := by decide +kernel
theorem dX7_sorted_29 : decode prog_35_method_8_code 29 = .ok (.iload 4, 2) := by decide +kernel
theorem dX7_sorted_31 : decode prog_35_method_8_code 31 = .ok (.iconst 1, 1) := by decide +kernel
theorem dX7_sorted_32 : decode prog_35_method_8_code 32 = .ok (.isub, 1) := by decide +kernel
theorem dX7_sorted_33 : decode prog_35_method_8_code 33 = .ok (.iaload, 1) := by decide +kernel
theorem dX7_sorted_34 : decode prog_35_method_8_code 34 = .ok (.iload_n 3, 1) := by decide +kernel
theorem dX7_sorted_35 : decode prog_35_method_8_code 35 = .ok (.if_icmp .le 19, 3) := by decide +kernel
theorem dX7_sorted_38 : decode prog_35_method_8_code 38 = .ok (.aload_n 1, 1) := by decide +kernel
theorem dX7_sorted_39 : decode prog_35_method_8_code 39 = .ok (.iload 4, 2) := by decide +kernel
theorem dX7_sorted_41 : decode prog_35_method_8_code 41 = .ok (.aload_n 1, 1) := by decide +kernel
theorem dX7_sorted_42 : decode prog_35_method_8_code 42 = .ok (.iload 4, 2) := by decide +kernel
theorem dX7_sorted_44 : decode prog_35_method_8_code 44 = .ok (.iconst 1, 1) := by decide +kernel
theorem dX7_sorted_45 : decode prog_35_method_8_code 45 = .ok (.isub, 1) := by decide +kernel
theorem dX7_sorted_46 : decode prog_35_method_8_code 46 = .ok (.iaload, 1) := by decide +kernel
theorem dX7_sorted_47 : decode prog_35_method_8_code 47 = .ok (.iastore, 1) := by decide +kernel
theorem dX7_sorted_48 : decode prog_35_method_8_code 48 = .ok (.iinc 4 (-1), 3) := by decide +kernel
theorem dX7_sorted_51 : decode prog_35_method_8_code 51 = .ok (.goto (-28), 3) := by decide +kernel
theorem dX7_sorted_54 : decode prog_35_method_8_code 54 = .ok (.aload_n 1, 1) := by decide +kernel
theorem dX7_sorted_55 : decode prog_35_method_8_code 55 = .ok (.iload 4, 2) := by decide +kernel
theorem dX7_sorted_57 : decode prog_35_method_8_code 57 = .ok (.iload_n 3, 1) := by decide +kernel
theorem dX7_sorted_58 : decode prog_35_method_8_code 58 = .ok (.iastore, 1) := by decide +kernel
theorem dX7_sorted_59 : decode prog_35_method_8_code 59 = .ok (.iinc 2 1, 3) := by decide +kernel
theorem dX7_sorted_62 : decode prog_35_method_8_code 62 = .ok (.goto (-52), 3) := by decide +kernel
theorem dX7_sorted_65 : decode prog_35_method_8_code 65 = .ok (.aload_n 1, 1) := by decide +kernel
theorem dX7_sorted_66 : decode prog_35_method_8_code 66 = .ok (.areturn, 1) := by decide +kernel
theorem dX7_flat_0 : decode prog_35_method_12_code 0 = .ok (.aload_n 1, 1) := by decide +kernel
theorem dX7_flat_1 : decode prog_35_method_12_code 1 = .ok (.instanceof 85, 3) := by decide +kernel
theorem dX7_flat_4 : decode prog_35_method_12_code 4 = .ok (.ifCond .eq 86, 3) := by decide +kernel
theorem dX7_flat_7 : decode prog_35_method_12_code 7 = .ok (.aload_n 1, 1) := by decide +kernel
theorem dX7_flat_8 : decode prog_35_method_12_code 8 = .ok (.checkcast 85, 3) := by decide +kernel
theorem dX7_flat_11 : decode prog_35_method_12_code 11 = .ok (.astore_n 3, 1) := by decide +kernel
theorem dX7_flat_12 : decode prog_35_method_12_code 12 = .ok (.aload_n 0, 1) := by decide +kernel
theorem dX7_flat_13 : decode prog_35_method_12_code 13 = .ok (.getfield 9, 3) := by decide +kernel
theorem dX7_flat_16 : decode prog_35_method_12_code 16 = .ok (.getfield 177, 3) := by decide +kernel
theorem dX7_flat_19 : decode prog_35_method_12_code 19 = .ok (.aload_n 3, 1) := by decide +kernel
theorem dX7_flat_20 : decode prog_35_method_12_code 20 = .ok (.invokevirtual 181, 3) := by decide +kernel
theorem dX7_flat_23 : decode prog_35_method_12_code 23 = .ok (.iload_n 2, 1) := by decide +kernel
theorem dX7_flat_24 : decode prog_35_method_12_code 24 = .ok (.invokevirtual 184, 3) := by decide +kernel
theorem dX7_flat_27 : decode prog_35_method_12_code 27 = .ok (.astore 4, 2) := by decide +kernel
theorem dX7_flat_29 : decode prog_35_method_12_code 29 = .ok (.iconst 0, 1) := by decide +kernel
theorem dX7_flat_30 : decode prog_35_method_12_code 30 = .ok (.istore 5, 2) := by decide +kernel
theorem dX7_flat_32 : decode prog_35_method_12_code 32 = .ok (.iconst 0, 1) := by decide +kernel
theorem dX7_flat_33 : decode prog_35_method_12_code 33 = .ok (.istore 6, 2) := by decide +kernel
theorem dX7_flat_35 : decode prog_35_method_12_code 35 = .ok (.iload 6, 2) := by decide +kernel
theorem dX7_flat_37 : decode prog_35_method_12_code 37 = .ok (.aload_n 3, 1) := by decide +kernel
theorem dX7_flat_38 : decode prog_35_method_12_code 38 = .ok (.getfield 128, 3) := by decide +kernel
theorem dX7_flat_41 : decode prog_35_method_12_code 41 = .ok (.arraylength, 1) := by decide +kernel
theorem dX7_flat_42 : decode prog_35_method_12_code 42 = .ok (.if_icmp .ge 45, 3) := by decide +kernel
theorem dX7_flat_45 : decode prog_35_method_12_code 45 = .ok (.aload_n 3, 1) := by decide +kernel
theorem dX7_flat_46 : decode prog_35_method_12_code 46 = .ok (.getfield 128, 3) := by decide +kernel
theorem dX7_flat_49 : decode prog_35_method_12_code 49 = .ok (.iload 6, 2) := by decide +kernel
theorem dX7_flat_51 : decode prog_35_method_12_code 51 = .ok (.aaload, 1) := by decide +kernel
theorem dX7_flat_52 : decode prog_35_method_12_code 52 = .ok (.iconst 0, 1) := by decide +kernel
theorem dX7_flat_53 : decode prog_35_method_12_code 53 = .ok (.aload 4, 2) := by decide +kernel
theorem dX7_flat_55 : decode prog_35_method_12_code 55 = .ok (.iload 5, 2) := by decide +kernel
theorem dX7_flat_57 : decode prog_35_method_12_code 57 = .ok (.aload_n 3, 1) := by decide +kernel
theorem dX7_flat_58 : decode prog_35_method_12_code 58 = .ok (.getfield 128, 3) := by decide +kernel
theorem dX7_flat_61 : decode prog_35_method_12_code 61 = .ok (.iload 6, 2) := by decide +kernel
theorem dX7_flat_63 : decode prog_35_method_12_code 63 = .ok (.aaload, 1) := by decide +kernel
theorem dX7_flat_64 : decode prog_35_method_12_code 64 = .ok (.arraylength, 1) := by decide +kernel
theorem dX7_flat_65 : decode prog_35_method_12_code 65 = .ok (.invokestatic 189, 3) := by decide +kernel
theorem dX7_flat_68 : decode prog_35_method_12_code 68 = .ok (.iload 5, 2) := by decide +kernel
theorem dX7_flat_70 : decode prog_35_method_12_code 70 = .ok (.aload_n 3, 1) := by decide +kernel
theorem dX7_flat_71 : decode prog_35_method_12_code 71 = .ok (.getfield 128, 3) := by decide +kernel
theorem dX7_flat_74 : decode prog_35_method_12_code 74 = .ok (.iload 6, 2) := by decide +kernel
theorem dX7_flat_76 : decode prog_35_method_12_code 76 = .ok (.aaload, 1) := by decide +kernel
theorem dX7_flat_77 : decode prog_35_method_12_code 77 = .ok (.arraylength, 1) := by decide +kernel
theorem dX7_flat_78 : decode prog_35_method_12_code 78 = .ok (.iadd, 1) := by decide +kernel
theorem dX7_flat_79 : decode prog_35_method_12_code 79 = .ok (.istore 5, 2) := by decide +kernel
theorem dX7_flat_81 : decode prog_35_method_12_code 81 = .ok (.iinc 6 1, 3) := by decide +kernel
theorem dX7_flat_84 : decode prog_35_method_12_code 84 = .ok (.goto (-49), 3) := by decide +kernel
theorem dX7_flat_87 : decode prog_35_method_12_code 87 = .ok (.aload 4, 2) := by decide +kernel
theorem dX7_flat_89 : decode prog_35_method_12_code 89 = .ok (.areturn, 1) := by decide +kernel
theorem dX7_flat_90 : decode prog_35_method_12_code 90 = .ok (.aload_n 1, 1) := by decide +kernel
theorem dX7_flat_91 : decode prog_35_method_12_code 91 = .ok (.instanceof 170, 3) := by decide +kernel
theorem dX7_flat_94 : decode prog_35_method_12_code 94 = .ok (.ifCond .eq 11, 3) := by decide +kernel
theorem dX7_flat_97 : decode prog_35_method_12_code 97 = .ok (.aload_n 1, 1) := by decide +kernel
theorem dX7_flat_98 : decode prog_35_method_12_code 98 = .ok (.checkcast 170, 3) := by decide +kernel
theorem dX7_flat_101 : decode prog_35_method_12_code 101 = .ok (.astore_n 3, 1) := by decide +kernel
theorem dX7_flat_102 : decode prog_35_method_12_code 102 = .ok (.goto 13, 3) := by decide +kernel
theorem dX7_flat_105 : decode prog_35_method_12_code 105 = .ok (.aload_n 0, 1) := by decide +kernel
theorem dX7_flat_106 : decode prog_35_method_12_code 106 = .ok (.getfield 9, 3) := by decide +kernel
theorem dX7_flat_109 : decode prog_35_method_12_code 109 = .ok (.iconst 3, 1) := by decide +kernel
theorem dX7_flat_110 : decode prog_35_method_12_code 110 = .ok (.iload_n 2, 1) := by decide +kernel
theorem dX7_flat_111 : decode prog_35_method_12_code 111 = .ok (.invokevirtual 25, 3) := by decide +kernel
theorem dX7_flat_114 : decode prog_35_method_12_code 114 = .ok (.athrow, 1) := by decide +kernel
theorem dX7_flat_115 : decode prog_35_method_12_code 115 = .ok (.iconst 0, 1) := by decide +kernel
theorem dX7_flat_116 : decode prog_35_method_12_code 116 = .ok (.istore 4, 2) := by decide +kernel
theorem dX7_flat_118 : decode prog_35_method_12_code 118 = .ok (.iconst 0, 1) := by decide +kernel
theorem dX7_flat_119 : decode prog_35_method_12_code 119 = .ok (.istore 5, 2) := by decide +kernel
theorem dX7_flat_121 : decode prog_35_method_12_code 121 = .ok (.iload 5, 2) := by decide +kernel
theorem dX7_flat_123 : decode prog_35_method_12_code 123 = .ok (.aload_n 3, 1) := by decide +kernel
theorem dX7_flat_124 : decode prog_35_method_12_code 124 = .ok (.getfield 172, 3) := by decide +kernel
theorem dX7_flat_127 : decode prog_35_method_12_code 127 = .ok (.arraylength, 1) := by decide +kernel
theorem dX7_flat_128 : decode prog_35_method_12_code 128 = .ok (.if_icmp .ge 60, 3) := by decide +kernel
theorem dX7_flat_131 : decode prog_35_method_12_code 131 = .ok (.aload_n 3, 1) := by decide +kernel
theorem dX7_flat_132 : decode prog_35_method_12_code 132 = .ok (.getfield 172, 3) := by decide +kernel
theorem dX7_flat_135 : decode prog_35_method_12_code 135 = .ok (.iload 5, 2) := by decide +kernel
theorem dX7_flat_137 : decode prog_35_method_12_code 137 = .ok (.aaload, 1) := by decide +kernel
theorem dX7_flat_138 : decode prog_35_method_12_code 138 = .ok (.instanceof 60, 3) := by decide +kernel
theorem dX7_flat_141 : decode prog_35_method_12_code 141 = .ok (.ifCond .ne 26, 3) := by decide +kernel
theorem dX7_flat_144 : decode prog_35_method_12_code 144 = .ok (.aload_n 3, 1) := by decide +kernel
theorem dX7_flat_145 : decode prog_35_method_12_code 145 = .ok (.getfield 172, 3) := by decide +kernel
theorem dX7_flat_148 : decode prog_35_method_12_code 148 = .ok (.iload 5, 2) := by decide +kernel
theorem dX7_flat_150 : decode prog_35_method_12_code 150 = .ok (.aaload, 1) := by decide +kernel
theorem dX7_flat_151 : decode prog_35_method_12_code 151 = .ok (.instanceof 195, 3) := by decide +kernel
theorem dX7_flat_154 : decode prog_35_method_12_code 154 = .ok (.ifCond .ne 13, 3) := by decide +kernel
theorem dX7_flat_157 : decode prog_35_method_12_code 157 = .ok (.aload_n 0, 1) := by decide +kernel
theorem dX7_flat_158 : decode prog_35_method_12_code 158 = .ok (.getfield 9, 3) := by decide +kernel
theorem dX7_flat_161 : decode prog_35_method_12_code 161 = .ok (.iconst 3, 1) := by decide +kernel
theorem dX7_flat_162 : decode prog_35_method_12_code 162 = .ok (.iload_n 2, 1) := by decide +kernel
theorem dX7_flat_163 : decode prog_35_method_12_code 163 = .ok (.invokevirtual 25, 3) := by decide +kernel
theorem dX7_flat_166 : decode prog_35_method_12_code 166 = .ok (.athrow, 1) := by decide +kernel
theorem dX7_flat_167 : decode prog_35_method_12_code 167 = .ok (.iload 4, 2) := by decide +kernel
theorem dX7_flat_169 : decode prog_35_method_12_code 169 = .ok (.aload_n 3, 1) := by decide +kernel
theorem dX7_flat_170 : decode prog_35_method_12_code 170 = .ok (.getfield 172, 3) := by decide +kernel
theorem dX7_flat_173 : decode prog_35_method_12_code 173 = .ok (.iload 5, 2) := by decide +kernel
theorem dX7_flat_175 : decode prog_35_method_12_code 175 = .ok (.aaload, 1) := by decide +kernel
theorem dX7_flat_176 : decode prog_35_method_12_code 176 = .ok (.invokestatic 197, 3) := by decide +kernel
theorem dX7_flat_179 : decode prog_35_method_12_code 179 = .ok (.iadd, 1) := by decide +kernel
theorem dX7_flat_180 : decode prog_35_method_12_code 180 = .ok (.istore 4, 2) := by decide +kernel
theorem dX7_flat_182 : decode prog_35_method_12_code 182 = .ok (.iinc 5 1, 3) := by decide +kernel
theorem dX7_flat_185 : decode prog_35_method_12_code 185 = .ok (.goto (-64), 3) := by decide +kernel
theorem dX7_flat_188 : decode prog_35_method_12_code 188 = .ok (.aload_n 0, 1) := by decide +kernel
theorem dX7_flat_189 : decode prog_35_method_12_code 189 = .ok (.getfield 9, 3) := by decide +kernel
theorem dX7_flat_192 : decode prog_35_method_12_code 192 = .ok (.getfield 177, 3) := by decide +kernel
theorem dX7_flat_195 : decode prog_35_method_12_code 195 = .ok (.iload 4, 2) := by decide +kernel
theorem dX7_flat_197 : decode prog_35_method_12_code 197 = .ok (.iload_n 2, 1) := by decide +kernel
theorem dX7_flat_198 : decode prog_35_method_12_code 198 = .ok (.invokevirtual 184, 3) := by decide +kernel
theorem dX7_flat_201 : decode prog_35_method_12_code 201 = .ok (.astore 5, 2) := by decide +kernel
theorem dX7_flat_203 : decode prog_35_method_12_code 203 = .ok (.iconst 0, 1) := by decide +kernel
theorem dX7_flat_204 : decode prog_35_method_12_code 204 = .ok (.istore 6, 2) := by decide +kernel
theorem dX7_flat_206 : decode prog_35_method_12_code 206 = .ok (.iconst 0, 1) := by decide +kernel
theorem dX7_flat_207 : decode prog_35_method_12_code 207 = .ok (.istore 7, 2) := by decide +kernel
theorem dX7_flat_209 : decode prog_35_method_12_code 209 = .ok (.iload 7, 2) := by decide +kernel
theorem dX7_flat_211 : decode prog_35_method_12_code 211 = .ok (.aload_n 3, 1) := by decide +kernel
theorem dX7_flat_212 : decode prog_35_method_12_code 212 = .ok (.getfield 172, 3) := by decide +kernel
theorem dX7_flat_215 : decode prog_35_method_12_code 215 = .ok (.arraylength, 1) := by decide +kernel
theorem dX7_flat_216 : decode prog_35_method_12_code 216 = .ok (.if_icmp .ge 75, 3) := by decide +kernel
theorem dX7_flat_219 : decode prog_35_method_12_code 219 = .ok (.aload_n 3, 1) := by decide +kernel
theorem dX7_flat_220 : decode prog_35_method_12_code 220 = .ok (.getfield 172, 3) := by decide +kernel
theorem dX7_flat_223 : decode prog_35_method_12_code 223 = .ok (.iload 7, 2) := by decide +kernel
theorem dX7_flat_225 : decode prog_35_method_12_code 225 = .ok (.aaload, 1) := by decide +kernel
theorem dX7_flat_226 : decode prog_35_method_12_code 226 = .ok (.astore 10, 2) := by decide +kernel
theorem dX7_flat_228 : decode prog_35_method_12_code 228 = .ok (.aload 10, 2) := by decide +kernel
theorem dX7_flat_230 : decode prog_35_method_12_code 230 = .ok (.instanceof 195, 3) := by decide +kernel
theorem dX7_flat_233 : decode prog_35_method_12_code 233 = .ok (.ifCond .eq 18, 3) := by decide +kernel
theorem dX7_flat_236 : decode prog_35_method_12_code 236 = .ok (.aload 10, 2) := by decide +kernel
theorem dX7_flat_238 : decode prog_35_method_12_code 238 = .ok (.checkcast 195, 3) := by decide +kernel
theorem dX7_flat_241 : decode prog_35_method_12_code 241 = .ok (.astore 9, 2) := by decide +kernel
theorem dX7_flat_243 : decode prog_35_method_12_code 243 = .ok (.aload 9, 2) := by decide +kernel
theorem dX7_flat_245 : decode prog_35_method_12_code 245 = .ok (.getfield 201, 3) := by decide +kernel
theorem dX7_flat_248 : decode prog_35_method_12_code 248 = .ok (.goto 4, 3) := by decide +kernel
theorem dX7_flat_251 : decode prog_35_method_12_code 251 = .ok (.iconst 0, 1) := by decide +kernel
theorem dX7_flat_252 : decode prog_35_method_12_code 252 = .ok (.istore 8, 2) := by decide +kernel
theorem dX7_flat_254 : decode prog_35_method_12_code 254 = .ok (.aload_n 3, 1) := by decide +kernel
theorem dX7_flat_255 : decode prog_35_method_12_code 255 = .ok (.getfield 172, 3) := by decide +kernel
theorem dX7_flat_258 : decode prog_35_method_12_code 258 = .ok (.iload 7, 2) := by decide +kernel
theorem dX7_flat_260 : decode prog_35_method_12_code 260 = .ok (.aaload, 1) := by decide +kernel
theorem dX7_flat_261 : decode prog_35_method_12_code 261 = .ok (.iload 8, 2) := by decide +kernel
theorem dX7_flat_263 : decode prog_35_method_12_code 263 = .ok (.aload 5, 2) := by decide +kernel
theorem dX7_flat_265 : decode prog_35_method_12_code 265 = .ok (.iload 6, 2) := by decide +kernel
theorem dX7_flat_267 : decode prog_35_method_12_code 267 = .ok (.invokestatic 204, 3) := by decide +kernel
theorem dX7_flat_270 : decode prog_35_method_12_code 270 = .ok (.iload 6, 2) := by decide +kernel
theorem dX7_flat_272 : decode prog_35_method_12_code 272 = .ok (.aload_n 3, 1) := by decide +kernel
theorem dX7_flat_273 : decode prog_35_method_12_code 273 = .ok (.getfield 172, 3) := by decide +kernel
theorem dX7_flat_276 : decode prog_35_method_12_code 276 = .ok (.iload 7, 2) := by decide +kernel
theorem dX7_flat_278 : decode prog_35_method_12_code 278 = .ok (.aaload, 1) := by decide +kernel
theorem dX7_flat_279 : decode prog_35_method_12_code 279 = .ok (.invokestatic 197, 3) := by decide +kernel
theorem dX7_flat_282 : decode prog_35_method_12_code 282 = .ok (.iadd, 1) := by decide +kernel
theorem dX7_flat_283 : decode prog_35_method_12_code 283 = .ok (.istore 6, 2) := by decide +kernel
theorem dX7_flat_285 : decode prog_35_method_12_code 285 = .ok (.iinc 7 1, 3) := by decide +kernel
theorem dX7_flat_288 : decode prog_35_method_12_code 288 = .ok (.goto (-79), 3) := by decide +kernel
theorem dX7_flat_291 : decode prog_35_method_12_code 291 = .ok (.aload 5, 2) := by decide +kernel
theorem dX7_flat_293 : decode prog_35_method_12_code 293 = .ok (.areturn, 1) := by decide +kernel
theorem dX7_copyInts_0 : decode prog_35_method_14_code 0 = .ok (.aload_n 0, 1) := by decide +kernel
theorem dX7_copyInts_1 : decode prog_35_method_14_code 1 = .ok (.instanceof 60, 3) := by decide +kernel
theorem dX7_copyInts_4 : decode prog_35_method_14_code 4 = .ok (.ifCond .eq 29, 3) := by decide +kernel
theorem dX7_copyInts_7 : decode prog_35_method_14_code 7 = .ok (.aload_n 0, 1) := by decide +kernel
theorem dX7_copyInts_8 : decode prog_35_method_14_code 8 = .ok (.checkcast 60, 3) := by decide +kernel
theorem dX7_copyInts_11 : decode prog_35_method_14_code 11 = .ok (.astore 4, 2) := by decide +kernel
theorem dX7_copyInts_13 : decode prog_35_method_14_code 13 = .ok (.aload 4, 2) := by decide +kernel
theorem dX7_copyInts_15 : decode prog_35_method_14_code 15 = .ok (.getfield 66, 3) := by decide +kernel
theorem dX7_copyInts_18 : decode prog_35_method_14_code 18 = .ok (.iconst 0, 1) := by decide +kernel
theorem dX7_copyInts_19 : decode prog_35_method_14_code 19 = .ok (.aload_n 2, 1) := by decide +kernel
theorem dX7_copyInts_20 : decode prog_35_method_14_code 20 = .ok (.iload_n 3, 1) := by decide +kernel
theorem dX7_copyInts_21 : decode prog_35_method_14_code 21 = .ok (.aload 4, 2) := by decide +kernel
theorem dX7_copyInts_23 : decode prog_35_method_14_code 23 = .ok (.getfield 66, 3) := by decide +kernel
theorem dX7_copyInts_26 : decode prog_35_method_14_code 26 = .ok (.arraylength, 1) := by decide +kernel
theorem dX7_copyInts_27 : decode prog_35_method_14_code 27 = .ok (.invokestatic 189, 3) := by decide +kernel
theorem dX7_copyInts_30 : decode prog_35_method_14_code 30 = .ok (.goto 7, 3) := by decide +kernel
theorem dX7_copyInts_33 : decode prog_35_method_14_code 33 = .ok (.aload_n 2, 1) := by decide +kernel
theorem dX7_copyInts_34 : decode prog_35_method_14_code 34 = .ok (.iload_n 3, 1) := by decide +kernel
theorem dX7_copyInts_35 : decode prog_35_method_14_code 35 = .ok (.iload_n 1, 1) := by decide +kernel
theorem dX7_copyInts_36 : decode prog_35_method_14_code 36 = .ok (.iastore, 1) := by decide +kernel
theorem dX7_copyInts_37 : decode prog_35_method_14_code 37 = .ok (.return_, 1) := by decide +kernel
theorem dX7_cut_0 : decode prog_35_method_22_code 0 = .ok (.aload_n 2, 1) := by decide +kernel
theorem dX7_cut_1 : decode prog_35_method_22_code 1 = .ok (.arraylength, 1) := by decide +kernel
theorem dX7_cut_2 : decode prog_35_method_22_code 2 = .ok (.bipush 20, 2) := by decide +kernel
theorem dX7_cut_4 : decode prog_35_method_22_code 4 = .ok (.if_icmp .le 13, 3) := by decide +kernel
theorem dX7_cut_7 : decode prog_35_method_22_code 7 = .ok (.aload_n 0, 1) := by decide +kernel
theorem dX7_cut_8 : decode prog_35_method_22_code 8 = .ok (.getfield 9, 3) := by decide +kernel
theorem dX7_cut_11 : decode prog_35_method_22_code 11 = .ok (.iconst 2, 1) := by decide +kernel
theorem dX7_cut_12 : decode prog_35_method_22_code 12 = .ok (.iload_n 3, 1) := by decide +kernel
theorem dX7_cut_13 : decode prog_35_method_22_code 13 = .ok (.invokevirtual 25, 3) := by decide +kernel
theorem dX7_cut_16 : decode prog_35_method_22_code 16 = .ok (.athrow, 1) := by decide +kernel
theorem dX7_cut_17 : decode prog_35_method_22_code 17 = .ok (.lconst 0, 1) := by decide +kernel
theorem dX7_cut_18 : decode prog_35_method_22_code 18 = .ok (.lstore 4, 2) := by decide +kernel
theorem dX7_cut_20 : decode prog_35_method_22_code 20 = .ok (.iconst 0, 1) := by decide +kernel
theorem dX7_cut_21 : decode prog_35_method_22_code 21 = .ok (.istore 6, 2) := by decide +kernel
theorem dX7_cut_23 : decode prog_35_method_22_code 23 = .ok (.iconst 0, 1) := by decide +kernel
theorem dX7_cut_24 : decode prog_35_method_22_code 24 = .ok (.istore 7, 2) := by decide +kernel
theorem dX7_cut_26 : decode prog_35_method_22_code 26 = .ok (.iload 7, 2) := by decide +kernel
theorem dX7_cut_28 : decode prog_35_method_22_code 28 = .ok (.aload_n 2, 1) := by decide +kernel
theorem dX7_cut_29 : decode prog_35_method_22_code 29 = .ok (.arraylength, 1) := by decide +kernel
theorem dX7_cut_30 : decode prog_35_method_22_code 30 = .ok (.if_icmp .ge 30, 3) := by decide +kernel
theorem dX7_cut_33 : decode prog_35_method_22_code 33 = .ok (.lload 4, 2) := by decide +kernel
theorem dX7_cut_35 : decode prog_35_method_22_code 35 = .ok (.aload_n 2, 1) := by decide +kernel
theorem dX7_cut_36 : decode prog_35_method_22_code 36 = .ok (.iload 7, 2) := by decide +kernel
theorem dX7_cut_38 : decode prog_35_method_22_code 38 = .ok (.iaload, 1) := by decide +kernel
theorem dX7_cut_39 : decode prog_35_method_22_code 39 = .ok (.i2l, 1) := by decide +kernel
theorem dX7_cut_40 : decode prog_35_method_22_code 40 = .ok (.ladd, 1) := by decide +kernel
theorem dX7_cut_41 : decode prog_35_method_22_code 41 = .ok (.lstore 4, 2) := by decide +kernel
theorem dX7_cut_43 : decode prog_35_method_22_code 43 = .ok (.iload 6, 2) := by decide +kernel
theorem dX7_cut_45 : decode prog_35_method_22_code 45 = .ok (.aload_n 2, 1) := by decide +kernel
theorem dX7_cut_46 : decode prog_35_method_22_code 46 = .ok (.iload 7, 2) := by decide +kernel
theorem dX7_cut_48 : decode prog_35_method_22_code 48 = .ok (.iaload, 1) := by decide +kernel
theorem dX7_cut_49 : decode prog_35_method_22_code 49 = .ok (.invokestatic 152, 3) := by decide +kernel
theorem dX7_cut_52 : decode prog_35_method_22_code 52 = .ok (.istore 6, 2) := by decide +kernel
theorem dX7_cut_54 : decode prog_35_method_22_code 54 = .ok (.iinc 7 1, 3) := by decide +kernel
theorem dX7_cut_57 : decode prog_35_method_22_code 57 = .ok (.goto (-31), 3) := by decide +kernel
theorem dX7_cut_60 : decode prog_35_method_22_code 60 = .ok (.iload 6, 2) := by decide +kernel
theorem dX7_cut_62 : decode prog_35_method_22_code 62 = .ok (.ifCond .ge 20, 3) := by decide +kernel
theorem dX7_cut_65 : decode prog_35_method_22_code 65 = .ok (.aload_n 0, 1) := by decide +kernel
theorem dX7_cut_66 : decode prog_35_method_22_code 66 = .ok (.getfield 9, 3) := by decide +kernel
theorem dX7_cut_69 : decode prog_35_method_22_code 69 = .ok (.getfield 177, 3) := by decide +kernel
theorem dX7_cut_72 : decode prog_35_method_22_code 72 = .ok (.iload 6, 2) := by decide +kernel
theorem dX7_cut_74 : decode prog_35_method_22_code 74 = .ok (.iload_n 3, 1) := by decide +kernel
theorem dX7_cut_75 : decode prog_35_method_22_code 75 = .ok (.invokevirtual 184, 3) := by decide +kernel
theorem dX7_cut_78 : decode prog_35_method_22_code 78 = .ok (.arraylength, 1) := by decide +kernel
theorem dX7_cut_79 : decode prog_35_method_22_code 79 = .ok (.i2l, 1) := by decide +kernel
theorem dX7_cut_80 : decode prog_35_method_22_code 80 = .ok (.lstore 4, 2) := by decide +kernel
theorem dX7_cut_82 : decode prog_35_method_22_code 82 = .ok (.lload 4, 2) := by decide +kernel
theorem dX7_cut_84 : decode prog_35_method_22_code 84 = .ok (.aload_n 1, 1) := by decide +kernel
theorem dX7_cut_85 : decode prog_35_method_22_code 85 = .ok (.arraylength, 1) := by decide +kernel
theorem dX7_cut_86 : decode prog_35_method_22_code 86 = .ok (.i2l, 1) := by decide +kernel
theorem dX7_cut_87 : decode prog_35_method_22_code 87 = .ok (.lcmp, 1) := by decide +kernel
theorem dX7_cut_88 : decode prog_35_method_22_code 88 = .ok (.ifCond .eq 13, 3) := by decide +kernel
theorem dX7_cut_91 : decode prog_35_method_22_code 91 = .ok (.aload_n 0, 1) := by decide +kernel
theorem dX7_cut_92 : decode prog_35_method_22_code 92 = .ok (.getfield 9, 3) := by decide +kernel
theorem dX7_cut_95 : decode prog_35_method_22_code 95 = .ok (.iconst 4, 1) := by decide +kernel
theorem dX7_cut_96 : decode prog_35_method_22_code 96 = .ok (.iload_n 3, 1) := by decide +kernel
theorem dX7_cut_97 : decode prog_35_method_22_code 97 = .ok (.invokevirtual 25, 3) := by decide +kernel
theorem dX7_cut_100 : decode prog_35_method_22_code 100 = .ok (.athrow, 1) := by decide +kernel
theorem dX7_cut_101 : decode prog_35_method_22_code 101 = .ok (.aload_n 2, 1) := by decide +kernel
theorem dX7_cut_102 : decode prog_35_method_22_code 102 = .ok (.arraylength, 1) := by decide +kernel
theorem dX7_cut_103 : decode prog_35_method_22_code 103 = .ok (.anewarray 160, 3) := by decide +kernel
theorem dX7_cut_106 : decode prog_35_method_22_code 106 = .ok (.astore 7, 2) := by decide +kernel
theorem dX7_cut_108 : decode prog_35_method_22_code 108 = .ok (.iconst 0, 1) := by decide +kernel
theorem dX7_cut_109 : decode prog_35_method_22_code 109 = .ok (.istore 8, 2) := by decide +kernel
theorem dX7_cut_111 : decode prog_35_method_22_code 111 = .ok (.iconst 0, 1) := by decide +kernel
theorem dX7_cut_112 : decode prog_35_method_22_code 112 = .ok (.istore 9, 2) := by decide +kernel
theorem dX7_cut_114 : decode prog_35_method_22_code 114 = .ok (.iload 9, 2) := by decide +kernel
theorem dX7_cut_116 : decode prog_35_method_22_code 116 = .ok (.aload_n 2, 1) := by decide +kernel
theorem dX7_cut_117 : decode prog_35_method_22_code 117 = .ok (.arraylength, 1) := by decide +kernel
theorem dX7_cut_118 : decode prog_35_method_22_code 118 = .ok (.if_icmp .ge 45, 3) := by decide +kernel
theorem dX7_cut_121 : decode prog_35_method_22_code 121 = .ok (.aload 7, 2) := by decide +kernel
theorem dX7_cut_123 : decode prog_35_method_22_code 123 = .ok (.iload 9, 2) := by decide +kernel
theorem dX7_cut_125 : decode prog_35_method_22_code 125 = .ok (.aload_n 2, 1) := by decide +kernel
theorem dX7_cut_126 : decode prog_35_method_22_code 126 = .ok (.iload 9, 2) := by decide +kernel
theorem dX7_cut_128 : decode prog_35_method_22_code 128 = .ok (.iaload, 1) := by decide +kernel
theorem dX7_cut_129 : decode prog_35_method_22_code 129 = .ok (.newarray .int, 2) := by decide +kernel
theorem dX7_cut_131 : decode prog_35_method_22_code 131 = .ok (.aastore, 1) := by decide +kernel
theorem dX7_cut_132 : decode prog_35_method_22_code 132 = .ok (.aload_n 1, 1) := by decide +kernel
theorem dX7_cut_133 : decode prog_35_method_22_code 133 = .ok (.iload 8, 2) := by decide +kernel
theorem dX7_cut_135 : decode prog_35_method_22_code 135 = .ok (.aload 7, 2) := by decide +kernel
theorem dX7_cut_137 : decode prog_35_method_22_code 137 = .ok (.iload 9, 2) := by decide +kernel
theorem dX7_cut_139 : decode prog_35_method_22_code 139 = .ok (.aaload, 1) := by decide +kernel
theorem dX7_cut_140 : decode prog_35_method_22_code 140 = .ok (.iconst 0, 1) := by decide +kernel
theorem dX7_cut_141 : decode prog_35_method_22_code 141 = .ok (.aload_n 2, 1) := by decide +kernel
theorem dX7_cut_142 : decode prog_35_method_22_code 142 = .ok (.iload 9, 2) := by decide +kernel
theorem dX7_cut_144 : decode prog_35_method_22_code 144 = .ok (.iaload, 1) := by decide +kernel
theorem dX7_cut_145 : decode prog_35_method_22_code 145 = .ok (.invokestatic 189, 3) := by decide +kernel
theorem dX7_cut_148 : decode prog_35_method_22_code 148 = .ok (.iload 8, 2) := by decide +kernel
theorem dX7_cut_150 : decode prog_35_method_22_code 150 = .ok (.aload_n 2, 1) := by decide +kernel
theorem dX7_cut_151 : decode prog_35_method_22_code 151 = .ok (.iload 9, 2) := by decide +kernel
theorem dX7_cut_153 : decode prog_35_method_22_code 153 = .ok (.iaload, 1) := by decide +kernel
theorem dX7_cut_154 : decode prog_35_method_22_code 154 = .ok (.iadd, 1) := by decide +kernel
theorem dX7_cut_155 : decode prog_35_method_22_code 155 = .ok (.istore 8, 2) := by decide +kernel
theorem dX7_cut_157 : decode prog_35_method_22_code 157 = .ok (.iinc 9 1, 3) := by decide +kernel
theorem dX7_cut_160 : decode prog_35_method_22_code 160 = .ok (.goto (-46), 3) := by decide +kernel
theorem dX7_cut_163 : decode prog_35_method_22_code 163 = .ok (.aload 7, 2) := by decide +kernel
theorem dX7_cut_165 : decode prog_35_method_22_code 165 = .ok (.areturn, 1) := by decide +kernel
theorem dX7_pad_0 : decode prog_35_method_26_code 0 = .ok (.aload_n 0, 1) := by decide +kernel
theorem dX7_pad_1 : decode prog_35_method_26_code 1 = .ok (.getfield 9, 3) := by decide +kernel
theorem dX7_pad_4 : decode prog_35_method_26_code 4 = .ok (.getfield 177, 3) := by decide +kernel
theorem dX7_pad_7 : decode prog_35_method_26_code 7 = .ok (.aload_n 1, 1) := by decide +kernel
theorem dX7_pad_8 : decode prog_35_method_26_code 8 = .ok (.arraylength, 1) := by decide +kernel
theorem dX7_pad_9 : decode prog_35_method_26_code 9 = .ok (.iload_n 2, 1) := by decide +kernel
theorem dX7_pad_10 : decode prog_35_method_26_code 10 = .ok (.iload_n 3, 1) := by decide +kernel
theorem dX7_pad_11 : decode prog_35_method_26_code 11 = .ok (.invokevirtual 250, 3) := by decide +kernel
theorem dX7_pad_14 : decode prog_35_method_26_code 14 = .ok (.astore 4, 2) := by decide +kernel
theorem dX7_pad_16 : decode prog_35_method_26_code 16 = .ok (.iconst 0, 1) := by decide +kernel
theorem dX7_pad_17 : decode prog_35_method_26_code 17 = .ok (.istore 5, 2) := by decide +kernel
theorem dX7_pad_19 : decode prog_35_method_26_code 19 = .ok (.iload 5, 2) := by decide +kernel
theorem dX7_pad_21 : decode prog_35_method_26_code 21 = .ok (.aload 4, 2) := by decide +kernel
theorem dX7_pad_23 : decode prog_35_method_26_code 23 = .ok (.arraylength, 1) := by decide +kernel
theorem dX7_pad_24 : decode prog_35_method_26_code 24 = .ok (.if_icmp .ge 32, 3) := by decide +kernel
theorem dX7_pad_27 : decode prog_35_method_26_code 27 = .ok (.aload_n 1, 1) := by decide +kernel
theorem dX7_pad_28 : decode prog_35_method_26_code 28 = .ok (.iload 5, 2) := by decide +kernel
theorem dX7_pad_30 : decode prog_35_method_26_code 30 = .ok (.aaload, 1) := by decide +kernel
theorem dX7_pad_31 : decode prog_35_method_26_code 31 = .ok (.iconst 0, 1) := by decide +kernel
theorem dX7_pad_32 : decode prog_35_method_26_code 32 = .ok (.aload 4, 2) := by decide +kernel
theorem dX7_pad_34 : decode prog_35_method_26_code 34 = .ok (.iload 5, 2) := by decide +kernel
theorem dX7_pad_36 : decode prog_35_method_26_code 36 = .ok (.aaload, 1) := by decide +kernel
theorem dX7_pad_37 : decode prog_35_method_26_code 37 = .ok (.iconst 0, 1) := by decide +kernel
theorem dX7_pad_38 : decode prog_35_method_26_code 38 = .ok (.iload_n 2, 1) := by decide +kernel
theorem dX7_pad_39 : decode prog_35_method_26_code 39 = .ok (.aload_n 1, 1) := by decide +kernel
theorem dX7_pad_40 : decode prog_35_method_26_code 40 = .ok (.iload 5, 2) := by decide +kernel
theorem dX7_pad_42 : decode prog_35_method_26_code 42 = .ok (.aaload, 1) := by decide +kernel
theorem dX7_pad_43 : decode prog_35_method_26_code 43 = .ok (.arraylength, 1) := by decide +kernel
theorem dX7_pad_44 : decode prog_35_method_26_code 44 = .ok (.invokestatic 152, 3) := by decide +kernel
theorem dX7_pad_47 : decode prog_35_method_26_code 47 = .ok (.invokestatic 189, 3) := by decide +kernel
theorem dX7_pad_50 : decode prog_35_method_26_code 50 = .ok (.iinc 5 1, 3) := by decide +kernel
theorem dX7_pad_53 : decode prog_35_method_26_code 53 = .ok (.goto (-34), 3) := by decide +kernel
theorem dX7_pad_56 : decode prog_35_method_26_code 56 = .ok (.aload 4, 2) := by decide +kernel
theorem dX7_pad_58 : decode prog_35_method_26_code 58 = .ok (.areturn, 1) := by decide +kernel
theorem dJ4_charAt_0 : decode prog_48_method_2_code 0 = .ok (.iload_n 1, 1) := by decide +kernel
theorem dJ4_charAt_1 : decode prog_48_method_2_code 1 = .ok (.aload_n 0, 1) := by decide +kernel
theorem dJ4_charAt_2 : decode prog_48_method_2_code 2 = .ok (.arraylength, 1) := by decide +kernel
theorem dJ4_charAt_3 : decode prog_48_method_2_code 3 = .ok (.invokestatic 9, 3) := by decide +kernel
theorem dJ4_charAt_6 : decode prog_48_method_2_code 6 = .ok (.aload_n 0, 1) := by decide +kernel
theorem dJ4_charAt_7 : decode prog_48_method_2_code 7 = .ok (.iload_n 1, 1) := by decide +kernel
theorem dJ4_charAt_8 : decode prog_48_method_2_code 8 = .ok (.baload, 1) := by decide +kernel
theorem dJ4_charAt_9 : decode prog_48_method_2_code 9 = .ok (.sipush 255, 3) := by decide +kernel
theorem dJ4_charAt_12 : decode prog_48_method_2_code 12 = .ok (.iand, 1) := by decide +kernel
theorem dJ4_charAt_13 : decode prog_48_method_2_code 13 = .ok (.i2c, 1) := by decide +kernel
theorem dJ4_charAt_14 : decode prog_48_method_2_code 14 = .ok (.ireturn, 1) := by decide +kernel
set_option maxHeartbeats 16000000 in
theorem vX0_alike_0 {l : Launch} {E : EN} {w : CO} {d : Nat} {s : CS} {f : RH} {Q : KO → CS → RH → Prop} {x1 : Int32} {x2 : Value} {x3 : Int32} {x4 : Value} (ix2 : isR x2 = true) (ix4 : isR x4 = true) (hT : ((x2 = .null → ((¬ (Value.null) = x4 → Q (.inl (some (.int 0))) s f) ∧ ((Value.null) = x4 → ((¬ x1 = x3 → Q (.inl (some (.int 0))) s f) ∧ (x1 = x3 → Q (.inl (some (.int 1))) s f))))) ∧ (∀ a1 : Nat, x2 = .ref a1 → ((x4 = .null → ((¬ (Value.ref a1) = (.null) → Q (.inl (some (.int 0))) s f) ∧ ((Value.ref a1) = (.null) → ((¬ x1 = x3 → Q (.inl (some (.int 0))) s f) ∧ (x1 = x3 → Q (.inl (some (.int 1))) s f))))) ∧ (∀ a2 : Nat, x4 = .ref a2 → (∃ P7 : KO → CS → RH → Prop, (∀ o s3 f4, P7 o s3 f4 → KP o (fun r => ∃ v5 : Int32, r = some (.int v5) ∧ (narrow .boolean (.int v5) = .int v5 ∧ Q (.inl (some (.int v5))) s3 f4)) (fun k => Q (.inr k) s3 f4)) ∧ ∃ k6 : Nat, oc f a1 k6 ∧ ((k6 = 29 ∧ EvC l E w d MX32_same [.ref a1, .ref a2] s f P7) ∨ (k6 = 30 ∧ EvC l E w d MX33_same [.ref a1, .ref a2] s f P7) ∨ (k6 = 31 ∧ EvC l E w d MX34_same [.ref a1, .ref a2] s f P7) ∨ (k6 = 32 ∧ EvC l E w d MX35_same [.ref a1, .ref a2] s f P7)))))))) : ExC l E w (d + 1) MX0_alike 0 [some (.int x1), some (x2), some (.int x3), some (x4)] [] s f Q := by
  intro f0 h hW hF
  refine x_aload_n dX0_alike_0 rfl rfl ix2 ?_
  refine x_ifnull (tgt := 8) dX0_alike_1 rfl ix2 (fun e => ?_) (fun a1 e => ?_)
  · subst e
    replace hT := hT.1 rfl
    refine x_aload_n dX0_alike_8 rfl rfl rfl ?_
    refine x_aload_n dX0_alike_9 rfl rfl ix4 ?_
    refine x_acmp_ne (tgt := 22) dX0_alike_10 rfl rfl ix4 (fun c => ?_) (fun c => ?_)
    · replace hT := hT.1 c
      refine x_iconst (v := 0) dX0_alike_22 rfl ?_
      exact x_iret dX0_alike_23 rfl rfl ⟨_, _, hW, hF, Or.inl ⟨_, rfl, hT⟩⟩
    · replace hT := hT.2 c
      refine x_iload_n dX0_alike_13 rfl rfl ?_
      refine x_iload_n dX0_alike_14 rfl rfl ?_
      refine x_icmp_ne (tgt := 22) dX0_alike_15 rfl (fun c => ?_) (fun c => ?_)
      · replace hT := hT.1 c
        refine x_iconst (v := 0) dX0_alike_22 rfl ?_
        exact x_iret dX0_alike_23 rfl rfl ⟨_, _, hW, hF, Or.inl ⟨_, rfl, hT⟩⟩
      · replace hT := hT.2 c
        refine x_iconst (v := 1) dX0_alike_18 rfl ?_
        refine x_goto (tgt := 23) dX0_alike_19 rfl ?_
        exact x_iret dX0_alike_23 rfl rfl ⟨_, _, hW, hF, Or.inl ⟨_, rfl, hT⟩⟩
  · subst e
    replace hT := hT.2 a1 rfl
    refine x_aload_n dX0_alike_4 rfl rfl ix4 ?_
    refine x_ifnonnull (tgt := 24) dX0_alike_5 rfl ix4 (fun a2 e => ?_) (fun e => ?_)
    · subst e
      replace hT := hT.2 a2 rfl
      refine x_aload_n dX0_alike_24 rfl rfl rfl ?_
      refine x_aload_n dX0_alike_25 rfl rfl rfl ?_
      obtain ⟨P7, hP, k6, hc, hT⟩ := hT
      have kr : ∀ r s3 f4, P7 (.inl r) s3 f4 → ∀ h, CW E w s3 f4 h → Frz f0 f4 → Ex l E (d + 1) MX0_alike (26 + 3) [some (.int x1), some (.ref a1), some (.int x3), some (.ref a2)] (r.toList ++ []) h (PoC E w f0 Q) := by
        intro r s3 f4 h0 h hW hF
        have hT := hP _ _ _ h0
        clear h0
        obtain ⟨v5, rfl, hT⟩ := hT
        exact x_iret dX0_alike_29 rfl hT.1 ⟨_, _, hW, hF, Or.inl ⟨_, rfl, hT.2⟩⟩
      have kt : ∀ k s3 f4, P7 (.inr k) s3 f4 → ∀ h a, CW E w s3 f4 h → xA w h k a → Frz f0 f4 → ExT l E (d + 1) MX0_alike 26 [some (.int x1), some (.ref a1), some (.int x3), some (.ref a2)] [] a h (PoC E w f0 Q) := by
        intro k s3 f4 h0 h a hW hx hF
        have hT := hP _ _ _ h0
        clear h0
        exact c_out (rfl) hW hx hF hT
      obtain ⟨cc, hcc⟩ := hW.ocell hc
      rcases hT with ⟨rfl, hT⟩ | ⟨rfl, hT⟩ | ⟨rfl, hT⟩ | ⟨rfl, hT⟩
      · exact c_invV (vs := [.ref a2]) dX0_alike_26 oX32_same q1911 q1903 hcc q1924 (Or.inr hy_Thing_same) rfl rfl (Nat.le_of_ble_eq_true rfl) rfl hW hF hT kr kt
      · exact c_invV (vs := [.ref a2]) dX0_alike_26 oX33_same q1917 q1903 hcc q1925 (Or.inr hy_Thing_same) rfl rfl (Nat.le_of_ble_eq_true rfl) rfl hW hF hT kr kt
      · exact c_invV (vs := [.ref a2]) dX0_alike_26 oX34_same q1907 q1903 hcc q1906 (Or.inr hy_Thing_same) rfl rfl (Nat.le_of_ble_eq_true rfl) rfl hW hF hT kr kt
      · exact c_invV (vs := [.ref a2]) dX0_alike_26 oX35_same q1921 q1903 hcc q1926 (Or.inr hy_Thing_same) rfl rfl (Nat.le_of_ble_eq_true rfl) rfl hW hF hT kr kt
    · subst e
      replace hT := hT.1 rfl
      refine x_aload_n dX0_alike_8 rfl rfl rfl ?_
      refine x_aload_n dX0_alike_9 rfl rfl rfl ?_
      refine x_acmp_ne (tgt := 22) dX0_alike_10 rfl rfl rfl (fun c => ?_) (fun c => ?_)
      · replace hT := hT.1 c
        refine x_iconst (v := 0) dX0_alike_22 rfl ?_
        exact x_iret dX0_alike_23 rfl rfl ⟨_, _, hW, hF, Or.inl ⟨_, rfl, hT⟩⟩
      · replace hT := hT.2 c
        refine x_iload_n dX0_alike_13 rfl rfl ?_
        refine x_iload_n dX0_alike_14 rfl rfl ?_
        refine x_icmp_ne (tgt := 22) dX0_alike_15 rfl (fun c => ?_) (fun c => ?_)
        · replace hT := hT.1 c
          refine x_iconst (v := 0) dX0_alike_22 rfl ?_
          exact x_iret dX0_alike_23 rfl rfl ⟨_, _, hW, hF, Or.inl ⟨_, rfl, hT⟩⟩
        · replace hT := hT.2 c
          refine x_iconst (v := 1) dX0_alike_18 rfl ?_
          refine x_goto (tgt := 23) dX0_alike_19 rfl ?_
          exact x_iret dX0_alike_23 rfl rfl ⟨_, _, hW, hF, Or.inl ⟨_, rfl, hT⟩⟩
theorem eX0_alike {l : Launch} {E : EN} {w : CO} {d : Nat} {s : CS} {f : RH} {Q : KO → CS → RH → Prop} {x1 : Int32} {x2 : Value} {x3 : Int32} {x4 : Value} (ix2 : isR x2 = true) (ix4 : isR x4 = true) (hst : l.stackTraces = false) (hT : ((x2 = .null → ((¬ (Value.null) = x4 → Q (.inl (some (.int 0))) s f) ∧ ((Value.null) = x4 → ((¬ x1 = x3 → Q (.inl (some (.int 0))) s f) ∧ (x1 = x3 → Q (.inl (some (.int 1))) s f))))) ∧ (∀ a1 : Nat, x2 = .ref a1 → ((x4 = .null → ((¬ (Value.ref a1) = (.null) → Q (.inl (some (.int 0))) s f) ∧ ((Value.ref a1) = (.null) → ((¬ x1 = x3 → Q (.inl (some (.int 0))) s f) ∧ (x1 = x3 → Q (.inl (some (.int 1))) s f))))) ∧ (∀ a2 : Nat, x4 = .ref a2 → (∃ P7 : KO → CS → RH → Prop, (∀ o s3 f4, P7 o s3 f4 → KP o (fun r => ∃ v5 : Int32, r = some (.int v5) ∧ (narrow .boolean (.int v5) = .int v5 ∧ Q (.inl (some (.int v5))) s3 f4)) (fun k => Q (.inr k) s3 f4)) ∧ ∃ k6 : Nat, oc f a1 k6 ∧ ((k6 = 29 ∧ EvC l E w d MX32_same [.ref a1, .ref a2] s f P7) ∨ (k6 = 30 ∧ EvC l E w d MX33_same [.ref a1, .ref a2] s f P7) ∨ (k6 = 31 ∧ EvC l E w d MX34_same [.ref a1, .ref a2] s f P7) ∨ (k6 = 32 ∧ EvC l E w d MX35_same [.ref a1, .ref a2] s f P7)))))))) : EvC l E w (d + 1) MX0_alike [.int x1, x2, .int x3, x4] s f Q :=by
  rcases isR_cases ix2 with rfl | ⟨_, rfl⟩ <;> rcases isR_cases ix4 with rfl | ⟨_, rfl⟩ <;> exact
  
  EvC.of hst (by decide) (Nat.le_of_ble_eq_true rfl) (vX0_alike_0 ix2 ix4 hT)
set_option maxHeartbeats 16000000 in
theorem vX0_add_0 {l : Launch} {E : EN} {w : CO} {d : Nat} {s : CS} {f : RH} {Q : KO → CS → RH → Prop} {x1 : Int32} {x2 : Int32}  (hT : (EvC l E w d MX0_isShelf [.int x1] s f (fun o s1 f2 => KP o (fun r => ∃ v3 : Int32, r = some (.int v3) ∧ ((¬ v3 = 0 → (EvC l E w d MX0_has [.ref (w.1 0), .int x1] s1 f2 (fun o s4 f5 => KP o (fun r => ∃ v6 : Int32, r = some (.int v6) ∧ ((v6 = 0 → ((0 : Int32).toNatClampNeg ≤ 60000000 ∧ rmF E f5 1 (0 : Int32).toNatClampNeg ∧ ∀ (a7 : Nat) (f8 : RH), a7 = f5.1 → f8 = fnewA f5 0 (0 : Int32).toNatClampNeg → (∃ t9 : Nat, tg f8 a7 = some (.inr t9) ∧ ((¬ (nI (ln f8 a7)) = 64 → (∃ t10 : Nat, tg f8 a7 = some (.inr t10) ∧ (¬ ((nI (ln f8 a7)) + 1) < 0 ∧ ((nI (ln f8 a7)) + 1).toNatClampNeg ≤ 60000000 ∧ rmF E f8 1 ((nI (ln f8 a7)) + 1).toNatClampNeg ∧ ∀ (a11 : Nat) (f12 : RH), a11 = f8.1 → f12 = fnewA f8 0 ((nI (ln f8 a7)) + 1).toNatClampNeg → (∃ t13 : Nat, tg f12 a7 = some (.inr t13) ∧ (tg f12 a7 = some (.inr 0) ∧ tg f12 a11 = some (.inr 0) ∧ f12.2.2.2 ≤ a11 ∧ ¬ (0 : Int32) < 0 ∧ ¬ (0 : Int32) < 0 ∧ ¬ (nI (ln f12 a7)) < 0 ∧ (0 : Int32).toNatClampNeg + (nI (ln f12 a7)).toNatClampNeg ≤ ln f12 a7 ∧ (0 : Int32).toNatClampNeg + (nI (ln f12 a7)).toNatClampNeg ≤ ln f12 a11 ∧ (∀ i, i < (nI (ln f12 a7)).toNatClampNeg → ∃ x : Int32, vl f12 a7 ((0 : Int32).toNatClampNeg + i) = .int x) ∧ ∀ f14 : RH, f14 = fcont f12 a11 (cpy (vl f12 a7) (vl f12 a11) (0 : Int32).toNatClampNeg (0 : Int32).toNatClampNeg (nI (ln f12 a7)).toNatClampNeg) → (∃ t15 : Nat, tg f14 a7 = some (.inr t15) ∧ (tg f14 a11 = some (.inr 0) ∧ inB (nI (ln f14 a7)) (ln f14 a11) ∧ f14.2.2.2 ≤ a11 ∧ ∀ f16 : RH, f16 = fset f14 a11 (nI (ln f14 a7)).toNatClampNeg (.int x2) → (rmF E f16 1 1 ∧ ∀ (a17 : Nat) (f18 : RH), a17 = f16.1 → f18 = fnew f16 29 → (EvC l E w d MX32_init [.ref a17, .ref a11] s4 f18 (fun o s19 f20 => KP o (fun r => r = none ∧ (EvC l E w d MX4_put [.ref (w.1 4), .int x1, .int 0, .ref a17] s19 f20 (fun o s21 f22 => KP o (fun r => r = none ∧ Q (.inl (some (.int 1))) s21 f22) (fun k => Q (.inr k) s21 f22)))) (fun k => Q (.inr k) s19 f20))))))))))) ∧ ((nI (ln f8 a7)) = 64 → Q (.inl (some (.int 0))) s4 f8))))) ∧ (¬ v6 = 0 → (EvC l E w d MX0_thingOn [.ref (w.1 0), .int x1] s4 f5 (fun o s23 f24 => KP o (fun r => ∃ v25 : Value, r = some v25 ∧ isR v25 = true ∧ (isT f24 v25 ∧ ((∀ a27 : Nat, v25 = .ref a27 → tg f24 a27 = some (.inl 29) → (tg f24 a27 = some (.inl 29) ∧ (oc f24 a27 29 ∧ (∃ a28 : Nat, vl f24 a27 203 = .ref a28 ∧ (∃ t29 : Nat, tg f24 a28 = some (.inr t29) ∧ ((¬ (nI (ln f24 a28)) = 64 → (∃ t30 : Nat, tg f24 a28 = some (.inr t30) ∧ (¬ ((nI (ln f24 a28)) + 1) < 0 ∧ ((nI (ln f24 a28)) + 1).toNatClampNeg ≤ 60000000 ∧ rmF E f24 1 ((nI (ln f24 a28)) + 1).toNatClampNeg ∧ ∀ (a31 : Nat) (f32 : RH), a31 = f24.1 → f32 = fnewA f24 0 ((nI (ln f24 a28)) + 1).toNatClampNeg → (∃ t33 : Nat, tg f32 a28 = some (.inr t33) ∧ (tg f32 a28 = some (.inr 0) ∧ tg f32 a31 = some (.inr 0) ∧ f32.2.2.2 ≤ a31 ∧ ¬ (0 : Int32) < 0 ∧ ¬ (0 : Int32) < 0 ∧ ¬ (nI (ln f32 a28)) < 0 ∧ (0 : Int32).toNatClampNeg + (nI (ln f32 a28)).toNatClampNeg ≤ ln f32 a28 ∧ (0 : Int32).toNatClampNeg + (nI (ln f32 a28)).toNatClampNeg ≤ ln f32 a31 ∧ (∀ i, i < (nI (ln f32 a28)).toNatClampNeg → ∃ x : Int32, vl f32 a28 ((0 : Int32).toNatClampNeg + i) = .int x) ∧ ∀ f34 : RH, f34 = fcont f32 a31 (cpy (vl f32 a28) (vl f32 a31) (0 : Int32).toNatClampNeg (0 : Int32).toNatClampNeg (nI (ln f32 a28)).toNatClampNeg) → (∃ t35 : Nat, tg f34 a28 = some (.inr t35) ∧ (tg f34 a31 = some (.inr 0) ∧ inB (nI (ln f34 a28)) (ln f34 a31) ∧ f34.2.2.2 ≤ a31 ∧ ∀ f36 : RH, f36 = fset f34 a31 (nI (ln f34 a28)).toNatClampNeg (.int x2) → (rmF E f36 1 1 ∧ ∀ (a37 : Nat) (f38 : RH), a37 = f36.1 → f38 = fnew f36 29 → (EvC l E w d MX32_init [.ref a37, .ref a31] s23 f38 (fun o s39 f40 => KP o (fun r => r = none ∧ (EvC l E w d MX4_put [.ref (w.1 4), .int x1, .int 0, .ref a37] s39 f40 (fun o s41 f42 => KP o (fun r => r = none ∧ Q (.inl (some (.int 1))) s41 f42) (fun k => Q (.inr k) s41 f42)))) (fun k => Q (.inr k) s39 f40))))))))))) ∧ ((nI (ln f24 a28)) = 64 → Q (.inl (some (.int 0))) s23 f24))))))) ∧ ((∀ z : Nat, v25 = .ref z → ¬ tg f24 z = some (.inl 29)) → ((0 : Int32).toNatClampNeg ≤ 60000000 ∧ rmF E f24 1 (0 : Int32).toNatClampNeg ∧ ∀ (a43 : Nat) (f44 : RH), a43 = f24.1 → f44 = fnewA f24 0 (0 : Int32).toNatClampNeg → (∃ t45 : Nat, tg f44 a43 = some (.inr t45) ∧ ((¬ (nI (ln f44 a43)) = 64 → (∃ t46 : Nat, tg f44 a43 = some (.inr t46) ∧ (¬ ((nI (ln f44 a43)) + 1) < 0 ∧ ((nI (ln f44 a43)) + 1).toNatClampNeg ≤ 60000000 ∧ rmF E f44 1 ((nI (ln f44 a43)) + 1).toNatClampNeg ∧ ∀ (a47 : Nat) (f48 : RH), a47 = f44.1 → f48 = fnewA f44 0 ((nI (ln f44 a43)) + 1).toNatClampNeg → (∃ t49 : Nat, tg f48 a43 = some (.inr t49) ∧ (tg f48 a43 = some (.inr 0) ∧ tg f48 a47 = some (.inr 0) ∧ f48.2.2.2 ≤ a47 ∧ ¬ (0 : Int32) < 0 ∧ ¬ (0 : Int32) < 0 ∧ ¬ (nI (ln f48 a43)) < 0 ∧ (0 : Int32).toNatClampNeg + (nI (ln f48 a43)).toNatClampNeg ≤ ln f48 a43 ∧ (0 : Int32).toNatClampNeg + (nI (ln f48 a43)).toNatClampNeg ≤ ln f48 a47 ∧ (∀ i, i < (nI (ln f48 a43)).toNatClampNeg → ∃ x : Int32, vl f48 a43 ((0 : Int32).toNatClampNeg + i) = .int x) ∧ ∀ f50 : RH, f50 = fcont f48 a47 (cpy (vl f48 a43) (vl f48 a47) (0 : Int32).toNatClampNeg (0 : Int32).toNatClampNeg (nI (ln f48 a43)).toNatClampNeg) → (∃ t51 : Nat, tg f50 a43 = some (.inr t51) ∧ (tg f50 a47 = some (.inr 0) ∧ inB (nI (ln f50 a43)) (ln f50 a47) ∧ f50.2.2.2 ≤ a47 ∧ ∀ f52 : RH, f52 = fset f50 a47 (nI (ln f50 a43)).toNatClampNeg (.int x2) → (rmF E f52 1 1 ∧ ∀ (a53 : Nat) (f54 : RH), a53 = f52.1 → f54 = fnew f52 29 → (EvC l E w d MX32_init [.ref a53, .ref a47] s23 f54 (fun o s55 f56 => KP o (fun r => r = none ∧ (EvC l E w d MX4_put [.ref (w.1 4), .int x1, .int 0, .ref a53] s55 f56 (fun o s57 f58 => KP o (fun r => r = none ∧ Q (.inl (some (.int 1))) s57 f58) (fun k => Q (.inr k) s57 f58)))) (fun k => Q (.inr k) s55 f56))))))))))) ∧ ((nI (ln f44 a43)) = 64 → Q (.inl (some (.int 0))) s23 f44)))))))) (fun k => Q (.inr k) s23 f24)))))) (fun k => Q (.inr k) s4 f5)))) ∧ (v3 = 0 → Q (.inl (some (.int 0))) s1 f2))) (fun k => Q (.inr k) s1 f2)))) : ExC l E w (d + 1) MX0_add 0 [some (.ref (w.1 0)), some (.int x1), some (.int x2), none, none, none] [] s f Q := by
  intro f0 h hW hF
  refine x_iload_n dX0_add_0 rfl rfl ?_
  refine c_invS (vs := [.int x1]) dX0_add_1 oX0_isShelf q1307 (Or.inl q1306) rfl rfl (Nat.le_of_ble_eq_true rfl) rfl hW hF hT ?_ ?_
  · intro _ s1 f2 hT h hW hF
    obtain ⟨v3, rfl, hT⟩ := hT
    refine x_if_ne (tgt := 9) dX0_add_4 rfl (fun c => ?_) (fun c => ?_)
    · replace hT := hT.1 c
      refine x_aload_n dX0_add_9 rfl rfl rfl ?_
      refine x_iload_n dX0_add_10 rfl rfl ?_
      obtain ⟨-, -, cc, hcc, -⟩ := hW.ob 0 (by decide)
      refine c_invV (vs := [.int x1]) dX0_add_11 oX0_has q2078 q2076 hcc qs58 (Or.inl rfl) rfl rfl (Nat.le_of_ble_eq_true rfl) rfl hW hF hT ?_ ?_
      · intro _ s4 f5 hT h hW hF
        obtain ⟨v6, rfl, hT⟩ := hT
        refine x_if_eq (tgt := 47) dX0_add_14 rfl (fun c => ?_) (fun c => ?_)
        · replace hT := hT.1 c
          refine x_iconst (v := 0) dX0_add_47 rfl ?_
          have hn : ¬ ((0 : Int32) < 0) := by decide
          obtain ⟨hb, hr, hT⟩ := hT
          refine c_newarrayG (t := 0) dX0_add_48 (by decide) rfl hn hb hr hW hF ?_
          intro a7 f8 ea7 ef8 h hW hF
          replace hT := hT a7 f8 ea7 ef8
          refine x_astore_n (lo' := [some (.ref (w.1 0)), some (.int x1), some (.int x2), some (.ref a7), none, none]) dX0_add_50 rfl (Nat.le_of_ble_eq_true rfl) rfl rfl ?_
          refine x_aload_n dX0_add_51 rfl rfl rfl ?_
          obtain ⟨t9, hc, hT⟩ := hT
          refine c_alen dX0_add_52 hc hW ?_
          refine x_bipush (v := 64) dX0_add_53 rfl ?_
          refine x_icmp_ne (tgt := 60) dX0_add_55 rfl (fun c => ?_) (fun c => ?_)
          · replace hT := hT.1 c
            refine x_aload_n dX0_add_60 rfl rfl rfl ?_
            obtain ⟨t10, hc, hT⟩ := hT
            refine c_alen dX0_add_61 hc hW ?_
            refine x_iconst (v := 1) dX0_add_62 rfl ?_
            refine x_iadd dX0_add_63 ?_
            obtain ⟨hn, hT⟩ := hT
            obtain ⟨hb, hr, hT⟩ := hT
            refine c_newarrayG (t := 0) dX0_add_64 (by decide) rfl hn hb hr hW hF ?_
            intro a11 f12 ea11 ef12 h hW hF
            replace hT := hT a11 f12 ea11 ef12
            refine x_astore (lo' := [some (.ref (w.1 0)), some (.int x1), some (.int x2), some (.ref a7), some (.ref a11), none]) dX0_add_66 (Nat.le_of_ble_eq_true rfl) rfl rfl ?_
            refine x_aload_n dX0_add_68 rfl rfl rfl ?_
            refine x_iconst (v := 0) dX0_add_69 rfl ?_
            refine x_aload dX0_add_70 rfl rfl ?_
            refine x_iconst (v := 0) dX0_add_72 rfl ?_
            refine x_aload_n dX0_add_73 rfl rfl rfl ?_
            obtain ⟨t13, hc, hT⟩ := hT
            refine c_alen dX0_add_74 hc hW ?_
            obtain ⟨ha, hb, hz, h1, h2, h3, h4, h5, hfit, hT⟩ := hT
            refine c_copyF dX0_add_75 q2096 q573 q572 q177 ha hb hz h1 h2 h3 h4 h5 hfit (Nat.le_of_ble_eq_true rfl) rfl hW hF ?_
            intro f14 ef14 h hW hF
            replace hT := hT f14 ef14
            refine x_aload dX0_add_78 rfl rfl ?_
            refine x_aload_n dX0_add_80 rfl rfl rfl ?_
            obtain ⟨t15, hc, hT⟩ := hT
            refine c_alen dX0_add_81 hc hW ?_
            refine x_iload_n dX0_add_82 rfl rfl ?_
            obtain ⟨hc, hT⟩ := hT
            obtain ⟨hb, hz, hT⟩ := hT
            refine c_fiastG dX0_add_83 hc hb hz hW hF ?_
            intro f16 ef16 h hW hF
            replace hT := hT f16 ef16
            refine x_aload_n dX0_add_84 rfl rfl rfl ?_
            refine c_getO dX0_add_85 f_TallySlate_40 (by decide) (by decide) rfl hW ?_
            refine c_getO dX0_add_88 f_TallySlate_108 (by decide) (by decide) rfl hW ?_
            refine x_iload_n dX0_add_91 rfl rfl ?_
            refine x_iconst (v := 0) dX0_add_92 rfl ?_
            obtain ⟨hr, hT⟩ := hT
            refine c_newG (k := 29) dX0_add_93 (by decide) q2095 q205 hr hW hF ?_
            intro a17 f18 ea17 ef18 h hW hF
            replace hT := hT a17 f18 ea17 ef18
            refine x_dup dX0_add_96 rfl ?_
            refine x_aload dX0_add_97 rfl rfl ?_
            refine c_invI (b := a17) (vs := [.ref a11]) dX0_add_99 oX32_init rfl rfl rfl q1396 (Or.inl q2097) rfl rfl (Nat.le_of_ble_eq_true rfl) rfl hW hF hT ?_ ?_
            · intro _ s19 f20 hT h hW hF
              obtain ⟨rfl, hT⟩ := hT
              obtain ⟨-, -, cc, hcc, -⟩ := hW.ob 4 (by decide)
              refine c_invV (vs := [.int x1, .int 0, .ref a17]) dX0_add_102 oX4_put q1939 q2090 hcc q1940 (Or.inl rfl) rfl rfl (Nat.le_of_ble_eq_true rfl) rfl hW hF hT ?_ ?_
              · intro _ s21 f22 hT h hW hF
                obtain ⟨rfl, hT⟩ := hT
                refine x_iconst (v := 1) dX0_add_105 rfl ?_
                exact x_iret dX0_add_106 rfl rfl ⟨_, _, hW, hF, Or.inl ⟨_, rfl, hT⟩⟩
              · intro k s21 f22 hT h a hW hx hF
                exact c_out (rfl) hW hx hF hT
            · intro k s19 f20 hT h a hW hx hF
              exact c_out (rfl) hW hx hF hT
          · replace hT := hT.2 c
            refine x_iconst (v := 0) dX0_add_58 rfl ?_
            exact x_iret dX0_add_59 rfl rfl ⟨_, _, hW, hF, Or.inl ⟨_, rfl, hT⟩⟩
        · replace hT := hT.2 c
          refine x_aload_n dX0_add_17 rfl rfl rfl ?_
          refine x_iload_n dX0_add_18 rfl rfl ?_
          obtain ⟨-, -, cc, hcc, -⟩ := hW.ob 0 (by decide)
          refine c_invV (vs := [.int x1]) dX0_add_19 oX0_thingOn q2082 q2080 hcc qs59 (Or.inl rfl) rfl rfl (Nat.le_of_ble_eq_true rfl) rfl hW hF hT ?_ ?_
          · intro _ s23 f24 hT h hW hF
            obtain ⟨v25, rfl, iv25, hT⟩ := hT
            refine x_astore (lo' := [some (.ref (w.1 0)), some (.int x1), some (.int x2), none, none, some (v25)]) dX0_add_22 (Nat.le_of_ble_eq_true rfl) iv25 rfl ?_
            refine x_aload dX0_add_24 rfl iv25 ?_
            obtain ⟨ht, hT⟩ := hT
            refine c_instV (K := 29) dX0_add_26 (by decide) q2095 ht hW (fun a27 ec hi26 => ?_) (fun hi26 => ?_)
            · subst ec
              replace hT := hT.1 a27 rfl hi26
              refine x_if_eq (tgt := 47) dX0_add_29 rfl (fun c => absurd c (by decide)) (fun _ => ?_)
              refine x_aload dX0_add_32 rfl rfl ?_
              obtain ⟨hc, hT⟩ := hT
              refine c_cast (K := 29) dX0_add_34 q2095 hc hW ?_
              refine x_astore (lo' := [some (.ref (w.1 0)), some (.int x1), some (.int x2), none, some (.ref a27), some (.ref a27)]) dX0_add_37 (Nat.le_of_ble_eq_true rfl) rfl rfl ?_
              refine x_aload dX0_add_39 rfl rfl ?_
              obtain ⟨hc, hT⟩ := hT
              obtain ⟨a28, ev, hT⟩ := hT
              refine c_fgetG dX0_add_41 f_TallySlate_200 hc (by decide) (by decide) hW ev ?_
              refine x_goto (tgt := 50) dX0_add_44 rfl ?_
              refine x_astore_n (lo' := [some (.ref (w.1 0)), some (.int x1), some (.int x2), some (.ref a28), some (.ref a27), some (.ref a27)]) dX0_add_50 rfl (Nat.le_of_ble_eq_true rfl) rfl rfl ?_
              refine x_aload_n dX0_add_51 rfl rfl rfl ?_
              obtain ⟨t29, hc, hT⟩ := hT
              refine c_alen dX0_add_52 hc hW ?_
              refine x_bipush (v := 64) dX0_add_53 rfl ?_
              refine x_icmp_ne (tgt := 60) dX0_add_55 rfl (fun c => ?_) (fun c => ?_)
              · replace hT := hT.1 c
                refine x_aload_n dX0_add_60 rfl rfl rfl ?_
                obtain ⟨t30, hc, hT⟩ := hT
                refine c_alen dX0_add_61 hc hW ?_
                refine x_iconst (v := 1) dX0_add_62 rfl ?_
                refine x_iadd dX0_add_63 ?_
                obtain ⟨hn, hT⟩ := hT
                obtain ⟨hb, hr, hT⟩ := hT
                refine c_newarrayG (t := 0) dX0_add_64 (by decide) rfl hn hb hr hW hF ?_
                intro a31 f32 ea31 ef32 h hW hF
                replace hT := hT a31 f32 ea31 ef32
                refine x_astore (lo' := [some (.ref (w.1 0)), some (.int x1), some (.int x2), some (.ref a28), some (.ref a31), some (.ref a27)]) dX0_add_66 (Nat.le_of_ble_eq_true rfl) rfl rfl ?_
                refine x_aload_n dX0_add_68 rfl rfl rfl ?_
                refine x_iconst (v := 0) dX0_add_69 rfl ?_
                refine x_aload dX0_add_70 rfl rfl ?_
                refine x_iconst (v := 0) dX0_add_72 rfl ?_
                refine x_aload_n dX0_add_73 rfl rfl rfl ?_
                obtain ⟨t33, hc, hT⟩ := hT
                refine c_alen dX0_add_74 hc hW ?_
                obtain ⟨ha, hb, hz, h1, h2, h3, h4, h5, hfit, hT⟩ := hT
                refine c_copyF dX0_add_75 q2096 q573 q572 q177 ha hb hz h1 h2 h3 h4 h5 hfit (Nat.le_of_ble_eq_true rfl) rfl hW hF ?_
                intro f34 ef34 h hW hF
                replace hT := hT f34 ef34
                refine x_aload dX0_add_78 rfl rfl ?_
                refine x_aload_n dX0_add_80 rfl rfl rfl ?_
                obtain ⟨t35, hc, hT⟩ := hT
                refine c_alen dX0_add_81 hc hW ?_
                refine x_iload_n dX0_add_82 rfl rfl ?_
                obtain ⟨hc, hT⟩ := hT
                obtain ⟨hb, hz, hT⟩ := hT
                refine c_fiastG dX0_add_83 hc hb hz hW hF ?_
                intro f36 ef36 h hW hF
                replace hT := hT f36 ef36
                refine x_aload_n dX0_add_84 rfl rfl rfl ?_
                refine c_getO dX0_add_85 f_TallySlate_40 (by decide) (by decide) rfl hW ?_
                refine c_getO dX0_add_88 f_TallySlate_108 (by decide) (by decide) rfl hW ?_
                refine x_iload_n dX0_add_91 rfl rfl ?_
                refine x_iconst (v := 0) dX0_add_92 rfl ?_
                obtain ⟨hr, hT⟩ := hT
                refine c_newG (k := 29) dX0_add_93 (by decide) q2095 q205 hr hW hF ?_
                intro a37 f38 ea37 ef38 h hW hF
                replace hT := hT a37 f38 ea37 ef38
                refine x_dup dX0_add_96 rfl ?_
                refine x_aload dX0_add_97 rfl rfl ?_
                refine c_invI (b := a37) (vs := [.ref a31]) dX0_add_99 oX32_init rfl rfl rfl q1396 (Or.inl q2097) rfl rfl (Nat.le_of_ble_eq_true rfl) rfl hW hF hT ?_ ?_
                · intro _ s39 f40 hT h hW hF
                  obtain ⟨rfl, hT⟩ := hT
                  obtain ⟨-, -, cc, hcc, -⟩ := hW.ob 4 (by decide)
                  refine c_invV (vs := [.int x1, .int 0, .ref a37]) dX0_add_102 oX4_put q1939 q2090 hcc q1940 (Or.inl rfl) rfl rfl (Nat.le_of_ble_eq_true rfl) rfl hW hF hT ?_ ?_
                  · intro _ s41 f42 hT h hW hF
                    obtain ⟨rfl, hT⟩ := hT
                    refine x_iconst (v := 1) dX0_add_105 rfl ?_
                    exact x_iret dX0_add_106 rfl rfl ⟨_, _, hW, hF, Or.inl ⟨_, rfl, hT⟩⟩
                  · intro k s41 f42 hT h a hW hx hF
                    exact c_out (rfl) hW hx hF hT
                · intro k s39 f40 hT h a hW hx hF
                  exact c_out (rfl) hW hx hF hT
              · replace hT := hT.2 c
                refine x_iconst (v := 0) dX0_add_58 rfl ?_
                exact x_iret dX0_add_59 rfl rfl ⟨_, _, hW, hF, Or.inl ⟨_, rfl, hT⟩⟩
            · replace hT := hT.2 hi26
              refine x_if_eq (tgt := 47) dX0_add_29 rfl (fun _ => ?_) (fun c => absurd c (by decide))
              refine x_iconst (v := 0) dX0_add_47 rfl ?_
              have hn : ¬ ((0 : Int32) < 0) := by decide
              obtain ⟨hb, hr, hT⟩ := hT
              refine c_newarrayG (t := 0) dX0_add_48 (by decide) rfl hn hb hr hW hF ?_
              intro a43 f44 ea43 ef44 h hW hF
              replace hT := hT a43 f44 ea43 ef44
              refine x_astore_n (lo' := [some (.ref (w.1 0)), some (.int x1), some (.int x2), some (.ref a43), none, some (v25)]) dX0_add_50 rfl (Nat.le_of_ble_eq_true rfl) rfl rfl ?_
              refine x_aload_n dX0_add_51 rfl rfl rfl ?_
              obtain ⟨t45, hc, hT⟩ := hT
              refine c_alen dX0_add_52 hc hW ?_
              refine x_bipush (v := 64) dX0_add_53 rfl ?_
              refine x_icmp_ne (tgt := 60) dX0_add_55 rfl (fun c => ?_) (fun c => ?_)
              · replace hT := hT.1 c
                refine x_aload_n dX0_add_60 rfl rfl rfl ?_
                obtain ⟨t46, hc, hT⟩ := hT
                refine c_alen dX0_add_61 hc hW ?_
                refine x_iconst (v := 1) dX0_add_62 rfl ?_
                refine x_iadd dX0_add_63 ?_
                obtain ⟨hn, hT⟩ := hT
                obtain ⟨hb, hr, hT⟩ := hT
                refine c_newarrayG (t := 0) dX0_add_64 (by decide) rfl hn hb hr hW hF ?_
                intro a47 f48 ea47 ef48 h hW hF
                replace hT := hT a47 f48 ea47 ef48
                refine x_astore (lo' := [some (.ref (w.1 0)), some (.int x1), some (.int x2), some (.ref a43), some (.ref a47), some (v25)]) dX0_add_66 (Nat.le_of_ble_eq_true rfl) rfl rfl ?_
                refine x_aload_n dX0_add_68 rfl rfl rfl ?_
                refine x_iconst (v := 0) dX0_add_69 rfl ?_
                refine x_aload dX0_add_70 rfl rfl ?_
                refine x_iconst (v := 0) dX0_add_72 rfl ?_
                refine x_aload_n dX0_add_73 rfl rfl rfl ?_
                obtain ⟨t49, hc, hT⟩ := hT
                refine c_alen dX0_add_74 hc hW ?_
                obtain ⟨ha, hb, hz, h1, h2, h3, h4, h5, hfit, hT⟩ := hT
                refine c_copyF dX0_add_75 q2096 q573 q572 q177 ha hb hz h1 h2 h3 h4 h5 hfit (Nat.le_of_ble_eq_true rfl) rfl hW hF ?_
                intro f50 ef50 h hW hF
                replace hT := hT f50 ef50
                refine x_aload dX0_add_78 rfl rfl ?_
                refine x_aload_n dX0_add_80 rfl rfl rfl ?_
                obtain ⟨t51, hc, hT⟩ := hT
                refine c_alen dX0_add_81 hc hW ?_
                refine x_iload_n dX0_add_82 rfl rfl ?_
                obtain ⟨hc, hT⟩ := hT
                obtain ⟨hb, hz, hT⟩ := hT
                refine c_fiastG dX0_add_83 hc hb hz hW hF ?_
                intro f52 ef52 h hW hF
                replace hT := hT f52 ef52
                refine x_aload_n dX0_add_84 rfl rfl rfl ?_
                refine c_getO dX0_add_85 f_TallySlate_40 (by decide) (by decide) rfl hW ?_
                refine c_getO dX0_add_88 f_TallySlate_108 (by decide) (by decide) rfl hW ?_
                refine x_iload_n dX0_add_91 rfl rfl ?_
                refine x_iconst (v := 0) dX0_add_92 rfl ?_
                obtain ⟨hr, hT⟩ := hT
                refine c_newG (k := 29) dX0_add_93 (by decide) q2095 q205 hr hW hF ?_
                intro a53 f54 ea53 ef54 h hW hF
                replace hT := hT a53 f54 ea53 ef54
                refine x_dup dX0_add_96 rfl ?_
                refine x_aload dX0_add_97 rfl rfl ?_
                refine c_invI (b := a53) (vs := [.ref a47]) dX0_add_99 oX32_init rfl rfl rfl q1396 (Or.inl q2097) rfl rfl (Nat.le_of_ble_eq_true rfl) rfl hW hF hT ?_ ?_
                · intro _ s55 f56 hT h hW hF
                  obtain ⟨rfl, hT⟩ := hT
                  obtain ⟨-, -, cc, hcc, -⟩ := hW.ob 4 (by decide)
                  refine c_invV (vs := [.int x1, .int 0, .ref a53]) dX0_add_102 oX4_put q1939 q2090 hcc q1940 (Or.inl rfl) rfl rfl (Nat.le_of_ble_eq_true rfl) rfl hW hF hT ?_ ?_
                  · intro _ s57 f58 hT h hW hF
                    obtain ⟨rfl, hT⟩ := hT
                    refine x_iconst (v := 1) dX0_add_105 rfl ?_
                    exact x_iret dX0_add_106 rfl rfl ⟨_, _, hW, hF, Or.inl ⟨_, rfl, hT⟩⟩
                  · intro k s57 f58 hT h a hW hx hF
                    exact c_out (rfl) hW hx hF hT
                · intro k s55 f56 hT h a hW hx hF
                  exact c_out (rfl) hW hx hF hT
              · replace hT := hT.2 c
                refine x_iconst (v := 0) dX0_add_58 rfl ?_
                exact x_iret dX0_add_59 rfl rfl ⟨_, _, hW, hF, Or.inl ⟨_, rfl, hT⟩⟩
          · intro k s23 f24 hT h a hW hx hF
            exact c_out (rfl) hW hx hF hT
      · intro k s4 f5 hT h a hW hx hF
        exact c_out (rfl) hW hx hF hT
    · replace hT := hT.2 c
      refine x_iconst (v := 0) dX0_add_7 rfl ?_
      exact x_iret dX0_add_8 rfl rfl ⟨_, _, hW, hF, Or.inl ⟨_, rfl, hT⟩⟩
  · intro k s1 f2 hT h a hW hx hF
    exact c_out (rfl) hW hx hF hT
theorem eX0_add {l : Launch} {E : EN} {w : CO} {d : Nat} {s : CS} {f : RH} {Q : KO → CS → RH → Prop} {x1 : Int32} {x2 : Int32}  (hst : l.stackTraces = false) (hT : (EvC l E w d MX0_isShelf [.int x1] s f (fun o s1 f2 => KP o (fun r => ∃ v3 : Int32, r = some (.int v3) ∧ ((¬ v3 = 0 → (EvC l E w d MX0_has [.ref (w.1 0), .int x1] s1 f2 (fun o s4 f5 => KP o (fun r => ∃ v6 : Int32, r = some (.int v6) ∧ ((v6 = 0 → ((0 : Int32).toNatClampNeg ≤ 60000000 ∧ rmF E f5 1 (0 : Int32).toNatClampNeg ∧ ∀ (a7 : Nat) (f8 : RH), a7 = f5.1 → f8 = fnewA f5 0 (0 : Int32).toNatClampNeg → (∃ t9 : Nat, tg f8 a7 = some (.inr t9) ∧ ((¬ (nI (ln f8 a7)) = 64 → (∃ t10 : Nat, tg f8 a7 = some (.inr t10) ∧ (¬ ((nI (ln f8 a7)) + 1) < 0 ∧ ((nI (ln f8 a7)) + 1).toNatClampNeg ≤ 60000000 ∧ rmF E f8 1 ((nI (ln f8 a7)) + 1).toNatClampNeg ∧ ∀ (a11 : Nat) (f12 : RH), a11 = f8.1 → f12 = fnewA f8 0 ((nI (ln f8 a7)) + 1).toNatClampNeg → (∃ t13 : Nat, tg f12 a7 = some (.inr t13) ∧ (tg f12 a7 = some (.inr 0) ∧ tg f12 a11 = some (.inr 0) ∧ f12.2.2.2 ≤ a11 ∧ ¬ (0 : Int32) < 0 ∧ ¬ (0 : Int32) < 0 ∧ ¬ (nI (ln f12 a7)) < 0 ∧ (0 : Int32).toNatClampNeg + (nI (ln f12 a7)).toNatClampNeg ≤ ln f12 a7 ∧ (0 : Int32).toNatClampNeg + (nI (ln f12 a7)).toNatClampNeg ≤ ln f12 a11 ∧ (∀ i, i < (nI (ln f12 a7)).toNatClampNeg → ∃ x : Int32, vl f12 a7 ((0 : Int32).toNatClampNeg + i) = .int x) ∧ ∀ f14 : RH, f14 = fcont f12 a11 (cpy (vl f12 a7) (vl f12 a11) (0 : Int32).toNatClampNeg (0 : Int32).toNatClampNeg (nI (ln f12 a7)).toNatClampNeg) → (∃ t15 : Nat, tg f14 a7 = some (.inr t15) ∧ (tg f14 a11 = some (.inr 0) ∧ inB (nI (ln f14 a7)) (ln f14 a11) ∧ f14.2.2.2 ≤ a11 ∧ ∀ f16 : RH, f16 = fset f14 a11 (nI (ln f14 a7)).toNatClampNeg (.int x2) → (rmF E f16 1 1 ∧ ∀ (a17 : Nat) (f18 : RH), a17 = f16.1 → f18 = fnew f16 29 → (EvC l E w d MX32_init [.ref a17, .ref a11] s4 f18 (fun o s19 f20 => KP o (fun r => r = none ∧ (EvC l E w d MX4_put [.ref (w.1 4), .int x1, .int 0, .ref a17] s19 f20 (fun o s21 f22 => KP o (fun r => r = none ∧ Q (.inl (some (.int 1))) s21 f22) (fun k => Q (.inr k) s21 f22)))) (fun k => Q (.inr k) s19 f20))))))))))) ∧ ((nI (ln f8 a7)) = 64 → Q (.inl (some (.int 0))) s4 f8))))) ∧ (¬ v6 = 0 → (EvC l E w d MX0_thingOn [.ref (w.1 0), .int x1] s4 f5 (fun o s23 f24 => KP o (fun r => ∃ v25 : Value, r = some v25 ∧ isR v25 = true ∧ (isT f24 v25 ∧ ((∀ a27 : Nat, v25 = .ref a27 → tg f24 a27 = some (.inl 29) → (tg f24 a27 = some (.inl 29) ∧ (oc f24 a27 29 ∧ (∃ a28 : Nat, vl f24 a27 203 = .ref a28 ∧ (∃ t29 : Nat, tg f24 a28 = some (.inr t29) ∧ ((¬ (nI (ln f24 a28)) = 64 → (∃ t30 : Nat, tg f24 a28 = some (.inr t30) ∧ (¬ ((nI (ln f24 a28)) + 1) < 0 ∧ ((nI (ln f24 a28)) + 1).toNatClampNeg ≤ 60000000 ∧ rmF E f24 1 ((nI (ln f24 a28)) + 1).toNatClampNeg ∧ ∀ (a31 : Nat) (f32 : RH), a31 = f24.1 → f32 = fnewA f24 0 ((nI (ln f24 a28)) + 1).toNatClampNeg → (∃ t33 : Nat, tg f32 a28 = some (.inr t33) ∧ (tg f32 a28 = some (.inr 0) ∧ tg f32 a31 = some (.inr 0) ∧ f32.2.2.2 ≤ a31 ∧ ¬ (0 : Int32) < 0 ∧ ¬ (0 : Int32) < 0 ∧ ¬ (nI (ln f32 a28)) < 0 ∧ (0 : Int32).toNatClampNeg + (nI (ln f32 a28)).toNatClampNeg ≤ ln f32 a28 ∧ (0 : Int32).toNatClampNeg + (nI (ln f32 a28)).toNatClampNeg ≤ ln f32 a31 ∧ (∀ i, i < (nI (ln f32 a28)).toNatClampNeg → ∃ x : Int32, vl f32 a28 ((0 : Int32).toNatClampNeg + i) = .int x) ∧ ∀ f34 : RH, f34 = fcont f32 a31 (cpy (vl f32 a28) (vl f32 a31) (0 : Int32).toNatClampNeg (0 : Int32).toNatClampNeg (nI (ln f32 a28)).toNatClampNeg) → (∃ t35 : Nat, tg f34 a28 = some (.inr t35) ∧ (tg f34 a31 = some (.inr 0) ∧ inB (nI (ln f34 a28)) (ln f34 a31) ∧ f34.2.2.2 ≤ a31 ∧ ∀ f36 : RH, f36 = fset f34 a31 (nI (ln f34 a28)).toNatClampNeg (.int x2) → (rmF E f36 1 1 ∧ ∀ (a37 : Nat) (f38 : RH), a37 = f36.1 → f38 = fnew f36 29 → (EvC l E w d MX32_init [.ref a37, .ref a31] s23 f38 (fun o s39 f40 => KP o (fun r => r = none ∧ (EvC l E w d MX4_put [.ref (w.1 4), .int x1, .int 0, .ref a37] s39 f40 (fun o s41 f42 => KP o (fun r => r = none ∧ Q (.inl (some (.int 1))) s41 f42) (fun k => Q (.inr k) s41 f42)))) (fun k => Q (.inr k) s39 f40))))))))))) ∧ ((nI (ln f24 a28)) = 64 → Q (.inl (some (.int 0))) s23 f24))))))) ∧ ((∀ z : Nat, v25 = .ref z → ¬ tg f24 z = some (.inl 29)) → ((0 : Int32).toNatClampNeg ≤ 60000000 ∧ rmF E f24 1 (0 : Int32).toNatClampNeg ∧ ∀ (a43 : Nat) (f44 : RH), a43 = f24.1 → f44 = fnewA f24 0 (0 : Int32).toNatClampNeg → (∃ t45 : Nat, tg f44 a43 = some (.inr t45) ∧ ((¬ (nI (ln f44 a43)) = 64 → (∃ t46 : Nat, tg f44 a43 = some (.inr t46) ∧ (¬ ((nI (ln f44 a43)) + 1) < 0 ∧ ((nI (ln f44 a43)) + 1).toNatClampNeg ≤ 60000000 ∧ rmF E f44 1 ((nI (ln f44 a43)) + 1).toNatClampNeg ∧ ∀ (a47 : Nat) (f48 : RH), a47 = f44.1 → f48 = fnewA f44 0 ((nI (ln f44 a43)) + 1).toNatClampNeg → (∃ t49 : Nat, tg f48 a43 = some (.inr t49) ∧ (tg f48 a43 = some (.inr 0) ∧ tg f48 a47 = some (.inr 0) ∧ f48.2.2.2 ≤ a47 ∧ ¬ (0 : Int32) < 0 ∧ ¬ (0 : Int32) < 0 ∧ ¬ (nI (ln f48 a43)) < 0 ∧ (0 : Int32).toNatClampNeg + (nI (ln f48 a43)).toNatClampNeg ≤ ln f48 a43 ∧ (0 : Int32).toNatClampNeg + (nI (ln f48 a43)).toNatClampNeg ≤ ln f48 a47 ∧ (∀ i, i < (nI (ln f48 a43)).toNatClampNeg → ∃ x : Int32, vl f48 a43 ((0 : Int32).toNatClampNeg + i) = .int x) ∧ ∀ f50 : RH, f50 = fcont f48 a47 (cpy (vl f48 a43) (vl f48 a47) (0 : Int32).toNatClampNeg (0 : Int32).toNatClampNeg (nI (ln f48 a43)).toNatClampNeg) → (∃ t51 : Nat, tg f50 a43 = some (.inr t51) ∧ (tg f50 a47 = some (.inr 0) ∧ inB (nI (ln f50 a43)) (ln f50 a47) ∧ f50.2.2.2 ≤ a47 ∧ ∀ f52 : RH, f52 = fset f50 a47 (nI (ln f50 a43)).toNatClampNeg (.int x2) → (rmF E f52 1 1 ∧ ∀ (a53 : Nat) (f54 : RH), a53 = f52.1 → f54 = fnew f52 29 → (EvC l E w d MX32_init [.ref a53, .ref a47] s23 f54 (fun o s55 f56 => KP o (fun r => r = none ∧ (EvC l E w d MX4_put [.ref (w.1 4), .int x1, .int 0, .ref a53] s55 f56 (fun o s57 f58 => KP o (fun r => r = none ∧ Q (.inl (some (.int 1))) s57 f58) (fun k => Q (.inr k) s57 f58)))) (fun k => Q (.inr k) s55 f56))))))))))) ∧ ((nI (ln f44 a43)) = 64 → Q (.inl (some (.int 0))) s23 f44)))))))) (fun k => Q (.inr k) s23 f24)))))) (fun k => Q (.inr k) s4 f5)))) ∧ (v3 = 0 → Q (.inl (some (.int 0))) s1 f2))) (fun k => Q (.inr k) s1 f2)))) : EvC l E w (d + 1) MX0_add [.ref (w.1 0), .int x1, .int x2] s f Q :=
  EvC.of hst (by decide) (Nat.le_of_ble_eq_true rfl) (vX0_add_0  hT)
theorem vX2_begin_0 {l : Launch} {E : EN} {w : CO} {d : Nat} {s : CS} {f : RH} {Q : KO → CS → RH → Prop} {x2 : Int32}  (hT : (¬ (0 : Int32) < 0 ∧ ¬ (0 : Int32) < 0 ∧ ¬ x2 < 0 ∧ (0 : Int32).toNatClampNeg + x2.toNatClampNeg ≤ 1620 ∧ (0 : Int32).toNatClampNeg + x2.toNatClampNeg ≤ 1600 ∧ (∀ i, i < x2.toNatClampNeg → fits (AT 2) (.int (s.2.2.1 0 ((0 : Int32).toNatClampNeg + i))) = true) ∧ Q (.inl none) (uI (uI (uI (uC s 0 17 (0 : Int32).toNatClampNeg (0 : Int32).toNatClampNeg x2.toNatClampNeg) 18 x2) 19 0) 23 0) f)) : ExC l E w (d + 1) MX2_begin 0 [some (.ref (w.1 2)), some (.ref (w.2.1 0)), some (.int x2)] [] s f Q := by
  intro f0 h hW hF
  refine x_aload_n dX2_begin_0 rfl rfl rfl ?_
  refine x_iconst (v := 0) dX2_begin_1 rfl ?_
  refine x_aload_n dX2_begin_2 rfl rfl rfl ?_
  refine c_getA dX2_begin_3 f_TallySlate_Scanner_9 (by decide) (by decide) rfl hW ?_
  refine x_iconst (v := 0) dX2_begin_6 rfl ?_
  refine x_iload_n dX2_begin_7 rfl rfl ?_
  obtain ⟨h1, h2, h3, h4, h5, hfit, hT⟩ := hT
  refine c_copyS dX2_begin_8 q571 q573 q572 q177 rfl rfl (by decide) h1 h2 h3 h4 h5 hfit (Nat.le_of_ble_eq_true rfl) rfl hW ?_
  intro h hW
  refine x_aload_n dX2_begin_11 rfl rfl rfl ?_
  refine x_iload_n dX2_begin_12 rfl rfl ?_
  refine c_putI dX2_begin_13 f_TallySlate_Scanner_34 (by decide) (by decide) rfl rfl rfl rfl hW ?_
  intro h hW
  refine x_aload_n dX2_begin_16 rfl rfl rfl ?_
  refine x_iconst (v := 0) dX2_begin_17 rfl ?_
  refine c_putI dX2_begin_18 f_TallySlate_Scanner_37 (by decide) (by decide) rfl rfl rfl rfl hW ?_
  intro h hW
  refine x_aload_n dX2_begin_21 rfl rfl rfl ?_
  refine x_iconst (v := 0) dX2_begin_22 rfl ?_
  refine c_putI dX2_begin_23 f_TallySlate_Scanner_40 (by decide) (by decide) rfl rfl rfl rfl hW ?_
  intro h hW
  exact x_vret dX2_begin_26 rfl ⟨_, _, hW, hF, Or.inl ⟨_, rfl, hT⟩⟩
theorem eX2_begin {l : Launch} {E : EN} {w : CO} {d : Nat} {s : CS} {f : RH} {Q : KO → CS → RH → Prop} {x2 : Int32}  (hst : l.stackTraces = false) (hT : (¬ (0 : Int32) < 0 ∧ ¬ (0 : Int32) < 0 ∧ ¬ x2 < 0 ∧ (0 : Int32).toNatClampNeg + x2.toNatClampNeg ≤ 1620 ∧ (0 : Int32).toNatClampNeg + x2.toNatClampNeg ≤ 1600 ∧ (∀ i, i < x2.toNatClampNeg → fits (AT 2) (.int (s.2.2.1 0 ((0 : Int32).toNatClampNeg + i))) = true) ∧ Q (.inl none) (uI (uI (uI (uC s 0 17 (0 : Int32).toNatClampNeg (0 : Int32).toNatClampNeg x2.toNatClampNeg) 18 x2) 19 0) 23 0) f)) : EvC l E w (d + 1) MX2_begin [.ref (w.1 2), .ref (w.2.1 0), .int x2] s f Q :=
  EvC.of hst (by decide) (Nat.le_of_ble_eq_true rfl) (vX2_begin_0  hT)
theorem vX4_keep_0 {l : Launch} {E : EN} {w : CO} {d : Nat} {s : CS} {f : RH} {Q : KO → CS → RH → Prop} {x1 : Int32}  (hT : (¬ (0 : Int32) < 0 ∧ ¬ (8 * x1) < 0 ∧ ¬ (8 : Int32) < 0 ∧ (0 : Int32).toNatClampNeg + (8 : Int32).toNatClampNeg ≤ 8 ∧ (8 * x1).toNatClampNeg + (8 : Int32).toNatClampNeg ≤ 56 ∧ (∀ i, i < (8 : Int32).toNatClampNeg → fits (AT 0) (.int (s.2.2.1 42 ((0 : Int32).toNatClampNeg + i))) = true) ∧ (¬ (0 : Int32) < 0 ∧ ¬ (8 * x1) < 0 ∧ ¬ (8 : Int32) < 0 ∧ (0 : Int32).toNatClampNeg + (8 : Int32).toNatClampNeg ≤ 8 ∧ (8 * x1).toNatClampNeg + (8 : Int32).toNatClampNeg ≤ 56 ∧ (∀ i, i < (8 : Int32).toNatClampNeg → fits (AT 3) (.int ((uC s 42 43 (0 : Int32).toNatClampNeg (8 * x1).toNatClampNeg (8 : Int32).toNatClampNeg).2.2.1 46 ((0 : Int32).toNatClampNeg + i))) = true) ∧ ExC l E w (d + 1) MX4_keep 38 [some (.ref (w.1 4)), some (.int x1), some (.int 0)] [] (uC (uC s 42 43 (0 : Int32).toNatClampNeg (8 * x1).toNatClampNeg (8 : Int32).toNatClampNeg) 46 47 (0 : Int32).toNatClampNeg (8 * x1).toNatClampNeg (8 : Int32).toNatClampNeg) f Q))) : ExC l E w (d + 1) MX4_keep 0 [some (.ref (w.1 4)), some (.int x1), none] [] s f Q := by
  intro f0 h hW hF
  refine x_aload_n dX4_keep_0 rfl rfl rfl ?_
  refine c_getA dX4_keep_1 f_TallySlate_Shelves_9 (by decide) (by decide) rfl hW ?_
  refine x_iconst (v := 0) dX4_keep_4 rfl ?_
  refine x_aload_n dX4_keep_5 rfl rfl rfl ?_
  refine c_getA dX4_keep_6 f_TallySlate_Shelves_15 (by decide) (by decide) rfl hW ?_
  refine x_bipush (v := 8) dX4_keep_9 rfl ?_
  refine x_iload_n dX4_keep_11 rfl rfl ?_
  refine x_imul dX4_keep_12 ?_
  refine x_bipush (v := 8) dX4_keep_13 rfl ?_
  obtain ⟨h1, h2, h3, h4, h5, hfit, hT⟩ := hT
  refine c_copyS dX4_keep_15 q1317 q573 q572 q177 rfl rfl (by decide) h1 h2 h3 h4 h5 hfit (Nat.le_of_ble_eq_true rfl) rfl hW ?_
  intro h hW
  refine x_aload_n dX4_keep_18 rfl rfl rfl ?_
  refine c_getA dX4_keep_19 f_TallySlate_Shelves_27 (by decide) (by decide) rfl hW ?_
  refine x_iconst (v := 0) dX4_keep_22 rfl ?_
  refine x_aload_n dX4_keep_23 rfl rfl rfl ?_
  refine c_getA dX4_keep_24 f_TallySlate_Shelves_31 (by decide) (by decide) rfl hW ?_
  refine x_bipush (v := 8) dX4_keep_27 rfl ?_
  refine x_iload_n dX4_keep_29 rfl rfl ?_
  refine x_imul dX4_keep_30 ?_
  refine x_bipush (v := 8) dX4_keep_31 rfl ?_
  obtain ⟨h1, h2, h3, h4, h5, hfit, hT⟩ := hT
  refine c_copyS dX4_keep_33 q1317 q573 q572 q177 rfl rfl (by decide) h1 h2 h3 h4 h5 hfit (Nat.le_of_ble_eq_true rfl) rfl hW ?_
  intro h hW
  refine x_iconst (v := 0) dX4_keep_36 rfl ?_
  refine x_istore_n (lo' := [some (.ref (w.1 4)), some (.int x1), some (.int 0)]) dX4_keep_37 rfl (Nat.le_of_ble_eq_true rfl) rfl ?_
  exact hT f0 h hW hF
theorem eX4_keep {l : Launch} {E : EN} {w : CO} {d : Nat} {s : CS} {f : RH} {Q : KO → CS → RH → Prop} {x1 : Int32}  (hst : l.stackTraces = false) (hT : (¬ (0 : Int32) < 0 ∧ ¬ (8 * x1) < 0 ∧ ¬ (8 : Int32) < 0 ∧ (0 : Int32).toNatClampNeg + (8 : Int32).toNatClampNeg ≤ 8 ∧ (8 * x1).toNatClampNeg + (8 : Int32).toNatClampNeg ≤ 56 ∧ (∀ i, i < (8 : Int32).toNatClampNeg → fits (AT 0) (.int (s.2.2.1 42 ((0 : Int32).toNatClampNeg + i))) = true) ∧ (¬ (0 : Int32) < 0 ∧ ¬ (8 * x1) < 0 ∧ ¬ (8 : Int32) < 0 ∧ (0 : Int32).toNatClampNeg + (8 : Int32).toNatClampNeg ≤ 8 ∧ (8 * x1).toNatClampNeg + (8 : Int32).toNatClampNeg ≤ 56 ∧ (∀ i, i < (8 : Int32).toNatClampNeg → fits (AT 3) (.int ((uC s 42 43 (0 : Int32).toNatClampNeg (8 * x1).toNatClampNeg (8 : Int32).toNatClampNeg).2.2.1 46 ((0 : Int32).toNatClampNeg + i))) = true) ∧ ExC l E w (d + 1) MX4_keep 38 [some (.ref (w.1 4)), some (.int x1), some (.int 0)] [] (uC (uC s 42 43 (0 : Int32).toNatClampNeg (8 * x1).toNatClampNeg (8 : Int32).toNatClampNeg) 46 47 (0 : Int32).toNatClampNeg (8 * x1).toNatClampNeg (8 : Int32).toNatClampNeg) f Q))) : EvC l E w (d + 1) MX4_keep [.ref (w.1 4), .int x1] s f Q :=
  EvC.of hst (by decide) (Nat.le_of_ble_eq_true rfl) (vX4_keep_0  hT)
theorem vX4_keep_38 {l : Launch} {E : EN} {w : CO} {d : Nat} {s : CS} {f : RH} {Q : KO → CS → RH → Prop} {b1 : Int32} {b2 : Int32}  (hT : ((8 ≤ b2 → Q (.inl none) s f) ∧ (¬ 8 ≤ b2 → (inB b2 8 ∧ ∃ v1 : Value, (s.2.2.2 44 b2.toNatClampNeg) = v1 ∧ isR v1 = true ∧ (inB ((8 * b1) + b2) 56 ∧ isT f v1 ∧ ExC l E w (d + 1) MX4_keep 38 [some (.ref (w.1 4)), some (.int b1), some (.int (b2 + 1))] [] (uT s 45 ((8 * b1) + b2).toNatClampNeg v1) f Q))))) : ExC l E w (d + 1) MX4_keep 38 [some (.ref (w.1 4)), some (.int b1), some (.int b2)] [] s f Q := by
  intro f0 h hW hF
  refine x_iload_n dX4_keep_38 rfl rfl ?_
  refine x_bipush (v := 8) dX4_keep_39 rfl ?_
  refine x_icmp_ge (tgt := 67) dX4_keep_41 rfl (fun c => ?_) (fun c => ?_)
  · replace hT := hT.1 c
    exact x_vret dX4_keep_67 rfl ⟨_, _, hW, hF, Or.inl ⟨_, rfl, hT⟩⟩
  · replace hT := hT.2 c
    refine x_aload_n dX4_keep_44 rfl rfl rfl ?_
    refine c_getA dX4_keep_45 f_TallySlate_Shelves_24 (by decide) (by decide) rfl hW ?_
    refine x_bipush (v := 8) dX4_keep_48 rfl ?_
    refine x_iload_n dX4_keep_50 rfl rfl ?_
    refine x_imul dX4_keep_51 ?_
    refine x_iload_n dX4_keep_52 rfl rfl ?_
    refine x_iadd dX4_keep_53 ?_
    refine x_aload_n dX4_keep_54 rfl rfl rfl ?_
    refine c_getA dX4_keep_55 f_TallySlate_Shelves_20 (by decide) (by decide) rfl hW ?_
    refine x_iload_n dX4_keep_58 rfl rfl ?_
    obtain ⟨hb, v1, ev, iv1, hT⟩ := hT
    refine c_aald (v := v1) dX4_keep_59 rfl hb hW ev ?_
    obtain ⟨hb, ht, hT⟩ := hT
    refine c_aast dX4_keep_60 rfl hb ht hW ?_
    intro h hW
    refine x_iinc (lo' := [some (.ref (w.1 4)), some (.int b1), some (.int (b2 + 1))]) dX4_keep_61 rfl (show _ = (b2 + 1) from rfl) rfl ?_
    refine x_goto (tgt := 38) dX4_keep_64 rfl ?_
    exact hT f0 h hW hF
theorem vX4_back_0 {l : Launch} {E : EN} {w : CO} {d : Nat} {s : CS} {f : RH} {Q : KO → CS → RH → Prop} {x1 : Int32}  (hT : (¬ (8 * x1) < 0 ∧ ¬ (0 : Int32) < 0 ∧ ¬ (8 : Int32) < 0 ∧ (8 * x1).toNatClampNeg + (8 : Int32).toNatClampNeg ≤ 56 ∧ (0 : Int32).toNatClampNeg + (8 : Int32).toNatClampNeg ≤ 8 ∧ (∀ i, i < (8 : Int32).toNatClampNeg → fits (AT 0) (.int (s.2.2.1 43 ((8 * x1).toNatClampNeg + i))) = true) ∧ (¬ (8 * x1) < 0 ∧ ¬ (0 : Int32) < 0 ∧ ¬ (8 : Int32) < 0 ∧ (8 * x1).toNatClampNeg + (8 : Int32).toNatClampNeg ≤ 56 ∧ (0 : Int32).toNatClampNeg + (8 : Int32).toNatClampNeg ≤ 8 ∧ (∀ i, i < (8 : Int32).toNatClampNeg → fits (AT 3) (.int ((uC s 43 42 (8 * x1).toNatClampNeg (0 : Int32).toNatClampNeg (8 : Int32).toNatClampNeg).2.2.1 47 ((8 * x1).toNatClampNeg + i))) = true) ∧ ExC l E w (d + 1) MX4_back 38 [some (.ref (w.1 4)), some (.int x1), some (.int 0)] [] (uC (uC s 43 42 (8 * x1).toNatClampNeg (0 : Int32).toNatClampNeg (8 : Int32).toNatClampNeg) 47 46 (8 * x1).toNatClampNeg (0 : Int32).toNatClampNeg (8 : Int32).toNatClampNeg) f Q))) : ExC l E w (d + 1) MX4_back 0 [some (.ref (w.1 4)), some (.int x1), none] [] s f Q := by
  intro f0 h hW hF
  refine x_aload_n dX4_back_0 rfl rfl rfl ?_
  refine c_getA dX4_back_1 f_TallySlate_Shelves_15 (by decide) (by decide) rfl hW ?_
  refine x_bipush (v := 8) dX4_back_4 rfl ?_
  refine x_iload_n dX4_back_6 rfl rfl ?_
  refine x_imul dX4_back_7 ?_
  refine x_aload_n dX4_back_8 rfl rfl rfl ?_
  refine c_getA dX4_back_9 f_TallySlate_Shelves_9 (by decide) (by decide) rfl hW ?_
  refine x_iconst (v := 0) dX4_back_12 rfl ?_
  refine x_bipush (v := 8) dX4_back_13 rfl ?_
  obtain ⟨h1, h2, h3, h4, h5, hfit, hT⟩ := hT
  refine c_copyS dX4_back_15 q1317 q573 q572 q177 rfl rfl (by decide) h1 h2 h3 h4 h5 hfit (Nat.le_of_ble_eq_true rfl) rfl hW ?_
  intro h hW
  refine x_aload_n dX4_back_18 rfl rfl rfl ?_
  refine c_getA dX4_back_19 f_TallySlate_Shelves_31 (by decide) (by decide) rfl hW ?_
  refine x_bipush (v := 8) dX4_back_22 rfl ?_
  refine x_iload_n dX4_back_24 rfl rfl ?_
  refine x_imul dX4_back_25 ?_
  refine x_aload_n dX4_back_26 rfl rfl rfl ?_
  refine c_getA dX4_back_27 f_TallySlate_Shelves_27 (by decide) (by decide) rfl hW ?_
  refine x_iconst (v := 0) dX4_back_30 rfl ?_
  refine x_bipush (v := 8) dX4_back_31 rfl ?_
  obtain ⟨h1, h2, h3, h4, h5, hfit, hT⟩ := hT
  refine c_copyS dX4_back_33 q1317 q573 q572 q177 rfl rfl (by decide) h1 h2 h3 h4 h5 hfit (Nat.le_of_ble_eq_true rfl) rfl hW ?_
  intro h hW
  refine x_iconst (v := 0) dX4_back_36 rfl ?_
  refine x_istore_n (lo' := [some (.ref (w.1 4)), some (.int x1), some (.int 0)]) dX4_back_37 rfl (Nat.le_of_ble_eq_true rfl) rfl ?_
  exact hT f0 h hW hF
theorem eX4_back {l : Launch} {E : EN} {w : CO} {d : Nat} {s : CS} {f : RH} {Q : KO → CS → RH → Prop} {x1 : Int32}  (hst : l.stackTraces = false) (hT : (¬ (8 * x1) < 0 ∧ ¬ (0 : Int32) < 0 ∧ ¬ (8 : Int32) < 0 ∧ (8 * x1).toNatClampNeg + (8 : Int32).toNatClampNeg ≤ 56 ∧ (0 : Int32).toNatClampNeg + (8 : Int32).toNatClampNeg ≤ 8 ∧ (∀ i, i < (8 : Int32).toNatClampNeg → fits (AT 0) (.int (s.2.2.1 43 ((8 * x1).toNatClampNeg + i))) = true) ∧ (¬ (8 * x1) < 0 ∧ ¬ (0 : Int32) < 0 ∧ ¬ (8 : Int32) < 0 ∧ (8 * x1).toNatClampNeg + (8 : Int32).toNatClampNeg ≤ 56 ∧ (0 : Int32).toNatClampNeg + (8 : Int32).toNatClampNeg ≤ 8 ∧ (∀ i, i < (8 : Int32).toNatClampNeg → fits (AT 3) (.int ((uC s 43 42 (8 * x1).toNatClampNeg (0 : Int32).toNatClampNeg (8 : Int32).toNatClampNeg).2.2.1 47 ((8 * x1).toNatClampNeg + i))) = true) ∧ ExC l E w (d + 1) MX4_back 38 [some (.ref (w.1 4)), some (.int x1), some (.int 0)] [] (uC (uC s 43 42 (8 * x1).toNatClampNeg (0 : Int32).toNatClampNeg (8 : Int32).toNatClampNeg) 47 46 (8 * x1).toNatClampNeg (0 : Int32).toNatClampNeg (8 : Int32).toNatClampNeg) f Q))) : EvC l E w (d + 1) MX4_back [.ref (w.1 4), .int x1] s f Q :=
  EvC.of hst (by decide) (Nat.le_of_ble_eq_true rfl) (vX4_back_0  hT)
theorem vX4_back_38 {l : Launch} {E : EN} {w : CO} {d : Nat} {s : CS} {f : RH} {Q : KO → CS → RH → Prop} {b1 : Int32} {b2 : Int32}  (hT : ((8 ≤ b2 → Q (.inl none) s f) ∧ (¬ 8 ≤ b2 → (inB ((8 * b1) + b2) 56 ∧ ∃ v1 : Value, (s.2.2.2 45 ((8 * b1) + b2).toNatClampNeg) = v1 ∧ isR v1 = true ∧ (inB b2 8 ∧ isT f v1 ∧ ExC l E w (d + 1) MX4_back 38 [some (.ref (w.1 4)), some (.int b1), some (.int (b2 + 1))] [] (uT s 44 b2.toNatClampNeg v1) f Q))))) : ExC l E w (d + 1) MX4_back 38 [some (.ref (w.1 4)), some (.int b1), some (.int b2)] [] s f Q := by
  intro f0 h hW hF
  refine x_iload_n dX4_back_38 rfl rfl ?_
  refine x_bipush (v := 8) dX4_back_39 rfl ?_
  refine x_icmp_ge (tgt := 67) dX4_back_41 rfl (fun c => ?_) (fun c => ?_)
  · replace hT := hT.1 c
    exact x_vret dX4_back_67 rfl ⟨_, _, hW, hF, Or.inl ⟨_, rfl, hT⟩⟩
  · replace hT := hT.2 c
    refine x_aload_n dX4_back_44 rfl rfl rfl ?_
    refine c_getA dX4_back_45 f_TallySlate_Shelves_20 (by decide) (by decide) rfl hW ?_
    refine x_iload_n dX4_back_48 rfl rfl ?_
    refine x_aload_n dX4_back_49 rfl rfl rfl ?_
    refine c_getA dX4_back_50 f_TallySlate_Shelves_24 (by decide) (by decide) rfl hW ?_
    refine x_bipush (v := 8) dX4_back_53 rfl ?_
    refine x_iload_n dX4_back_55 rfl rfl ?_
    refine x_imul dX4_back_56 ?_
    refine x_iload_n dX4_back_57 rfl rfl ?_
    refine x_iadd dX4_back_58 ?_
    obtain ⟨hb, v1, ev, iv1, hT⟩ := hT
    refine c_aald (v := v1) dX4_back_59 rfl hb hW ev ?_
    obtain ⟨hb, ht, hT⟩ := hT
    refine c_aast dX4_back_60 rfl hb ht hW ?_
    intro h hW
    refine x_iinc (lo' := [some (.ref (w.1 4)), some (.int b1), some (.int (b2 + 1))]) dX4_back_61 rfl (show _ = (b2 + 1) from rfl) rfl ?_
    refine x_goto (tgt := 38) dX4_back_64 rfl ?_
    exact hT f0 h hW hF
theorem vX4_mark_0 {l : Launch} {E : EN} {w : CO} {d : Nat} {s : CS} {f : RH} {Q : KO → CS → RH → Prop}   (hT : ((¬ (s.1 48) = 6 → (EvC l E w d MX4_keep [.ref (w.1 4), .int (s.1 48)] s f (fun o s1 f2 => KP o (fun r => r = none ∧ Q (.inl (some (.int ((s1.1 48) + 1)))) (uI s1 48 ((s1.1 48) + 1)) f2) (fun k => Q (.inr k) s1 f2)))) ∧ ((s.1 48) = 6 → (¬ (8 : Int32) < 0 ∧ ¬ (0 : Int32) < 0 ∧ ¬ (40 : Int32) < 0 ∧ (8 : Int32).toNatClampNeg + (40 : Int32).toNatClampNeg ≤ 56 ∧ (0 : Int32).toNatClampNeg + (40 : Int32).toNatClampNeg ≤ 56 ∧ (∀ i, i < (40 : Int32).toNatClampNeg → fits (AT 0) (.int (s.2.2.1 43 ((8 : Int32).toNatClampNeg + i))) = true) ∧ (¬ (8 : Int32) < 0 ∧ ¬ (0 : Int32) < 0 ∧ ¬ (40 : Int32) < 0 ∧ (8 : Int32).toNatClampNeg + (40 : Int32).toNatClampNeg ≤ 56 ∧ (0 : Int32).toNatClampNeg + (40 : Int32).toNatClampNeg ≤ 56 ∧ (∀ i, i < (40 : Int32).toNatClampNeg → fits (AT 3) (.int ((uC s 43 43 (8 : Int32).toNatClampNeg (0 : Int32).toNatClampNeg (40 : Int32).toNatClampNeg).2.2.1 47 ((8 : Int32).toNatClampNeg + i))) = true) ∧ ExC l E w (d + 1) MX4_mark 43 [some (.ref (w.1 4)), some (.int 0)] [] (uC (uC s 43 43 (8 : Int32).toNatClampNeg (0 : Int32).toNatClampNeg (40 : Int32).toNatClampNeg) 47 47 (8 : Int32).toNatClampNeg (0 : Int32).toNatClampNeg (40 : Int32).toNatClampNeg) f Q))))) : ExC l E w (d + 1) MX4_mark 0 [some (.ref (w.1 4)), none] [] s f Q := by
  intro f0 h hW hF
  refine x_aload_n dX4_mark_0 rfl rfl rfl ?_
  refine c_getI (v := (s.1 48)) dX4_mark_1 f_TallySlate_Shelves_40 (by decide) (by decide) rfl hW rfl ?_
  refine x_bipush (v := 6) dX4_mark_4 rfl ?_
  refine x_icmp_ne (tgt := 80) dX4_mark_6 rfl (fun c => ?_) (fun c => ?_)
  · replace hT := hT.1 c
    refine x_aload_n dX4_mark_80 rfl rfl rfl ?_
    refine x_aload_n dX4_mark_81 rfl rfl rfl ?_
    refine c_getI (v := (s.1 48)) dX4_mark_82 f_TallySlate_Shelves_40 (by decide) (by decide) rfl hW rfl ?_
    obtain ⟨-, -, cc, hcc, -⟩ := hW.ob 4 (by decide)
    refine c_invV (vs := [.int (s.1 48)]) dX4_mark_85 oX4_keep q1314 q2139 hcc q1315 (Or.inl rfl) rfl rfl (Nat.le_of_ble_eq_true rfl) rfl hW hF hT ?_ ?_
    · intro _ s1 f2 hT h hW hF
      obtain ⟨rfl, hT⟩ := hT
      refine x_aload_n dX4_mark_88 rfl rfl rfl ?_
      refine x_dup dX4_mark_89 rfl ?_
      refine c_getI (v := (s1.1 48)) dX4_mark_90 f_TallySlate_Shelves_40 (by decide) (by decide) rfl hW rfl ?_
      refine x_iconst (v := 1) dX4_mark_93 rfl ?_
      refine x_iadd dX4_mark_94 ?_
      refine c_putI dX4_mark_95 f_TallySlate_Shelves_40 (by decide) (by decide) rfl rfl rfl rfl hW ?_
      intro h hW
      refine x_aload_n dX4_mark_98 rfl rfl rfl ?_
      refine c_getI (v := ((s1.1 48) + 1)) dX4_mark_99 f_TallySlate_Shelves_40 (by decide) (by decide) rfl hW rfl ?_
      exact x_iret dX4_mark_102 rfl rfl ⟨_, _, hW, hF, Or.inl ⟨_, rfl, hT⟩⟩
    · intro k s1 f2 hT h a hW hx hF
      exact c_out (rfl) hW hx hF hT
  · replace hT := hT.2 c
    refine x_aload_n dX4_mark_9 rfl rfl rfl ?_
    refine c_getA dX4_mark_10 f_TallySlate_Shelves_15 (by decide) (by decide) rfl hW ?_
    refine x_bipush (v := 8) dX4_mark_13 rfl ?_
    refine x_aload_n dX4_mark_15 rfl rfl rfl ?_
    refine c_getA dX4_mark_16 f_TallySlate_Shelves_15 (by decide) (by decide) rfl hW ?_
    refine x_iconst (v := 0) dX4_mark_19 rfl ?_
    refine x_bipush (v := 40) dX4_mark_20 rfl ?_
    obtain ⟨h1, h2, h3, h4, h5, hfit, hT⟩ := hT
    refine c_copyS dX4_mark_22 q1317 q573 q572 q177 rfl rfl (by decide) h1 h2 h3 h4 h5 hfit (Nat.le_of_ble_eq_true rfl) rfl hW ?_
    intro h hW
    refine x_aload_n dX4_mark_25 rfl rfl rfl ?_
    refine c_getA dX4_mark_26 f_TallySlate_Shelves_31 (by decide) (by decide) rfl hW ?_
    refine x_bipush (v := 8) dX4_mark_29 rfl ?_
    refine x_aload_n dX4_mark_31 rfl rfl rfl ?_
    refine c_getA dX4_mark_32 f_TallySlate_Shelves_31 (by decide) (by decide) rfl hW ?_
    refine x_iconst (v := 0) dX4_mark_35 rfl ?_
    refine x_bipush (v := 40) dX4_mark_36 rfl ?_
    obtain ⟨h1, h2, h3, h4, h5, hfit, hT⟩ := hT
    refine c_copyS dX4_mark_38 q1317 q573 q572 q177 rfl rfl (by decide) h1 h2 h3 h4 h5 hfit (Nat.le_of_ble_eq_true rfl) rfl hW ?_
    intro h hW
    refine x_iconst (v := 0) dX4_mark_41 rfl ?_
    refine x_istore_n (lo' := [some (.ref (w.1 4)), some (.int 0)]) dX4_mark_42 rfl (Nat.le_of_ble_eq_true rfl) rfl ?_
    exact hT f0 h hW hF
theorem eX4_mark {l : Launch} {E : EN} {w : CO} {d : Nat} {s : CS} {f : RH} {Q : KO → CS → RH → Prop}   (hst : l.stackTraces = false) (hT : ((¬ (s.1 48) = 6 → (EvC l E w d MX4_keep [.ref (w.1 4), .int (s.1 48)] s f (fun o s1 f2 => KP o (fun r => r = none ∧ Q (.inl (some (.int ((s1.1 48) + 1)))) (uI s1 48 ((s1.1 48) + 1)) f2) (fun k => Q (.inr k) s1 f2)))) ∧ ((s.1 48) = 6 → (¬ (8 : Int32) < 0 ∧ ¬ (0 : Int32) < 0 ∧ ¬ (40 : Int32) < 0 ∧ (8 : Int32).toNatClampNeg + (40 : Int32).toNatClampNeg ≤ 56 ∧ (0 : Int32).toNatClampNeg + (40 : Int32).toNatClampNeg ≤ 56 ∧ (∀ i, i < (40 : Int32).toNatClampNeg → fits (AT 0) (.int (s.2.2.1 43 ((8 : Int32).toNatClampNeg + i))) = true) ∧ (¬ (8 : Int32) < 0 ∧ ¬ (0 : Int32) < 0 ∧ ¬ (40 : Int32) < 0 ∧ (8 : Int32).toNatClampNeg + (40 : Int32).toNatClampNeg ≤ 56 ∧ (0 : Int32).toNatClampNeg + (40 : Int32).toNatClampNeg ≤ 56 ∧ (∀ i, i < (40 : Int32).toNatClampNeg → fits (AT 3) (.int ((uC s 43 43 (8 : Int32).toNatClampNeg (0 : Int32).toNatClampNeg (40 : Int32).toNatClampNeg).2.2.1 47 ((8 : Int32).toNatClampNeg + i))) = true) ∧ ExC l E w (d + 1) MX4_mark 43 [some (.ref (w.1 4)), some (.int 0)] [] (uC (uC s 43 43 (8 : Int32).toNatClampNeg (0 : Int32).toNatClampNeg (40 : Int32).toNatClampNeg) 47 47 (8 : Int32).toNatClampNeg (0 : Int32).toNatClampNeg (40 : Int32).toNatClampNeg) f Q))))) : EvC l E w (d + 1) MX4_mark [.ref (w.1 4)] s f Q :=
  EvC.of hst (by decide) (Nat.le_of_ble_eq_true rfl) (vX4_mark_0  hT)
theorem vX4_mark_43 {l : Launch} {E : EN} {w : CO} {d : Nat} {s : CS} {f : RH} {Q : KO → CS → RH → Prop} {b1 : Int32}  (hT : ((40 ≤ b1 → (EvC l E w d MX4_keep [.ref (w.1 4), .int ((s.1 48) - 1)] (uI s 48 ((s.1 48) - 1)) f (fun o s3 f4 => KP o (fun r => r = none ∧ Q (.inl (some (.int ((s3.1 48) + 1)))) (uI s3 48 ((s3.1 48) + 1)) f4) (fun k => Q (.inr k) s3 f4)))) ∧ (¬ 40 ≤ b1 → (inB (b1 + 8) 56 ∧ ∃ v5 : Value, (s.2.2.2 45 (b1 + 8).toNatClampNeg) = v5 ∧ isR v5 = true ∧ (inB b1 56 ∧ isT f v5 ∧ ExC l E w (d + 1) MX4_mark 43 [some (.ref (w.1 4)), some (.int (b1 + 1))] [] (uT s 45 b1.toNatClampNeg v5) f Q))))) : ExC l E w (d + 1) MX4_mark 43 [some (.ref (w.1 4)), some (.int b1)] [] s f Q := by
  intro f0 h hW hF
  refine x_iload_n dX4_mark_43 rfl rfl ?_
  refine x_bipush (v := 40) dX4_mark_44 rfl ?_
  refine x_icmp_ge (tgt := 70) dX4_mark_46 rfl (fun c => ?_) (fun c => ?_)
  · replace hT := hT.1 c
    refine x_aload_n dX4_mark_70 rfl rfl rfl ?_
    refine x_dup dX4_mark_71 rfl ?_
    refine c_getI (v := (s.1 48)) dX4_mark_72 f_TallySlate_Shelves_40 (by decide) (by decide) rfl hW rfl ?_
    refine x_iconst (v := 1) dX4_mark_75 rfl ?_
    refine x_isub dX4_mark_76 ?_
    refine c_putI dX4_mark_77 f_TallySlate_Shelves_40 (by decide) (by decide) rfl rfl rfl rfl hW ?_
    intro h hW
    refine x_aload_n dX4_mark_80 rfl rfl rfl ?_
    refine x_aload_n dX4_mark_81 rfl rfl rfl ?_
    refine c_getI (v := ((s.1 48) - 1)) dX4_mark_82 f_TallySlate_Shelves_40 (by decide) (by decide) rfl hW rfl ?_
    obtain ⟨-, -, cc, hcc, -⟩ := hW.ob 4 (by decide)
    refine c_invV (vs := [.int ((s.1 48) - 1)]) dX4_mark_85 oX4_keep q1314 q2139 hcc q1315 (Or.inl rfl) rfl rfl (Nat.le_of_ble_eq_true rfl) rfl hW hF hT ?_ ?_
    · intro _ s3 f4 hT h hW hF
      obtain ⟨rfl, hT⟩ := hT
      refine x_aload_n dX4_mark_88 rfl rfl rfl ?_
      refine x_dup dX4_mark_89 rfl ?_
      refine c_getI (v := (s3.1 48)) dX4_mark_90 f_TallySlate_Shelves_40 (by decide) (by decide) rfl hW rfl ?_
      refine x_iconst (v := 1) dX4_mark_93 rfl ?_
      refine x_iadd dX4_mark_94 ?_
      refine c_putI dX4_mark_95 f_TallySlate_Shelves_40 (by decide) (by decide) rfl rfl rfl rfl hW ?_
      intro h hW
      refine x_aload_n dX4_mark_98 rfl rfl rfl ?_
      refine c_getI (v := ((s3.1 48) + 1)) dX4_mark_99 f_TallySlate_Shelves_40 (by decide) (by decide) rfl hW rfl ?_
      exact x_iret dX4_mark_102 rfl rfl ⟨_, _, hW, hF, Or.inl ⟨_, rfl, hT⟩⟩
    · intro k s3 f4 hT h a hW hx hF
      exact c_out (rfl) hW hx hF hT
  · replace hT := hT.2 c
    refine x_aload_n dX4_mark_49 rfl rfl rfl ?_
    refine c_getA dX4_mark_50 f_TallySlate_Shelves_24 (by decide) (by decide) rfl hW ?_
    refine x_iload_n dX4_mark_53 rfl rfl ?_
    refine x_aload_n dX4_mark_54 rfl rfl rfl ?_
    refine c_getA dX4_mark_55 f_TallySlate_Shelves_24 (by decide) (by decide) rfl hW ?_
    refine x_iload_n dX4_mark_58 rfl rfl ?_
    refine x_bipush (v := 8) dX4_mark_59 rfl ?_
    refine x_iadd dX4_mark_61 ?_
    obtain ⟨hb, v5, ev, iv5, hT⟩ := hT
    refine c_aald (v := v5) dX4_mark_62 rfl hb hW ev ?_
    obtain ⟨hb, ht, hT⟩ := hT
    refine c_aast dX4_mark_63 rfl hb ht hW ?_
    intro h hW
    refine x_iinc (lo' := [some (.ref (w.1 4)), some (.int (b1 + 1))]) dX4_mark_64 rfl (show _ = (b1 + 1) from rfl) rfl ?_
    refine x_goto (tgt := 43) dX4_mark_67 rfl ?_
    exact hT f0 h hW hF
set_option maxHeartbeats 16000000 in
theorem vX6_changed_0 {l : Launch} {E : EN} {w : CO} {d : Nat} {s : CS} {f : RH} {Q : KO → CS → RH → Prop} {x1 : Nat} {x2 : Int32} {x3 : Int32} {x4 : Int32} {x5 : Nat}  (hT : (isT f (.ref x1) ∧ ((tg f x1 = some (.inl 29) → (tg f x1 = some (.inl 29) ∧ (oc f x1 29 ∧ (∃ a2 : Nat, vl f x1 203 = .ref a2 ∧ (tg f a2 = some (.inr 0) ∧ ez E ≤ a2 ∧ (∀ i, i < ln f a2 → ∃ x : Int32, vl f a2 i = .int x) ∧ rmF E f 1 (ln f a2) ∧ ∀ (a3 : Nat) (f4 : RH), a3 = f.1 → f4 = fpush f (.inr 0, ln f a2, vl f a2) (ln f a2) → (tg f4 a3 = some (.inr 0) ∧ ez E ≤ a3 ∧ (inB x3 8400 ∧ (tg f4 a3 = some (.inr 0) ∧ ((inB x2 (ln f4 a3) → (f4.2.2.2 ≤ a3 ∧ ∀ f5 : RH, f5 = fset f4 a3 x2.toNatClampNeg (.int (s.2.2.1 24 x3.toNatClampNeg)) → (rmF E f5 1 1 ∧ ∀ (a6 : Nat) (f7 : RH), a6 = f5.1 → f7 = fnew f5 29 → (EvC l E w d MX32_init [.ref a6, .ref a3] s f7 (fun o s8 f9 => KP o (fun r => r = none ∧ Q (.inl (some (.ref a6))) s8 f9) (fun k => Q (.inr k) s8 f9)))))) ∧ (¬ inB x2 (ln f4 a3) → (ln f4 a3 < 2 ^ 31 ∧ rmF E f4 3 222 ∧ (∀ (a11 : Nat) (f10 : RH), f10 = fexc f4 → Q (.inr 35) s f10)))))))))))) ∧ (¬ tg f x1 = some (.inl 29) → (isT f (.ref x1) ∧ ((tg f x1 = some (.inl 30) → (tg f x1 = some (.inl 30) ∧ (oc f x1 30 ∧ (∃ a13 : Nat, vl f x1 204 = .ref a13 ∧ (∃ t14 : Nat, tg f a13 = some (.inr t14) ∧ (¬ (nI (ln f a13)) < 0 ∧ (nI (ln f a13)).toNatClampNeg ≤ 60000000 ∧ rmF E f 1 (nI (ln f a13)).toNatClampNeg ∧ ∀ (a15 : Nat) (f16 : RH), a15 = f.1 → f16 = fnewA f 11 (nI (ln f a13)).toNatClampNeg → ExC l E w (d + 1) MX6_changed 76 [some (.ref (w.1 6)), none, some (.int x2), some (.int x3), some (.int x4), some (.ref x5), some (.ref x1), some (.ref a15), some (.int 0)] [] s f16 Q)))))) ∧ (¬ tg f x1 = some (.inl 30) → (∃ P23 : KO → CS → RH → Prop, (∀ o s17 f18, P23 o s17 f18 → KP o (fun r => ∃ v19 : Int32, r = some (.int v19) ∧ (¬ v19 < 0 ∧ v19.toNatClampNeg ≤ 60000000 ∧ rmF E f18 1 v19.toNatClampNeg ∧ ∀ (a20 : Nat) (f21 : RH), a20 = f18.1 → f21 = fnewA f18 4 v19.toNatClampNeg → ExC l E w (d + 1) MX6_changed 181 [some (.ref (w.1 6)), some (.ref x1), some (.int x2), some (.int x3), none, some (.ref x5), some (.ref a20), some (.int 0), none] [] s17 f21 Q)) (fun k => Q (.inr k) s17 f18)) ∧ ∃ k22 : Nat, oc f x1 k22 ∧ ((k22 = 29 ∧ EvC l E w d MX32_size [.ref x1] s f P23) ∨ (k22 = 30 ∧ EvC l E w d MX33_size [.ref x1] s f P23) ∨ (k22 = 31 ∧ EvC l E w d MX34_size [.ref x1] s f P23) ∨ (k22 = 32 ∧ EvC l E w d MX35_size [.ref x1] s f P23)))))))))) : ExC l E w (d + 1) MX6_changed 0 [some (.ref (w.1 6)), some (.ref x1), some (.int x2), some (.int x3), some (.int x4), some (.ref x5), none, none, none] [] s f Q := by
  intro f0 h hW hF
  refine x_aload_n dX6_changed_0 rfl rfl rfl ?_
  obtain ⟨ht, hT⟩ := hT
  refine c_inst (K := 29) dX6_changed_1 (by decide) q1540 ht hW (fun hi1 => ?_) (fun hi1 => ?_)
  · replace hT := hT.1 hi1
    refine x_if_eq (tgt := 49) dX6_changed_4 rfl (fun c => absurd c (by decide)) (fun _ => ?_)
    refine x_aload_n dX6_changed_7 rfl rfl rfl ?_
    obtain ⟨hc, hT⟩ := hT
    refine c_cast (K := 29) dX6_changed_8 q1540 hc hW ?_
    refine x_astore (lo' := [some (.ref (w.1 6)), some (.ref x1), some (.int x2), some (.int x3), some (.int x4), some (.ref x5), some (.ref x1), none, none]) dX6_changed_11 (Nat.le_of_ble_eq_true rfl) rfl rfl ?_
    refine x_aload dX6_changed_13 rfl rfl ?_
    obtain ⟨hc, hT⟩ := hT
    obtain ⟨a2, ev, hT⟩ := hT
    refine c_fgetG dX6_changed_15 f_TallySlate_Maker_60 hc (by decide) (by decide) hW ev ?_
    obtain ⟨ha, hz, hfit, hr, hT⟩ := hT
    refine c_clone dX6_changed_18 q1951 sm_clone q1794 q1795 q1796 q1797 ha hz hfit (Nat.le_of_ble_eq_true rfl) rfl hr hW hF ?_
    intro a3 f4 ea3 ef4 h hW hF
    replace hT := hT a3 f4 ea3 ef4
    obtain ⟨hc, hz, hT⟩ := hT
    refine c_castA dX6_changed_21 q1543 hc hz hW ?_
    refine x_astore (lo' := [some (.ref (w.1 6)), some (.ref x1), some (.int x2), some (.int x3), some (.int x4), some (.ref x5), some (.ref x1), some (.ref a3), none]) dX6_changed_24 (Nat.le_of_ble_eq_true rfl) rfl rfl ?_
    refine x_aload dX6_changed_26 rfl rfl ?_
    refine x_iload_n dX6_changed_28 rfl rfl ?_
    refine x_aload_n dX6_changed_29 rfl rfl rfl ?_
    refine c_getO dX6_changed_30 f_TallySlate_Maker_9 (by decide) (by decide) rfl hW ?_
    refine c_getA dX6_changed_33 f_TallySlate_Maker_95 (by decide) (by decide) rfl hW ?_
    refine x_iload_n dX6_changed_36 rfl rfl ?_
    obtain ⟨hb, hT⟩ := hT
    refine c_iald (v := (s.2.2.1 24 x3.toNatClampNeg)) dX6_changed_37 rfl hb hW rfl ?_
    obtain ⟨hc, hT⟩ := hT
    by_cases hb : inB x2 (ln f4 a3)
    · obtain ⟨hz, hT⟩ := hT.1 hb
      refine c_fiastG dX6_changed_38 hc hb hz hW hF ?_
      intro f5 ef5 h hW hF
      replace hT := hT f5 ef5
      obtain ⟨hr, hT⟩ := hT
      refine c_newG (k := 29) dX6_changed_39 (by decide) q1540 q205 hr hW hF ?_
      intro a6 f7 ea6 ef7 h hW hF
      replace hT := hT a6 f7 ea6 ef7
      refine x_dup dX6_changed_42 rfl ?_
      refine x_aload dX6_changed_43 rfl rfl ?_
      refine c_invI (b := a6) (vs := [.ref a3]) dX6_changed_45 oX32_init rfl rfl rfl q1396 (Or.inl q1541) rfl rfl (Nat.le_of_ble_eq_true rfl) rfl hW hF hT ?_ ?_
      · intro _ s8 f9 hT h hW hF
        obtain ⟨rfl, hT⟩ := hT
        exact x_aret dX6_changed_48 rfl (by first | exact Or.inl ⟨_, rfl⟩ | exact Or.inr ⟨_, rfl⟩) rfl ⟨_, _, hW, hF, Or.inl ⟨_, rfl, hT⟩⟩
      · intro k s8 f9 hT h a hW hx hF
        exact c_out (rfl) hW hx hF hT
    · obtain ⟨hn, hr, hT⟩ := hT.2 hb
      refine c_fiastX dX6_changed_38 hc hn hb hr (Nat.le_of_ble_eq_true rfl) rfl hW hF ?_
      intro f10 ef10 h a11 hW hx hF
      replace hT := hT a11 f10 ef10
      exact c_out (rfl) hW hx hF hT
  · replace hT := hT.2 hi1
    refine x_if_eq (tgt := 49) dX6_changed_4 rfl (fun _ => ?_) (fun c => absurd c (by decide))
    refine x_aload_n dX6_changed_49 rfl rfl rfl ?_
    obtain ⟨ht, hT⟩ := hT
    refine c_inst (K := 30) dX6_changed_50 (by decide) q1542 ht hW (fun hi12 => ?_) (fun hi12 => ?_)
    · replace hT := hT.1 hi12
      refine x_if_eq (tgt := 169) dX6_changed_53 rfl (fun c => absurd c (by decide)) (fun _ => ?_)
      refine x_aload_n dX6_changed_56 rfl rfl rfl ?_
      obtain ⟨hc, hT⟩ := hT
      refine c_cast (K := 30) dX6_changed_57 q1542 hc hW ?_
      refine x_astore (lo' := [some (.ref (w.1 6)), some (.ref x1), some (.int x2), some (.int x3), some (.int x4), some (.ref x5), some (.ref x1), none, none]) dX6_changed_60 (Nat.le_of_ble_eq_true rfl) rfl rfl ?_
      refine x_aload dX6_changed_62 rfl rfl ?_
      obtain ⟨hc, hT⟩ := hT
      obtain ⟨a13, ev, hT⟩ := hT
      refine c_fgetG dX6_changed_64 f_TallySlate_Maker_123 hc (by decide) (by decide) hW ev ?_
      obtain ⟨t14, hc, hT⟩ := hT
      refine c_alen dX6_changed_67 hc hW ?_
      obtain ⟨hn, hT⟩ := hT
      obtain ⟨hb, hr, hT⟩ := hT
      refine c_anewarrayG (t := 11) dX6_changed_68 (by decide) (by decide) (by decide) rfl q1463 (Or.inr ⟨_, rfl, q1543⟩) hn hb hr hW hF ?_
      intro a15 f16 ea15 ef16 h hW hF
      replace hT := hT a15 f16 ea15 ef16
      refine x_astore (lo' := [some (.ref (w.1 6)), some (.ref x1), some (.int x2), some (.int x3), some (.int x4), some (.ref x5), some (.ref x1), some (.ref a15), none]) dX6_changed_71 (Nat.le_of_ble_eq_true rfl) rfl rfl ?_
      refine x_iconst (v := 0) dX6_changed_73 rfl ?_
      refine x_istore (lo' := [some (.ref (w.1 6)), some (.ref x1), some (.int x2), some (.int x3), some (.int x4), some (.ref x5), some (.ref x1), some (.ref a15), some (.int 0)]) dX6_changed_74 (Nat.le_of_ble_eq_true rfl) rfl ?_
      refine Ex.wkl (lo' := [some (.ref (w.1 6)), none, some (.int x2), some (.int x3), some (.int x4), some (.ref x5), some (.ref x1), some (.ref a15), some (.int 0)]) ⟨rfl, rfl, rfl, rfl, rfl, rfl, rfl, rfl, trivial⟩ ?_
      exact hT f0 h hW hF
    · replace hT := hT.2 hi12
      refine x_if_eq (tgt := 169) dX6_changed_53 rfl (fun _ => ?_) (fun c => absurd c (by decide))
      refine x_aload_n dX6_changed_169 rfl rfl rfl ?_
      obtain ⟨P23, hP, k22, hc, hT⟩ := hT
      have kr : ∀ r s17 f18, P23 (.inl r) s17 f18 → ∀ h, CW E w s17 f18 h → Frz f0 f18 → Ex l E (d + 1) MX6_changed (170 + 3) [some (.ref (w.1 6)), some (.ref x1), some (.int x2), some (.int x3), some (.int x4), some (.ref x5), none, none, none] (r.toList ++ []) h (PoC E w f0 Q) := by
        intro r s17 f18 h0 h hW hF
        have hT := hP _ _ _ h0
        clear h0
        obtain ⟨v19, rfl, hT⟩ := hT
        obtain ⟨hn, hT⟩ := hT
        obtain ⟨hb, hr, hT⟩ := hT
        refine c_anewarrayG (t := 4) dX6_changed_173 (by decide) (by decide) (by decide) rfl q337 (Or.inl ⟨_, rfl, q1551⟩) hn hb hr hW hF ?_
        intro a20 f21 ea20 ef21 h hW hF
        replace hT := hT a20 f21 ea20 ef21
        refine x_astore (lo' := [some (.ref (w.1 6)), some (.ref x1), some (.int x2), some (.int x3), some (.int x4), some (.ref x5), some (.ref a20), none, none]) dX6_changed_176 (Nat.le_of_ble_eq_true rfl) rfl rfl ?_
        refine x_iconst (v := 0) dX6_changed_178 rfl ?_
        refine x_istore (lo' := [some (.ref (w.1 6)), some (.ref x1), some (.int x2), some (.int x3), some (.int x4), some (.ref x5), some (.ref a20), some (.int 0), none]) dX6_changed_179 (Nat.le_of_ble_eq_true rfl) rfl ?_
        refine Ex.wkl (lo' := [some (.ref (w.1 6)), some (.ref x1), some (.int x2), some (.int x3), none, some (.ref x5), some (.ref a20), some (.int 0), none]) ⟨rfl, rfl, rfl, rfl, rfl, rfl, rfl, trivial⟩ ?_
        exact hT f0 h hW hF
      have kt : ∀ k s17 f18, P23 (.inr k) s17 f18 → ∀ h a, CW E w s17 f18 h → xA w h k a → Frz f0 f18 → ExT l E (d + 1) MX6_changed 170 [some (.ref (w.1 6)), some (.ref x1), some (.int x2), some (.int x3), some (.int x4), some (.ref x5), none, none, none] [] a h (PoC E w f0 Q) := by
        intro k s17 f18 h0 h a hW hx hF
        have hT := hP _ _ _ h0
        clear h0
        exact c_out (rfl) hW hx hF hT
      obtain ⟨cc, hcc⟩ := hW.ocell hc
      rcases hT with ⟨rfl, hT⟩ | ⟨rfl, hT⟩ | ⟨rfl, hT⟩ | ⟨rfl, hT⟩
      · exact c_invV (vs := []) dX6_changed_170 oX32_size q1454 q1957 hcc q1453 (Or.inr hy_Thing_size) rfl rfl (Nat.le_of_ble_eq_true rfl) rfl hW hF hT kr kt
      · exact c_invV (vs := []) dX6_changed_170 oX33_size q1457 q1957 hcc q1456 (Or.inr hy_Thing_size) rfl rfl (Nat.le_of_ble_eq_true rfl) rfl hW hF hT kr kt
      · exact c_invV (vs := []) dX6_changed_170 oX34_size q1451 q1957 hcc q1450 (Or.inr hy_Thing_size) rfl rfl (Nat.le_of_ble_eq_true rfl) rfl hW hF hT kr kt
      · exact c_invV (vs := []) dX6_changed_170 oX35_size q1460 q1957 hcc q1459 (Or.inr hy_Thing_size) rfl rfl (Nat.le_of_ble_eq_true rfl) rfl hW hF hT kr kt
theorem eX6_changed {l : Launch} {E : EN} {w : CO} {d : Nat} {s : CS} {f : RH} {Q : KO → CS → RH → Prop} {x1 : Nat} {x2 : Int32} {x3 : Int32} {x4 : Int32} {x5 : Nat}  (hst : l.stackTraces = false) (hT : (isT f (.ref x1) ∧ ((tg f x1 = some (.inl 29) → (tg f x1 = some (.inl 29) ∧ (oc f x1 29 ∧ (∃ a2 : Nat, vl f x1 203 = .ref a2 ∧ (tg f a2 = some (.inr 0) ∧ ez E ≤ a2 ∧ (∀ i, i < ln f a2 → ∃ x : Int32, vl f a2 i = .int x) ∧ rmF E f 1 (ln f a2) ∧ ∀ (a3 : Nat) (f4 : RH), a3 = f.1 → f4 = fpush f (.inr 0, ln f a2, vl f a2) (ln f a2) → (tg f4 a3 = some (.inr 0) ∧ ez E ≤ a3 ∧ (inB x3 8400 ∧ (tg f4 a3 = some (.inr 0) ∧ ((inB x2 (ln f4 a3) → (f4.2.2.2 ≤ a3 ∧ ∀ f5 : RH, f5 = fset f4 a3 x2.toNatClampNeg (.int (s.2.2.1 24 x3.toNatClampNeg)) → (rmF E f5 1 1 ∧ ∀ (a6 : Nat) (f7 : RH), a6 = f5.1 → f7 = fnew f5 29 → (EvC l E w d MX32_init [.ref a6, .ref a3] s f7 (fun o s8 f9 => KP o (fun r => r = none ∧ Q (.inl (some (.ref a6))) s8 f9) (fun k => Q (.inr k) s8 f9)))))) ∧ (¬ inB x2 (ln f4 a3) → (ln f4 a3 < 2 ^ 31 ∧ rmF E f4 3 222 ∧ (∀ (a11 : Nat) (f10 : RH), f10 = fexc f4 → Q (.inr 35) s f10)))))))))))) ∧ (¬ tg f x1 = some (.inl 29) → (isT f (.ref x1) ∧ ((tg f x1 = some (.inl 30) → (tg f x1 = some (.inl 30) ∧ (oc f x1 30 ∧ (∃ a13 : Nat, vl f x1 204 = .ref a13 ∧ (∃ t14 : Nat, tg f a13 = some (.inr t14) ∧ (¬ (nI (ln f a13)) < 0 ∧ (nI (ln f a13)).toNatClampNeg ≤ 60000000 ∧ rmF E f 1 (nI (ln f a13)).toNatClampNeg ∧ ∀ (a15 : Nat) (f16 : RH), a15 = f.1 → f16 = fnewA f 11 (nI (ln f a13)).toNatClampNeg → ExC l E w (d + 1) MX6_changed 76 [some (.ref (w.1 6)), none, some (.int x2), some (.int x3), some (.int x4), some (.ref x5), some (.ref x1), some (.ref a15), some (.int 0)] [] s f16 Q)))))) ∧ (¬ tg f x1 = some (.inl 30) → (∃ P23 : KO → CS → RH → Prop, (∀ o s17 f18, P23 o s17 f18 → KP o (fun r => ∃ v19 : Int32, r = some (.int v19) ∧ (¬ v19 < 0 ∧ v19.toNatClampNeg ≤ 60000000 ∧ rmF E f18 1 v19.toNatClampNeg ∧ ∀ (a20 : Nat) (f21 : RH), a20 = f18.1 → f21 = fnewA f18 4 v19.toNatClampNeg → ExC l E w (d + 1) MX6_changed 181 [some (.ref (w.1 6)), some (.ref x1), some (.int x2), some (.int x3), none, some (.ref x5), some (.ref a20), some (.int 0), none] [] s17 f21 Q)) (fun k => Q (.inr k) s17 f18)) ∧ ∃ k22 : Nat, oc f x1 k22 ∧ ((k22 = 29 ∧ EvC l E w d MX32_size [.ref x1] s f P23) ∨ (k22 = 30 ∧ EvC l E w d MX33_size [.ref x1] s f P23) ∨ (k22 = 31 ∧ EvC l E w d MX34_size [.ref x1] s f P23) ∨ (k22 = 32 ∧ EvC l E w d MX35_size [.ref x1] s f P23)))))))))) : EvC l E w (d + 1) MX6_changed [.ref (w.1 6), .ref x1, .int x2, .int x3, .int x4, .ref x5] s f Q :=
  EvC.of hst (by decide) (Nat.le_of_ble_eq_true rfl) (vX6_changed_0  hT)
set_option maxHeartbeats 16000000 in
theorem vX6_changed_76 {l : Launch} {E : EN} {w : CO} {d : Nat} {s : CS} {f : RH} {Q : KO → CS → RH → Prop} {b2 : Int32} {b3 : Int32} {b4 : Int32} {b5 : Nat} {b6 : Nat} {b7 : Nat} {b8 : Int32}  (hT : (∃ t24 : Nat, tg f b7 = some (.inr t24) ∧ (((nI (ln f b7)) ≤ b8 → (oc f b5 28 ∧ (∃ v25 : Value, vl f b5 201 = v25 ∧ isR v25 = true ∧ ((v25 = .null → (inB b3 8400 ∧ ∃ v27 : Value, (s.2.2.2 25 b3.toNatClampNeg) = v27 ∧ isR v27 = true ∧ (∃ a28 : Nat, v27 = .ref a28 ∧ (tg f a28 = some (.inl 29) ∧ (oc f a28 29 ∧ (∃ a29 : Nat, vl f a28 203 = .ref a29 ∧ (tg f b7 = some (.inr 11) ∧ tg f a29 = some (.inr 0) ∧ ez E ≤ a29 ∧ ((inB b2 (ln f b7) → (f.2.2.2 ≤ b7 ∧ ∀ f30 : RH, f30 = fset f b7 b2.toNatClampNeg (.ref a29) → (oc f30 b5 28 ∧ (∃ v31 : Int32, vl f30 b5 198 = .int v31 ∧ (EvC l E w d MX6_table [.ref (w.1 6), .ref b7, .int v31] s f30 (fun o s32 f33 => KP o (fun r => ∃ a34 : Nat, r = some (.ref a34) ∧ Q (.inl (some (.ref a34))) s32 f33) (fun k => Q (.inr k) s32 f33))))))) ∧ (¬ inB b2 (ln f b7) → (ln f b7 < 2 ^ 31 ∧ rmF E f 3 222 ∧ (∀ (a36 : Nat) (f35 : RH), f35 = fexc f → Q (.inr 35) s f35))))))))))) ∧ (∀ a26 : Nat, v25 = .ref a26 → (∃ t37 : Nat, 4 ≤ t37 ∧ (tg f b7 = some (.inr t37) ∧ ((inB b2 (ln f b7) → (∃ a38 : Nat, vl f b7 b2.toNatClampNeg = .ref a38 ∧ (inB b3 8400 ∧ (oc f b5 28 ∧ (∃ v39 : Int32, vl f b5 199 = .int v39 ∧ (EvC l E w d MX6_part [.ref (w.1 6), .ref a38, .int b4, .int (s.2.2.1 24 b3.toNatClampNeg), .int v39] s f (fun o s40 f41 => KP o (fun r => ∃ a42 : Nat, r = some (.ref a42) ∧ (tg f41 b7 = some (.inr 11) ∧ tg f41 a42 = some (.inr 0) ∧ ez E ≤ a42 ∧ ((inB b2 (ln f41 b7) → (f41.2.2.2 ≤ b7 ∧ ∀ f43 : RH, f43 = fset f41 b7 b2.toNatClampNeg (.ref a42) → (oc f43 b5 28 ∧ (∃ v44 : Int32, vl f43 b5 198 = .int v44 ∧ (EvC l E w d MX6_table [.ref (w.1 6), .ref b7, .int v44] s40 f43 (fun o s45 f46 => KP o (fun r => ∃ a47 : Nat, r = some (.ref a47) ∧ Q (.inl (some (.ref a47))) s45 f46) (fun k => Q (.inr k) s45 f46))))))) ∧ (¬ inB b2 (ln f41 b7) → (ln f41 b7 < 2 ^ 31 ∧ rmF E f41 3 222 ∧ (∀ (a49 : Nat) (f48 : RH), f48 = fexc f41 → Q (.inr 35) s40 f48)))))) (fun k => Q (.inr k) s40 f41)))))))) ∧ (¬ inB b2 (ln f b7) → (ln f b7 < 2 ^ 31 ∧ rmF E f 3 222 ∧ (∀ (a51 : Nat) (f50 : RH), f50 = fexc f → Q (.inr 35) s f50))))))))))) ∧ (¬ (nI (ln f b7)) ≤ b8 → (oc f b6 30 ∧ (∃ a52 : Nat, vl f b6 204 = .ref a52 ∧ (∃ t53 : Nat, 4 ≤ t53 ∧ (tg f a52 = some (.inr t53) ∧ ((inB b8 (ln f a52) → (∃ a54 : Nat, vl f a52 b8.toNatClampNeg = .ref a54 ∧ (tg f b7 = some (.inr 11) ∧ tg f a54 = some (.inr 0) ∧ ez E ≤ a54 ∧ ((inB b8 (ln f b7) → (f.2.2.2 ≤ b7 ∧ ∀ f55 : RH, f55 = fset f b7 b8.toNatClampNeg (.ref a54) → ExC l E w (d + 1) MX6_changed 76 [some (.ref (w.1 6)), none, some (.int b2), some (.int b3), some (.int b4), some (.ref b5), some (.ref b6), some (.ref b7), some (.int (b8 + 1))] [] s f55 Q)) ∧ (¬ inB b8 (ln f b7) → (ln f b7 < 2 ^ 31 ∧ rmF E f 3 222 ∧ (∀ (a57 : Nat) (f56 : RH), f56 = fexc f → Q (.inr 35) s f56))))))) ∧ (¬ inB b8 (ln f a52) → (ln f a52 < 2 ^ 31 ∧ rmF E f 3 222 ∧ (∀ (a59 : Nat) (f58 : RH), f58 = fexc f → Q (.inr 35) s f58)))))))))))) : ExC l E w (d + 1) MX6_changed 76 [some (.ref (w.1 6)), none, some (.int b2), some (.int b3), some (.int b4), some (.ref b5), some (.ref b6), some (.ref b7), some (.int b8)] [] s f Q := by
  intro f0 h hW hF
  refine x_iload dX6_changed_76 rfl ?_
  refine x_aload dX6_changed_78 rfl rfl ?_
  obtain ⟨t24, hc, hT⟩ := hT
  refine c_alen dX6_changed_80 hc hW ?_
  refine x_icmp_ge (tgt := 103) dX6_changed_81 rfl (fun c => ?_) (fun c => ?_)
  · replace hT := hT.1 c
    refine x_aload dX6_changed_103 rfl rfl ?_
    refine x_iload_n dX6_changed_105 rfl rfl ?_
    refine x_aload dX6_changed_106 rfl rfl ?_
    obtain ⟨hc, hT⟩ := hT
    obtain ⟨v25, ev, iv25, hT⟩ := hT
    refine c_fgetG dX6_changed_108 f_TallySlate_Maker_131 hc (by decide) (by decide) hW ev ?_
    refine x_ifnonnull (tgt := 132) dX6_changed_111 rfl iv25 (fun a26 e => ?_) (fun e => ?_)
    · subst e
      replace hT := hT.2 a26 rfl
      refine x_aload_n dX6_changed_132 rfl rfl rfl ?_
      refine x_aload dX6_changed_133 rfl rfl ?_
      refine x_iload_n dX6_changed_135 rfl rfl ?_
      obtain ⟨t37, ht2, hc, hT⟩ := hT
      by_cases hb : inB b2 (ln f b7)
      · replace hT := hT.1 hb
        obtain ⟨a38, ev, hT⟩ := hT
        refine c_faald dX6_changed_136 hc ht2 hb hW ev ?_
        refine x_iload dX6_changed_137 rfl ?_
        refine x_aload_n dX6_changed_139 rfl rfl rfl ?_
        refine c_getO dX6_changed_140 f_TallySlate_Maker_9 (by decide) (by decide) rfl hW ?_
        refine c_getA dX6_changed_143 f_TallySlate_Maker_95 (by decide) (by decide) rfl hW ?_
        refine x_iload_n dX6_changed_146 rfl rfl ?_
        obtain ⟨hb, hT⟩ := hT
        refine c_iald (v := (s.2.2.1 24 b3.toNatClampNeg)) dX6_changed_147 rfl hb hW rfl ?_
        refine x_aload dX6_changed_148 rfl rfl ?_
        obtain ⟨hc, hT⟩ := hT
        obtain ⟨v39, ev, hT⟩ := hT
        refine c_fgetG dX6_changed_150 f_TallySlate_Maker_137 hc (by decide) (by decide) hW ev ?_
        obtain ⟨-, -, cc, hcc, -⟩ := hW.ob 6 (by decide)
        refine c_invV (vs := [.ref a38, .int b4, .int (s.2.2.1 24 b3.toNatClampNeg), .int v39]) dX6_changed_153 oX6_part q1954 q1952 hcc qs57 (Or.inl rfl) rfl rfl (Nat.le_of_ble_eq_true rfl) rfl hW hF hT ?_ ?_
        · intro _ s40 f41 hT h hW hF
          obtain ⟨a42, rfl, hT⟩ := hT
          obtain ⟨hc, hv, hzb, hT⟩ := hT
          by_cases hb : inB b2 (ln f41 b7)
          · obtain ⟨hz, hT⟩ := hT.1 hb
            refine c_faastAG dX6_changed_156 hc hv hzb hb hz hW hF ?_
            intro f43 ef43 h hW hF
            replace hT := hT f43 ef43
            refine x_aload_n dX6_changed_157 rfl rfl rfl ?_
            refine x_aload dX6_changed_158 rfl rfl ?_
            refine x_aload dX6_changed_160 rfl rfl ?_
            obtain ⟨hc, hT⟩ := hT
            obtain ⟨v44, ev, hT⟩ := hT
            refine c_fgetG dX6_changed_162 f_TallySlate_Maker_144 hc (by decide) (by decide) hW ev ?_
            obtain ⟨-, -, cc, hcc, -⟩ := hW.ob 6 (by decide)
            refine c_invV (vs := [.ref b7, .int v44]) dX6_changed_165 oX6_table q1545 q1544 hcc q1546 (Or.inl rfl) rfl rfl (Nat.le_of_ble_eq_true rfl) rfl hW hF hT ?_ ?_
            · intro _ s45 f46 hT h hW hF
              obtain ⟨a47, rfl, hT⟩ := hT
              exact x_aret dX6_changed_168 rfl (by first | exact Or.inl ⟨_, rfl⟩ | exact Or.inr ⟨_, rfl⟩) rfl ⟨_, _, hW, hF, Or.inl ⟨_, rfl, hT⟩⟩
            · intro k s45 f46 hT h a hW hx hF
              exact c_out (rfl) hW hx hF hT
          · obtain ⟨hn, hr, hT⟩ := hT.2 hb
            refine c_faastX dX6_changed_156 rfl hc hn hb hr (Nat.le_of_ble_eq_true rfl) rfl hW hF ?_
            intro f48 ef48 h a49 hW hx hF
            replace hT := hT a49 f48 ef48
            exact c_out (rfl) hW hx hF hT
        · intro k s40 f41 hT h a hW hx hF
          exact c_out (rfl) hW hx hF hT
      · obtain ⟨hn, hr, hT⟩ := hT.2 hb
        refine c_faaldX dX6_changed_136 hc hn hb hr (Nat.le_of_ble_eq_true rfl) rfl hW hF ?_
        intro f50 ef50 h a51 hW hx hF
        replace hT := hT a51 f50 ef50
        exact c_out (rfl) hW hx hF hT
    · subst e
      replace hT := hT.1 rfl
      refine x_aload_n dX6_changed_114 rfl rfl rfl ?_
      refine c_getO dX6_changed_115 f_TallySlate_Maker_9 (by decide) (by decide) rfl hW ?_
      refine c_getA dX6_changed_118 f_TallySlate_Maker_98 (by decide) (by decide) rfl hW ?_
      refine x_iload_n dX6_changed_121 rfl rfl ?_
      obtain ⟨hb, v27, ev, iv27, hT⟩ := hT
      refine c_aald (v := v27) dX6_changed_122 rfl hb hW ev ?_
      obtain ⟨a28, rfl, hT⟩ := hT
      obtain ⟨hc, hT⟩ := hT
      refine c_cast (K := 29) dX6_changed_123 q1540 hc hW ?_
      obtain ⟨hc, hT⟩ := hT
      obtain ⟨a29, ev, hT⟩ := hT
      refine c_fgetG dX6_changed_126 f_TallySlate_Maker_60 hc (by decide) (by decide) hW ev ?_
      refine x_goto (tgt := 156) dX6_changed_129 rfl ?_
      obtain ⟨hc, hv, hzb, hT⟩ := hT
      by_cases hb : inB b2 (ln f b7)
      · obtain ⟨hz, hT⟩ := hT.1 hb
        refine c_faastAG dX6_changed_156 hc hv hzb hb hz hW hF ?_
        intro f30 ef30 h hW hF
        replace hT := hT f30 ef30
        refine x_aload_n dX6_changed_157 rfl rfl rfl ?_
        refine x_aload dX6_changed_158 rfl rfl ?_
        refine x_aload dX6_changed_160 rfl rfl ?_
        obtain ⟨hc, hT⟩ := hT
        obtain ⟨v31, ev, hT⟩ := hT
        refine c_fgetG dX6_changed_162 f_TallySlate_Maker_144 hc (by decide) (by decide) hW ev ?_
        obtain ⟨-, -, cc, hcc, -⟩ := hW.ob 6 (by decide)
        refine c_invV (vs := [.ref b7, .int v31]) dX6_changed_165 oX6_table q1545 q1544 hcc q1546 (Or.inl rfl) rfl rfl (Nat.le_of_ble_eq_true rfl) rfl hW hF hT ?_ ?_
        · intro _ s32 f33 hT h hW hF
          obtain ⟨a34, rfl, hT⟩ := hT
          exact x_aret dX6_changed_168 rfl (by first | exact Or.inl ⟨_, rfl⟩ | exact Or.inr ⟨_, rfl⟩) rfl ⟨_, _, hW, hF, Or.inl ⟨_, rfl, hT⟩⟩
        · intro k s32 f33 hT h a hW hx hF
          exact c_out (rfl) hW hx hF hT
      · obtain ⟨hn, hr, hT⟩ := hT.2 hb
        refine c_faastX dX6_changed_156 rfl hc hn hb hr (Nat.le_of_ble_eq_true rfl) rfl hW hF ?_
        intro f35 ef35 h a36 hW hx hF
        replace hT := hT a36 f35 ef35
        exact c_out (rfl) hW hx hF hT
  · replace hT := hT.2 c
    refine x_aload dX6_changed_84 rfl rfl ?_
    refine x_iload dX6_changed_86 rfl ?_
    refine x_aload dX6_changed_88 rfl rfl ?_
    obtain ⟨hc, hT⟩ := hT
    obtain ⟨a52, ev, hT⟩ := hT
    refine c_fgetG dX6_changed_90 f_TallySlate_Maker_123 hc (by decide) (by decide) hW ev ?_
    refine x_iload dX6_changed_93 rfl ?_
    obtain ⟨t53, ht2, hc, hT⟩ := hT
    by_cases hb : inB b8 (ln f a52)
    · replace hT := hT.1 hb
      obtain ⟨a54, ev, hT⟩ := hT
      refine c_faald dX6_changed_95 hc ht2 hb hW ev ?_
      obtain ⟨hc, hv, hzb, hT⟩ := hT
      by_cases hb : inB b8 (ln f b7)
      · obtain ⟨hz, hT⟩ := hT.1 hb
        refine c_faastAG dX6_changed_96 hc hv hzb hb hz hW hF ?_
        intro f55 ef55 h hW hF
        replace hT := hT f55 ef55
        refine x_iinc (lo' := [some (.ref (w.1 6)), none, some (.int b2), some (.int b3), some (.int b4), some (.ref b5), some (.ref b6), some (.ref b7), some (.int (b8 + 1))]) dX6_changed_97 rfl (show _ = (b8 + 1) from rfl) rfl ?_
        refine x_goto (tgt := 76) dX6_changed_100 rfl ?_
        exact hT f0 h hW hF
      · obtain ⟨hn, hr, hT⟩ := hT.2 hb
        refine c_faastX dX6_changed_96 rfl hc hn hb hr (Nat.le_of_ble_eq_true rfl) rfl hW hF ?_
        intro f56 ef56 h a57 hW hx hF
        replace hT := hT a57 f56 ef56
        exact c_out (rfl) hW hx hF hT
    · obtain ⟨hn, hr, hT⟩ := hT.2 hb
      refine c_faaldX dX6_changed_95 hc hn hb hr (Nat.le_of_ble_eq_true rfl) rfl hW hF ?_
      intro f58 ef58 h a59 hW hx hF
      replace hT := hT a59 f58 ef58
      exact c_out (rfl) hW hx hF hT
set_option maxHeartbeats 16000000 in
theorem vX6_changed_181 {l : Launch} {E : EN} {w : CO} {d : Nat} {s : CS} {f : RH} {Q : KO → CS → RH → Prop} {b1 : Nat} {b2 : Int32} {b3 : Int32} {b5 : Nat} {b6 : Nat} {b7 : Int32}  (hT : (∃ t60 : Nat, tg f b6 = some (.inr t60) ∧ (((nI (ln f b6)) ≤ b7 → (EvC l E w d MX3_asThing [.ref (w.1 3), .int b3] s f (fun o s61 f62 => KP o (fun r => ∃ a63 : Nat, r = some (.ref a63) ∧ (∃ k69 : Nat, (tg f62 b6 = some (.inr 4) ∧ tg f62 a63 = some (.inl k69) ∧ k69 ∈ CKs 4 ∧ ((inB b2 (ln f62 b6) → (f62.2.2.2 ≤ b6 ∧ ∀ f64 : RH, f64 = fset f62 b6 b2.toNatClampNeg (.ref a63) → (oc f64 b5 28 ∧ (∃ v65 : Int32, vl f64 b5 198 = .int v65 ∧ (EvC l E w d MX6_pack [.ref (w.1 6), .ref b6, .int v65] s61 f64 (fun o s66 f67 => KP o (fun r => ∃ a68 : Nat, r = some (.ref a68) ∧ Q (.inl (some (.ref a68))) s66 f67) (fun k => Q (.inr k) s66 f67))))))) ∧ (¬ inB b2 (ln f62 b6) → (ln f62 b6 < 2 ^ 31 ∧ rmF E f62 3 222 ∧ (∀ (a71 : Nat) (f70 : RH), f70 = fexc f62 → Q (.inr 35) s61 f70))))))) (fun k => Q (.inr k) s61 f62)))) ∧ (¬ (nI (ln f b6)) ≤ b7 → (tg f b1 = some (.inl 31) ∧ (oc f b1 31 ∧ (∃ a72 : Nat, vl f b1 206 = .ref a72 ∧ (∃ t73 : Nat, 4 ≤ t73 ∧ (tg f a72 = some (.inr t73) ∧ ((inB b7 (ln f a72) → (∃ a74 : Nat, vl f a72 b7.toNatClampNeg = .ref a74 ∧ (∃ k76 : Nat, (tg f b6 = some (.inr 4) ∧ tg f a74 = some (.inl k76) ∧ k76 ∈ CKs 4 ∧ ((inB b7 (ln f b6) → (f.2.2.2 ≤ b6 ∧ ∀ f75 : RH, f75 = fset f b6 b7.toNatClampNeg (.ref a74) → ExC l E w (d + 1) MX6_changed 181 [some (.ref (w.1 6)), some (.ref b1), some (.int b2), some (.int b3), none, some (.ref b5), some (.ref b6), some (.int (b7 + 1)), none] [] s f75 Q)) ∧ (¬ inB b7 (ln f b6) → (ln f b6 < 2 ^ 31 ∧ rmF E f 3 222 ∧ (∀ (a78 : Nat) (f77 : RH), f77 = fexc f → Q (.inr 35) s f77)))))))) ∧ (¬ inB b7 (ln f a72) → (ln f a72 < 2 ^ 31 ∧ rmF E f 3 222 ∧ (∀ (a80 : Nat) (f79 : RH), f79 = fexc f → Q (.inr 35) s f79))))))))))))) : ExC l E w (d + 1) MX6_changed 181 [some (.ref (w.1 6)), some (.ref b1), some (.int b2), some (.int b3), none, some (.ref b5), some (.ref b6), some (.int b7), none] [] s f Q := by
  intro f0 h hW hF
  refine x_iload dX6_changed_181 rfl ?_
  refine x_aload dX6_changed_183 rfl rfl ?_
  obtain ⟨t60, hc, hT⟩ := hT
  refine c_alen dX6_changed_185 hc hW ?_
  refine x_icmp_ge (tgt := 210) dX6_changed_186 rfl (fun c => ?_) (fun c => ?_)
  · replace hT := hT.1 c
    refine x_aload dX6_changed_210 rfl rfl ?_
    refine x_iload_n dX6_changed_212 rfl rfl ?_
    refine x_aload_n dX6_changed_213 rfl rfl rfl ?_
    refine c_getO dX6_changed_214 f_TallySlate_Maker_9 (by decide) (by decide) rfl hW ?_
    refine x_iload_n dX6_changed_217 rfl rfl ?_
    obtain ⟨-, -, cc, hcc, -⟩ := hW.ob 3 (by decide)
    refine c_invV (vs := [.int b3]) dX6_changed_218 oX3_asThing q1661 q1660 hcc q1662 (Or.inl rfl) rfl rfl (Nat.le_of_ble_eq_true rfl) rfl hW hF hT ?_ ?_
    · intro _ s61 f62 hT h hW hF
      obtain ⟨a63, rfl, hT⟩ := hT
      obtain ⟨k69, hc, hv, hck, hT⟩ := hT
      by_cases hb : inB b2 (ln f62 b6)
      · obtain ⟨hz, hT⟩ := hT.1 hb
        refine c_faastG dX6_changed_221 hc (by decide) hv hck hb hz hW hF ?_
        intro f64 ef64 h hW hF
        replace hT := hT f64 ef64
        refine x_aload_n dX6_changed_222 rfl rfl rfl ?_
        refine x_aload dX6_changed_223 rfl rfl ?_
        refine x_aload dX6_changed_225 rfl rfl ?_
        obtain ⟨hc, hT⟩ := hT
        obtain ⟨v65, ev, hT⟩ := hT
        refine c_fgetG dX6_changed_227 f_TallySlate_Maker_144 hc (by decide) (by decide) hW ev ?_
        obtain ⟨-, -, cc, hcc, -⟩ := hW.ob 6 (by decide)
        refine c_invV (vs := [.ref b6, .int v65]) dX6_changed_230 oX6_pack q1554 q1553 hcc q1555 (Or.inl rfl) rfl rfl (Nat.le_of_ble_eq_true rfl) rfl hW hF hT ?_ ?_
        · intro _ s66 f67 hT h hW hF
          obtain ⟨a68, rfl, hT⟩ := hT
          exact x_aret dX6_changed_233 rfl (by first | exact Or.inl ⟨_, rfl⟩ | exact Or.inr ⟨_, rfl⟩) rfl ⟨_, _, hW, hF, Or.inl ⟨_, rfl, hT⟩⟩
        · intro k s66 f67 hT h a hW hx hF
          exact c_out (rfl) hW hx hF hT
      · obtain ⟨hn, hr, hT⟩ := hT.2 hb
        refine c_faastX dX6_changed_221 rfl hc hn hb hr (Nat.le_of_ble_eq_true rfl) rfl hW hF ?_
        intro f70 ef70 h a71 hW hx hF
        replace hT := hT a71 f70 ef70
        exact c_out (rfl) hW hx hF hT
    · intro k s61 f62 hT h a hW hx hF
      exact c_out (rfl) hW hx hF hT
  · replace hT := hT.2 c
    refine x_aload dX6_changed_189 rfl rfl ?_
    refine x_iload dX6_changed_191 rfl ?_
    refine x_aload_n dX6_changed_193 rfl rfl rfl ?_
    obtain ⟨hc, hT⟩ := hT
    refine c_cast (K := 31) dX6_changed_194 q1552 hc hW ?_
    obtain ⟨hc, hT⟩ := hT
    obtain ⟨a72, ev, hT⟩ := hT
    refine c_fgetG dX6_changed_197 f_TallySlate_Maker_125 hc (by decide) (by decide) hW ev ?_
    refine x_iload dX6_changed_200 rfl ?_
    obtain ⟨t73, ht2, hc, hT⟩ := hT
    by_cases hb : inB b7 (ln f a72)
    · replace hT := hT.1 hb
      obtain ⟨a74, ev, hT⟩ := hT
      refine c_faald dX6_changed_202 hc ht2 hb hW ev ?_
      obtain ⟨k76, hc, hv, hck, hT⟩ := hT
      by_cases hb : inB b7 (ln f b6)
      · obtain ⟨hz, hT⟩ := hT.1 hb
        refine c_faastG dX6_changed_203 hc (by decide) hv hck hb hz hW hF ?_
        intro f75 ef75 h hW hF
        replace hT := hT f75 ef75
        refine x_iinc (lo' := [some (.ref (w.1 6)), some (.ref b1), some (.int b2), some (.int b3), none, some (.ref b5), some (.ref b6), some (.int (b7 + 1)), none]) dX6_changed_204 rfl (show _ = (b7 + 1) from rfl) rfl ?_
        refine x_goto (tgt := 181) dX6_changed_207 rfl ?_
        exact hT f0 h hW hF
      · obtain ⟨hn, hr, hT⟩ := hT.2 hb
        refine c_faastX dX6_changed_203 rfl hc hn hb hr (Nat.le_of_ble_eq_true rfl) rfl hW hF ?_
        intro f77 ef77 h a78 hW hx hF
        replace hT := hT a78 f77 ef77
        exact c_out (rfl) hW hx hF hT
    · obtain ⟨hn, hr, hT⟩ := hT.2 hb
      refine c_faaldX dX6_changed_202 hc hn hb hr (Nat.le_of_ble_eq_true rfl) rfl hW hF ?_
      intro f79 ef79 h a80 hW hx hF
      replace hT := hT a80 f79 ef79
      exact c_out (rfl) hW hx hF hT
theorem vX6_part_0 {l : Launch} {E : EN} {w : CO} {d : Nat} {s : CS} {f : RH} {Q : KO → CS → RH → Prop} {x1 : Nat} {x2 : Int32} {x3 : Int32} {x4 : Int32}  (hT : (tg f x1 = some (.inr 0) ∧ ez E ≤ x1 ∧ (∀ i, i < ln f x1 → ∃ x : Int32, vl f x1 i = .int x) ∧ rmF E f 1 (ln f x1) ∧ ∀ (a1 : Nat) (f2 : RH), a1 = f.1 → f2 = fpush f (.inr 0, ln f x1, vl f x1) (ln f x1) → (tg f2 a1 = some (.inr 0) ∧ ez E ≤ a1 ∧ (tg f2 a1 = some (.inr 0) ∧ ((inB x2 (ln f2 a1) → (f2.2.2.2 ≤ a1 ∧ ∀ f3 : RH, f3 = fset f2 a1 x2.toNatClampNeg (.int x3) → Q (.inl (some (.ref a1))) s f3)) ∧ (¬ inB x2 (ln f2 a1) → (ln f2 a1 < 2 ^ 31 ∧ rmF E f2 3 222 ∧ (∀ (a5 : Nat) (f4 : RH), f4 = fexc f2 → (EvC l E w d MX3_wrong [.ref (w.1 3), .int 5, .int x4] s f4 (fun o s6 f7 => KP o (fun r => r = some (.ref (w.1 9)) ∧ Q (.inr 9) s6 f7) (fun k => Q (.inr k) s6 f7))))))))))) : ExC l E w (d + 1) MX6_part 0 [some (.ref (w.1 6)), some (.ref x1), some (.int x2), some (.int x3), some (.int x4), none, none] [] s f Q := by
  intro f0 h hW hF
  refine x_aload_n dX6_part_0 rfl rfl rfl ?_
  obtain ⟨ha, hz, hfit, hr, hT⟩ := hT
  refine c_clone dX6_part_1 q1951 sm_clone q1794 q1795 q1796 q1797 ha hz hfit (Nat.le_of_ble_eq_true rfl) rfl hr hW hF ?_
  intro a1 f2 ea1 ef2 h hW hF
  replace hT := hT a1 f2 ea1 ef2
  obtain ⟨hc, hz, hT⟩ := hT
  refine c_castA dX6_part_4 q1543 hc hz hW ?_
  refine x_astore (lo' := [some (.ref (w.1 6)), some (.ref x1), some (.int x2), some (.int x3), some (.int x4), some (.ref a1), none]) dX6_part_7 (Nat.le_of_ble_eq_true rfl) rfl rfl ?_
  refine x_aload dX6_part_9 rfl rfl ?_
  refine x_iload_n dX6_part_11 rfl rfl ?_
  refine x_iload_n dX6_part_12 rfl rfl ?_
  obtain ⟨hc, hT⟩ := hT
  by_cases hb : inB x2 (ln f2 a1)
  · obtain ⟨hz, hT⟩ := hT.1 hb
    refine c_fiastG dX6_part_13 hc hb hz hW hF ?_
    intro f3 ef3 h hW hF
    replace hT := hT f3 ef3
    refine x_goto (tgt := 30) dX6_part_14 rfl ?_
    refine x_aload dX6_part_30 rfl rfl ?_
    exact x_aret dX6_part_32 rfl (by first | exact Or.inl ⟨_, rfl⟩ | exact Or.inr ⟨_, rfl⟩) rfl ⟨_, _, hW, hF, Or.inl ⟨_, rfl, hT⟩⟩
  · obtain ⟨hn, hr, hT⟩ := hT.2 hb
    refine c_fiastX dX6_part_13 hc hn hb hr (Nat.le_of_ble_eq_true rfl) rfl hW hF ?_
    intro f4 ef4 h a5 hW hx hF
    replace hT := hT a5 f4 ef4
    refine c_catch (hsr_yes (by decide) (by decide) q1956 (Or.inl rfl)) hW hx ?_
    refine x_astore (lo' := [some (.ref (w.1 6)), some (.ref x1), some (.int x2), some (.int x3), some (.int x4), some (.ref a1), some (.ref a5)]) dX6_part_17 (Nat.le_of_ble_eq_true rfl) rfl rfl ?_
    refine x_aload_n dX6_part_19 rfl rfl rfl ?_
    refine c_getO dX6_part_20 f_TallySlate_Maker_9 (by decide) (by decide) rfl hW ?_
    refine x_iconst (v := 5) dX6_part_23 rfl ?_
    refine x_iload dX6_part_24 rfl ?_
    obtain ⟨-, -, cc, hcc, -⟩ := hW.ob 3 (by decide)
    refine c_invV (vs := [.int 5, .int x4]) dX6_part_26 oX3_wrong q1323 q1550 hcc q1324 (Or.inl rfl) rfl rfl (Nat.le_of_ble_eq_true rfl) rfl hW hF hT ?_ ?_
    · intro _ s6 f7 hT h hW hF
      obtain ⟨rfl, hT⟩ := hT
      refine x_athrow dX6_part_29 ?_
      exact c_out (hsr_skip (by decide) (rfl)) hW (Or.inl ⟨rfl, rfl⟩) hF hT
    · intro k s6 f7 hT h a hW hx hF
      exact c_out (hsr_skip (by decide) (rfl)) hW hx hF hT
theorem eX6_part {l : Launch} {E : EN} {w : CO} {d : Nat} {s : CS} {f : RH} {Q : KO → CS → RH → Prop} {x1 : Nat} {x2 : Int32} {x3 : Int32} {x4 : Int32}  (hst : l.stackTraces = false) (hT : (tg f x1 = some (.inr 0) ∧ ez E ≤ x1 ∧ (∀ i, i < ln f x1 → ∃ x : Int32, vl f x1 i = .int x) ∧ rmF E f 1 (ln f x1) ∧ ∀ (a1 : Nat) (f2 : RH), a1 = f.1 → f2 = fpush f (.inr 0, ln f x1, vl f x1) (ln f x1) → (tg f2 a1 = some (.inr 0) ∧ ez E ≤ a1 ∧ (tg f2 a1 = some (.inr 0) ∧ ((inB x2 (ln f2 a1) → (f2.2.2.2 ≤ a1 ∧ ∀ f3 : RH, f3 = fset f2 a1 x2.toNatClampNeg (.int x3) → Q (.inl (some (.ref a1))) s f3)) ∧ (¬ inB x2 (ln f2 a1) → (ln f2 a1 < 2 ^ 31 ∧ rmF E f2 3 222 ∧ (∀ (a5 : Nat) (f4 : RH), f4 = fexc f2 → (EvC l E w d MX3_wrong [.ref (w.1 3), .int 5, .int x4] s f4 (fun o s6 f7 => KP o (fun r => r = some (.ref (w.1 9)) ∧ Q (.inr 9) s6 f7) (fun k => Q (.inr k) s6 f7))))))))))) : EvC l E w (d + 1) MX6_part [.ref (w.1 6), .ref x1, .int x2, .int x3, .int x4] s f Q :=
  EvC.of hst (by decide) (Nat.le_of_ble_eq_true rfl) (vX6_part_0  hT)
theorem vX7_scanned_0 {l : Launch} {E : EN} {w : CO} {d : Nat} {s : CS} {f : RH} {Q : KO → CS → RH → Prop} {x1 : Nat}  (hT : (tg f x1 = some (.inr 0) ∧ ez E ≤ x1 ∧ (∀ i, i < ln f x1 → ∃ x : Int32, vl f x1 i = .int x) ∧ rmF E f 1 (ln f x1) ∧ ∀ (a1 : Nat) (f2 : RH), a1 = f.1 → f2 = fpush f (.inr 0, ln f x1, vl f x1) (ln f x1) → (tg f2 a1 = some (.inr 0) ∧ ez E ≤ a1 ∧ ExC l E w (d + 1) MX7_scanned 10 [none, some (.ref a1), some (.int 1)] [] s f2 Q))) : ExC l E w (d + 1) MX7_scanned 0 [some (.ref x1), none, none] [] s f Q := by
  intro f0 h hW hF
  refine x_aload_n dX7_scanned_0 rfl rfl rfl ?_
  obtain ⟨ha, hz, hfit, hr, hT⟩ := hT
  refine c_clone dX7_scanned_1 q1792 sm_clone q1794 q1795 q1796 q1797 ha hz hfit (Nat.le_of_ble_eq_true rfl) rfl hr hW hF ?_
  intro a1 f2 ea1 ef2 h hW hF
  replace hT := hT a1 f2 ea1 ef2
  obtain ⟨hc, hz, hT⟩ := hT
  refine c_castA dX7_scanned_4 q1798 hc hz hW ?_
  refine x_astore_n (lo' := [some (.ref x1), some (.ref a1), none]) dX7_scanned_7 rfl (Nat.le_of_ble_eq_true rfl) rfl rfl ?_
  refine x_iconst (v := 1) dX7_scanned_8 rfl ?_
  refine x_istore_n (lo' := [some (.ref x1), some (.ref a1), some (.int 1)]) dX7_scanned_9 rfl (Nat.le_of_ble_eq_true rfl) rfl ?_
  refine Ex.wkl (lo' := [none, some (.ref a1), some (.int 1)]) ⟨rfl, rfl, trivial⟩ ?_
  exact hT f0 h hW hF
theorem eX7_scanned {l : Launch} {E : EN} {w : CO} {d : Nat} {s : CS} {f : RH} {Q : KO → CS → RH → Prop} {x1 : Nat}  (hst : l.stackTraces = false) (hT : (tg f x1 = some (.inr 0) ∧ ez E ≤ x1 ∧ (∀ i, i < ln f x1 → ∃ x : Int32, vl f x1 i = .int x) ∧ rmF E f 1 (ln f x1) ∧ ∀ (a1 : Nat) (f2 : RH), a1 = f.1 → f2 = fpush f (.inr 0, ln f x1, vl f x1) (ln f x1) → (tg f2 a1 = some (.inr 0) ∧ ez E ≤ a1 ∧ ExC l E w (d + 1) MX7_scanned 10 [none, some (.ref a1), some (.int 1)] [] s f2 Q))) : EvC l E w (d + 1) MX7_scanned [.ref x1] s f Q :=
  EvC.of hst (by decide) (Nat.le_of_ble_eq_true rfl) (vX7_scanned_0  hT)
theorem vX7_scanned_10 {l : Launch} {E : EN} {w : CO} {d : Nat} {s : CS} {f : RH} {Q : KO → CS → RH → Prop} {b1 : Nat} {b2 : Int32}  (hT : (∃ t3 : Nat, tg f b1 = some (.inr t3) ∧ (((nI (ln f b1)) ≤ b2 → Q (.inl (some (.ref b1))) s f) ∧ (¬ (nI (ln f b1)) ≤ b2 → (tg f b1 = some (.inr 0) ∧ inB b2 (ln f b1) ∧ (∃ v4 : Int32, vl f b1 b2.toNatClampNeg = .int v4 ∧ (tg f b1 = some (.inr 0) ∧ inB (b2 - 1) (ln f b1) ∧ (∃ v5 : Int32, vl f b1 (b2 - 1).toNatClampNeg = .int v5 ∧ (tg f b1 = some (.inr 0) ∧ inB b2 (ln f b1) ∧ f.2.2.2 ≤ b1 ∧ ∀ f6 : RH, f6 = fset f b1 b2.toNatClampNeg (.int (v4 + v5)) → ExC l E w (d + 1) MX7_scanned 10 [none, some (.ref b1), some (.int (b2 + 1))] [] s f6 Q))))))))) : ExC l E w (d + 1) MX7_scanned 10 [none, some (.ref b1), some (.int b2)] [] s f Q := by
  intro f0 h hW hF
  refine x_iload_n dX7_scanned_10 rfl rfl ?_
  refine x_aload_n dX7_scanned_11 rfl rfl rfl ?_
  obtain ⟨t3, hc, hT⟩ := hT
  refine c_alen dX7_scanned_12 hc hW ?_
  refine x_icmp_ge (tgt := 33) dX7_scanned_13 rfl (fun c => ?_) (fun c => ?_)
  · replace hT := hT.1 c
    refine x_aload_n dX7_scanned_33 rfl rfl rfl ?_
    exact x_aret dX7_scanned_34 rfl (by first | exact Or.inl ⟨_, rfl⟩ | exact Or.inr ⟨_, rfl⟩) rfl ⟨_, _, hW, hF, Or.inl ⟨_, rfl, hT⟩⟩
  · replace hT := hT.2 c
    refine x_aload_n dX7_scanned_16 rfl rfl rfl ?_
    refine x_iload_n dX7_scanned_17 rfl rfl ?_
    refine x_dup2 dX7_scanned_18 rfl rfl ?_
    obtain ⟨hc, hT⟩ := hT
    obtain ⟨hb, hT⟩ := hT
    obtain ⟨v4, ev, hT⟩ := hT
    refine c_fiald dX7_scanned_19 hc hb hW ev ?_
    refine x_aload_n dX7_scanned_20 rfl rfl rfl ?_
    refine x_iload_n dX7_scanned_21 rfl rfl ?_
    refine x_iconst (v := 1) dX7_scanned_22 rfl ?_
    refine x_isub dX7_scanned_23 ?_
    obtain ⟨hc, hT⟩ := hT
    obtain ⟨hb, hT⟩ := hT
    obtain ⟨v5, ev, hT⟩ := hT
    refine c_fiald dX7_scanned_24 hc hb hW ev ?_
    refine x_iadd dX7_scanned_25 ?_
    obtain ⟨hc, hT⟩ := hT
    obtain ⟨hb, hz, hT⟩ := hT
    refine c_fiastG dX7_scanned_26 hc hb hz hW hF ?_
    intro f6 ef6 h hW hF
    replace hT := hT f6 ef6
    refine x_iinc (lo' := [none, some (.ref b1), some (.int (b2 + 1))]) dX7_scanned_27 rfl (show _ = (b2 + 1) from rfl) rfl ?_
    refine x_goto (tgt := 10) dX7_scanned_30 rfl ?_
    exact hT f0 h hW hF
theorem vX7_sorted_0 {l : Launch} {E : EN} {w : CO} {d : Nat} {s : CS} {f : RH} {Q : KO → CS → RH → Prop} {x1 : Nat}  (hT : (tg f x1 = some (.inr 0) ∧ ez E ≤ x1 ∧ (∀ i, i < ln f x1 → ∃ x : Int32, vl f x1 i = .int x) ∧ rmF E f 1 (ln f x1) ∧ ∀ (a1 : Nat) (f2 : RH), a1 = f.1 → f2 = fpush f (.inr 0, ln f x1, vl f x1) (ln f x1) → (tg f2 a1 = some (.inr 0) ∧ ez E ≤ a1 ∧ ExC l E w (d + 1) MX7_sorted 10 [none, some (.ref a1), some (.int 1), none, none] [] s f2 Q))) : ExC l E w (d + 1) MX7_sorted 0 [some (.ref x1), none, none, none, none] [] s f Q := by
  intro f0 h hW hF
  refine x_aload_n dX7_sorted_0 rfl rfl rfl ?_
  obtain ⟨ha, hz, hfit, hr, hT⟩ := hT
  refine c_clone dX7_sorted_1 q1792 sm_clone q1794 q1795 q1796 q1797 ha hz hfit (Nat.le_of_ble_eq_true rfl) rfl hr hW hF ?_
  intro a1 f2 ea1 ef2 h hW hF
  replace hT := hT a1 f2 ea1 ef2
  obtain ⟨hc, hz, hT⟩ := hT
  refine c_castA dX7_sorted_4 q1798 hc hz hW ?_
  refine x_astore_n (lo' := [some (.ref x1), some (.ref a1), none, none, none]) dX7_sorted_7 rfl (Nat.le_of_ble_eq_true rfl) rfl rfl ?_
  refine x_iconst (v := 1) dX7_sorted_8 rfl ?_
  refine x_istore_n (lo' := [some (.ref x1), some (.ref a1), some (.int 1), none, none]) dX7_sorted_9 rfl (Nat.le_of_ble_eq_true rfl) rfl ?_
  refine Ex.wkl (lo' := [none, some (.ref a1), some (.int 1), none, none]) ⟨rfl, rfl, trivial⟩ ?_
  exact hT f0 h hW hF
theorem eX7_sorted {l : Launch} {E : EN} {w : CO} {d : Nat} {s : CS} {f : RH} {Q : KO → CS → RH → Prop} {x1 : Nat}  (hst : l.stackTraces = false) (hT : (tg f x1 = some (.inr 0) ∧ ez E ≤ x1 ∧ (∀ i, i < ln f x1 → ∃ x : Int32, vl f x1 i = .int x) ∧ rmF E f 1 (ln f x1) ∧ ∀ (a1 : Nat) (f2 : RH), a1 = f.1 → f2 = fpush f (.inr 0, ln f x1, vl f x1) (ln f x1) → (tg f2 a1 = some (.inr 0) ∧ ez E ≤ a1 ∧ ExC l E w (d + 1) MX7_sorted 10 [none, some (.ref a1), some (.int 1), none, none] [] s f2 Q))) : EvC l E w (d + 1) MX7_sorted [.ref x1] s f Q :=
  EvC.of hst (by decide) (Nat.le_of_ble_eq_true rfl) (vX7_sorted_0  hT)
theorem vX7_sorted_10 {l : Launch} {E : EN} {w : CO} {d : Nat} {s : CS} {f : RH} {Q : KO → CS → RH → Prop} {b1 : Nat} {b2 : Int32}  (hT : (∃ t3 : Nat, tg f b1 = some (.inr t3) ∧ (((nI (ln f b1)) ≤ b2 → Q (.inl (some (.ref b1))) s f) ∧ (¬ (nI (ln f b1)) ≤ b2 → (tg f b1 = some (.inr 0) ∧ inB b2 (ln f b1) ∧ (∃ v4 : Int32, vl f b1 b2.toNatClampNeg = .int v4 ∧ ExC l E w (d + 1) MX7_sorted 23 [none, some (.ref b1), some (.int b2), some (.int v4), some (.int b2)] [] s f Q)))))) : ExC l E w (d + 1) MX7_sorted 10 [none, some (.ref b1), some (.int b2), none, none] [] s f Q := by
  intro f0 h hW hF
  refine x_iload_n dX7_sorted_10 rfl rfl ?_
  refine x_aload_n dX7_sorted_11 rfl rfl rfl ?_
  obtain ⟨t3, hc, hT⟩ := hT
  refine c_alen dX7_sorted_12 hc hW ?_
  refine x_icmp_ge (tgt := 65) dX7_sorted_13 rfl (fun c => ?_) (fun c => ?_)
  · replace hT := hT.1 c
    refine x_aload_n dX7_sorted_65 rfl rfl rfl ?_
    exact x_aret dX7_sorted_66 rfl (by first | exact Or.inl ⟨_, rfl⟩ | exact Or.inr ⟨_, rfl⟩) rfl ⟨_, _, hW, hF, Or.inl ⟨_, rfl, hT⟩⟩
  · replace hT := hT.2 c
    refine x_aload_n dX7_sorted_16 rfl rfl rfl ?_
    refine x_iload_n dX7_sorted_17 rfl rfl ?_
    obtain ⟨hc, hT⟩ := hT
    obtain ⟨hb, hT⟩ := hT
    obtain ⟨v4, ev, hT⟩ := hT
    refine c_fiald dX7_sorted_18 hc hb hW ev ?_
    refine x_istore_n (lo' := [none, some (.ref b1), some (.int b2), some (.int v4), none]) dX7_sorted_19 rfl (Nat.le_of_ble_eq_true rfl) rfl ?_
    refine x_iload_n dX7_sorted_20 rfl rfl ?_
    refine x_istore (lo' := [none, some (.ref b1), some (.int b2), some (.int v4), some (.int b2)]) dX7_sorted_21 (Nat.le_of_ble_eq_true rfl) rfl ?_
    exact hT f0 h hW hF
theorem vX7_sorted_23 {l : Launch} {E : EN} {w : CO} {d : Nat} {s : CS} {f : RH} {Q : KO → CS → RH → Prop} {b1 : Nat} {b2 : Int32} {b3 : Int32} {b4 : Int32}  (hT : ((b4 ≤ 0 → (tg f b1 = some (.inr 0) ∧ inB b4 (ln f b1) ∧ f.2.2.2 ≤ b1 ∧ ∀ f5 : RH, f5 = fset f b1 b4.toNatClampNeg (.int b3) → ExC l E w (d + 1) MX7_sorted 10 [none, some (.ref b1), some (.int (b2 + 1)), none, none] [] s f5 Q)) ∧ (¬ b4 ≤ 0 → (tg f b1 = some (.inr 0) ∧ inB (b4 - 1) (ln f b1) ∧ (∃ v6 : Int32, vl f b1 (b4 - 1).toNatClampNeg = .int v6 ∧ ((v6 ≤ b3 → (tg f b1 = some (.inr 0) ∧ inB b4 (ln f b1) ∧ f.2.2.2 ≤ b1 ∧ ∀ f7 : RH, f7 = fset f b1 b4.toNatClampNeg (.int b3) → ExC l E w (d + 1) MX7_sorted 10 [none, some (.ref b1), some (.int (b2 + 1)), none, none] [] s f7 Q)) ∧ (¬ v6 ≤ b3 → (tg f b1 = some (.inr 0) ∧ inB (b4 - 1) (ln f b1) ∧ (∃ v8 : Int32, vl f b1 (b4 - 1).toNatClampNeg = .int v8 ∧ (tg f b1 = some (.inr 0) ∧ inB b4 (ln f b1) ∧ f.2.2.2 ≤ b1 ∧ ∀ f9 : RH, f9 = fset f b1 b4.toNatClampNeg (.int v8) → ExC l E w (d + 1) MX7_sorted 23 [none, some (.ref b1), some (.int b2), some (.int b3), some (.int (b4 + (-1)))] [] s f9 Q)))))))))) : ExC l E w (d + 1) MX7_sorted 23 [none, some (.ref b1), some (.int b2), some (.int b3), some (.int b4)] [] s f Q := by
  intro f0 h hW hF
  refine x_iload dX7_sorted_23 rfl ?_
  refine x_if_le (tgt := 54) dX7_sorted_25 rfl (fun c => ?_) (fun c => ?_)
  · replace hT := hT.1 c
    refine x_aload_n dX7_sorted_54 rfl rfl rfl ?_
    refine x_iload dX7_sorted_55 rfl ?_
    refine x_iload_n dX7_sorted_57 rfl rfl ?_
    obtain ⟨hc, hT⟩ := hT
    obtain ⟨hb, hz, hT⟩ := hT
    refine c_fiastG dX7_sorted_58 hc hb hz hW hF ?_
    intro f5 ef5 h hW hF
    replace hT := hT f5 ef5
    refine x_iinc (lo' := [none, some (.ref b1), some (.int (b2 + 1)), some (.int b3), some (.int b4)]) dX7_sorted_59 rfl (show _ = (b2 + 1) from rfl) rfl ?_
    refine x_goto (tgt := 10) dX7_sorted_62 rfl ?_
    refine Ex.wkl (lo' := [none, some (.ref b1), some (.int (b2 + 1)), none, none]) ⟨rfl, rfl, trivial⟩ ?_
    exact hT f0 h hW hF
  · replace hT := hT.2 c
    refine x_aload_n dX7_sorted_28 rfl rfl rfl ?_
    refine x_iload dX7_sorted_29 rfl ?_
    refine x_iconst (v := 1) dX7_sorted_31 rfl ?_
    refine x_isub dX7_sorted_32 ?_
    obtain ⟨hc, hT⟩ := hT
    obtain ⟨hb, hT⟩ := hT
    obtain ⟨v6, ev, hT⟩ := hT
    refine c_fiald dX7_sorted_33 hc hb hW ev ?_
    refine x_iload_n dX7_sorted_34 rfl rfl ?_
    refine x_icmp_le (tgt := 54) dX7_sorted_35 rfl (fun c => ?_) (fun c => ?_)
    · replace hT := hT.1 c
      refine x_aload_n dX7_sorted_54 rfl rfl rfl ?_
      refine x_iload dX7_sorted_55 rfl ?_
      refine x_iload_n dX7_sorted_57 rfl rfl ?_
      obtain ⟨hc, hT⟩ := hT
      obtain ⟨hb, hz, hT⟩ := hT
      refine c_fiastG dX7_sorted_58 hc hb hz hW hF ?_
      intro f7 ef7 h hW hF
      replace hT := hT f7 ef7
      refine x_iinc (lo' := [none, some (.ref b1), some (.int (b2 + 1)), some (.int b3), some (.int b4)]) dX7_sorted_59 rfl (show _ = (b2 + 1) from rfl) rfl ?_
      refine x_goto (tgt := 10) dX7_sorted_62 rfl ?_
      refine Ex.wkl (lo' := [none, some (.ref b1), some (.int (b2 + 1)), none, none]) ⟨rfl, rfl, trivial⟩ ?_
      exact hT f0 h hW hF
    · replace hT := hT.2 c
      refine x_aload_n dX7_sorted_38 rfl rfl rfl ?_
      refine x_iload dX7_sorted_39 rfl ?_
      refine x_aload_n dX7_sorted_41 rfl rfl rfl ?_
      refine x_iload dX7_sorted_42 rfl ?_
      refine x_iconst (v := 1) dX7_sorted_44 rfl ?_
      refine x_isub dX7_sorted_45 ?_
      obtain ⟨hc, hT⟩ := hT
      obtain ⟨hb, hT⟩ := hT
      obtain ⟨v8, ev, hT⟩ := hT
      refine c_fiald dX7_sorted_46 hc hb hW ev ?_
      obtain ⟨hc, hT⟩ := hT
      obtain ⟨hb, hz, hT⟩ := hT
      refine c_fiastG dX7_sorted_47 hc hb hz hW hF ?_
      intro f9 ef9 h hW hF
      replace hT := hT f9 ef9
      refine x_iinc (lo' := [none, some (.ref b1), some (.int b2), some (.int b3), some (.int (b4 + (-1)))]) dX7_sorted_48 rfl (show _ = (b4 + (-1)) from rfl) rfl ?_
      refine x_goto (tgt := 23) dX7_sorted_51 rfl ?_
      exact hT f0 h hW hF
set_option maxHeartbeats 16000000 in
theorem vX7_flat_0 {l : Launch} {E : EN} {w : CO} {d : Nat} {s : CS} {f : RH} {Q : KO → CS → RH → Prop} {x1 : Value} {x2 : Int32} (ix1 : isR x1 = true) (hT : (isT f x1 ∧ ((∀ a2 : Nat, x1 = .ref a2 → tg f a2 = some (.inl 30) → (tg f a2 = some (.inl 30) ∧ (oc f a2 30 ∧ EvC l E w d MX33_ints [.ref a2] s f (fun o s3 f4 => KP o (fun r => ∃ v5 : Int32, r = some (.int v5) ∧ (EvC l E w d MX6_ints [.ref (w.1 6), .int v5, .int x2] s3 f4 (fun o s6 f7 => KP o (fun r => ∃ a8 : Nat, r = some (.ref a8) ∧ ExC l E w (d + 1) MX7_flat 35 [none, none, none, some (.ref a2), some (.ref a8), some (.int 0), some (.int 0), none, none, none, none] [] s6 f7 Q) (fun k => Q (.inr k) s6 f7)))) (fun k => Q (.inr k) s3 f4))))) ∧ ((∀ z : Nat, x1 = .ref z → ¬ tg f z = some (.inl 30)) → (isT f x1 ∧ ((∀ a11 : Nat, x1 = .ref a11 → tg f a11 = some (.inl 31) → (tg f a11 = some (.inl 31) ∧ ExC l E w (d + 1) MX7_flat 121 [some (.ref (w.1 7)), none, some (.int x2), some (.ref a11), some (.int 0), some (.int 0), none, none, none, none, none] [] s f Q)) ∧ ((∀ z : Nat, x1 = .ref z → ¬ tg f z = some (.inl 31)) → (EvC l E w d MX3_wrong [.ref (w.1 3), .int 3, .int x2] s f (fun o s12 f13 => KP o (fun r => r = some (.ref (w.1 9)) ∧ Q (.inr 9) s12 f13) (fun k => Q (.inr k) s12 f13)))))))))) : ExC l E w (d + 1) MX7_flat 0 [some (.ref (w.1 7)), some (x1), some (.int x2), none, none, none, none, none, none, none, none] [] s f Q := by
  intro f0 h hW hF
  refine x_aload_n dX7_flat_0 rfl rfl ix1 ?_
  obtain ⟨ht, hT⟩ := hT
  refine c_instV (K := 30) dX7_flat_1 (by decide) q1784 ht hW (fun a2 ec hi1 => ?_) (fun hi1 => ?_)
  · subst ec
    replace hT := hT.1 a2 rfl hi1
    refine x_if_eq (tgt := 90) dX7_flat_4 rfl (fun c => absurd c (by decide)) (fun _ => ?_)
    refine x_aload_n dX7_flat_7 rfl rfl rfl ?_
    obtain ⟨hc, hT⟩ := hT
    refine c_cast (K := 30) dX7_flat_8 q1784 hc hW ?_
    refine x_astore_n (lo' := [some (.ref (w.1 7)), some (.ref a2), some (.int x2), some (.ref a2), none, none, none, none, none, none, none]) dX7_flat_11 rfl (Nat.le_of_ble_eq_true rfl) rfl rfl ?_
    refine x_aload_n dX7_flat_12 rfl rfl rfl ?_
    refine c_getO dX7_flat_13 f_TallySlate_Works_9 (by decide) (by decide) rfl hW ?_
    refine c_getO dX7_flat_16 f_TallySlate_Works_177 (by decide) (by decide) rfl hW ?_
    refine x_aload_n dX7_flat_19 rfl rfl rfl ?_
    obtain ⟨hc, hT⟩ := hT
    obtain ⟨cc, hcc⟩ := hW.ocell hc
    refine c_invV (vs := []) dX7_flat_20 oX33_ints q1428 q1818 hcc q1429 (Or.inl rfl) rfl rfl (Nat.le_of_ble_eq_true rfl) rfl hW hF hT ?_ ?_
    · intro _ s3 f4 hT h hW hF
      obtain ⟨v5, rfl, hT⟩ := hT
      refine x_iload_n dX7_flat_23 rfl rfl ?_
      obtain ⟨-, -, cc, hcc, -⟩ := hW.ob 6 (by decide)
      refine c_invV (vs := [.int v5, .int x2]) dX7_flat_24 oX6_ints q1701 q1819 hcc q1702 (Or.inl rfl) rfl rfl (Nat.le_of_ble_eq_true rfl) rfl hW hF hT ?_ ?_
      · intro _ s6 f7 hT h hW hF
        obtain ⟨a8, rfl, hT⟩ := hT
        refine x_astore (lo' := [some (.ref (w.1 7)), some (.ref a2), some (.int x2), some (.ref a2), some (.ref a8), none, none, none, none, none, none]) dX7_flat_27 (Nat.le_of_ble_eq_true rfl) rfl rfl ?_
        refine x_iconst (v := 0) dX7_flat_29 rfl ?_
        refine x_istore (lo' := [some (.ref (w.1 7)), some (.ref a2), some (.int x2), some (.ref a2), some (.ref a8), some (.int 0), none, none, none, none, none]) dX7_flat_30 (Nat.le_of_ble_eq_true rfl) rfl ?_
        refine x_iconst (v := 0) dX7_flat_32 rfl ?_
        refine x_istore (lo' := [some (.ref (w.1 7)), some (.ref a2), some (.int x2), some (.ref a2), some (.ref a8), some (.int 0), some (.int 0), none, none, none, none]) dX7_flat_33 (Nat.le_of_ble_eq_true rfl) rfl ?_
        refine Ex.wkl (lo' := [none, none, none, some (.ref a2), some (.ref a8), some (.int 0), some (.int 0), none, none, none, none]) ⟨rfl, rfl, rfl, rfl, trivial⟩ ?_
        exact hT f0 h hW hF
      · intro k s6 f7 hT h a hW hx hF
        exact c_out (rfl) hW hx hF hT
    · intro k s3 f4 hT h a hW hx hF
      exact c_out (rfl) hW hx hF hT
  · replace hT := hT.2 hi1
    refine x_if_eq (tgt := 90) dX7_flat_4 rfl (fun _ => ?_) (fun c => absurd c (by decide))
    refine x_aload_n dX7_flat_90 rfl rfl ix1 ?_
    obtain ⟨ht, hT⟩ := hT
    refine c_instV (K := 31) dX7_flat_91 (by decide) q1812 ht hW (fun a11 ec hi10 => ?_) (fun hi10 => ?_)
    · subst ec
      replace hT := hT.1 a11 rfl hi10
      refine x_if_eq (tgt := 105) dX7_flat_94 rfl (fun c => absurd c (by decide)) (fun _ => ?_)
      refine x_aload_n dX7_flat_97 rfl rfl rfl ?_
      obtain ⟨hc, hT⟩ := hT
      refine c_cast (K := 31) dX7_flat_98 q1812 hc hW ?_
      refine x_astore_n (lo' := [some (.ref (w.1 7)), some (.ref a11), some (.int x2), some (.ref a11), none, none, none, none, none, none, none]) dX7_flat_101 rfl (Nat.le_of_ble_eq_true rfl) rfl rfl ?_
      refine x_goto (tgt := 115) dX7_flat_102 rfl ?_
      refine x_iconst (v := 0) dX7_flat_115 rfl ?_
      refine x_istore (lo' := [some (.ref (w.1 7)), some (.ref a11), some (.int x2), some (.ref a11), some (.int 0), none, none, none, none, none, none]) dX7_flat_116 (Nat.le_of_ble_eq_true rfl) rfl ?_
      refine x_iconst (v := 0) dX7_flat_118 rfl ?_
      refine x_istore (lo' := [some (.ref (w.1 7)), some (.ref a11), some (.int x2), some (.ref a11), some (.int 0), some (.int 0), none, none, none, none, none]) dX7_flat_119 (Nat.le_of_ble_eq_true rfl) rfl ?_
      refine Ex.wkl (lo' := [some (.ref (w.1 7)), none, some (.int x2), some (.ref a11), some (.int 0), some (.int 0), none, none, none, none, none]) ⟨rfl, rfl, rfl, rfl, rfl, trivial⟩ ?_
      exact hT f0 h hW hF
    · replace hT := hT.2 hi10
      refine x_if_eq (tgt := 105) dX7_flat_94 rfl (fun _ => ?_) (fun c => absurd c (by decide))
      refine x_aload_n dX7_flat_105 rfl rfl rfl ?_
      refine c_getO dX7_flat_106 f_TallySlate_Works_9 (by decide) (by decide) rfl hW ?_
      refine x_iconst (v := 3) dX7_flat_109 rfl ?_
      refine x_iload_n dX7_flat_110 rfl rfl ?_
      obtain ⟨-, -, cc, hcc, -⟩ := hW.ob 3 (by decide)
      refine c_invV (vs := [.int 3, .int x2]) dX7_flat_111 oX3_wrong q1323 q1745 hcc q1324 (Or.inl rfl) rfl rfl (Nat.le_of_ble_eq_true rfl) rfl hW hF hT ?_ ?_
      · intro _ s12 f13 hT h hW hF
        obtain ⟨rfl, hT⟩ := hT
        refine x_athrow dX7_flat_114 ?_
        exact c_out (rfl) hW (Or.inl ⟨rfl, rfl⟩) hF hT
      · intro k s12 f13 hT h a hW hx hF
        exact c_out (rfl) hW hx hF hT
theorem eX7_flat {l : Launch} {E : EN} {w : CO} {d : Nat} {s : CS} {f : RH} {Q : KO → CS → RH → Prop} {x1 : Value} {x2 : Int32} (ix1 : isR x1 = true) (hst : l.stackTraces = false) (hT : (isT f x1 ∧ ((∀ a2 : Nat, x1 = .ref a2 → tg f a2 = some (.inl 30) → (tg f a2 = some (.inl 30) ∧ (oc f a2 30 ∧ EvC l E w d MX33_ints [.ref a2] s f (fun o s3 f4 => KP o (fun r => ∃ v5 : Int32, r = some (.int v5) ∧ (EvC l E w d MX6_ints [.ref (w.1 6), .int v5, .int x2] s3 f4 (fun o s6 f7 => KP o (fun r => ∃ a8 : Nat, r = some (.ref a8) ∧ ExC l E w (d + 1) MX7_flat 35 [none, none, none, some (.ref a2), some (.ref a8), some (.int 0), some (.int 0), none, none, none, none] [] s6 f7 Q) (fun k => Q (.inr k) s6 f7)))) (fun k => Q (.inr k) s3 f4))))) ∧ ((∀ z : Nat, x1 = .ref z → ¬ tg f z = some (.inl 30)) → (isT f x1 ∧ ((∀ a11 : Nat, x1 = .ref a11 → tg f a11 = some (.inl 31) → (tg f a11 = some (.inl 31) ∧ ExC l E w (d + 1) MX7_flat 121 [some (.ref (w.1 7)), none, some (.int x2), some (.ref a11), some (.int 0), some (.int 0), none, none, none, none, none] [] s f Q)) ∧ ((∀ z : Nat, x1 = .ref z → ¬ tg f z = some (.inl 31)) → (EvC l E w d MX3_wrong [.ref (w.1 3), .int 3, .int x2] s f (fun o s12 f13 => KP o (fun r => r = some (.ref (w.1 9)) ∧ Q (.inr 9) s12 f13) (fun k => Q (.inr k) s12 f13)))))))))) : EvC l E w (d + 1) MX7_flat [.ref (w.1 7), x1, .int x2] s f Q :=by
  rcases isR_cases ix1 with rfl | ⟨_, rfl⟩ <;> exact
  
  EvC.of hst (by decide) (Nat.le_of_ble_eq_true rfl) (vX7_flat_0 ix1 hT)
theorem vX7_flat_35 {l : Launch} {E : EN} {w : CO} {d : Nat} {s : CS} {f : RH} {Q : KO → CS → RH → Prop} {b3 : Nat} {b4 : Nat} {b5 : Int32} {b6 : Int32}  (hT : (oc f b3 30 ∧ (∃ a14 : Nat, vl f b3 204 = .ref a14 ∧ (∃ t15 : Nat, tg f a14 = some (.inr t15) ∧ (((nI (ln f a14)) ≤ b6 → Q (.inl (some (.ref b4))) s f) ∧ (¬ (nI (ln f a14)) ≤ b6 → (oc f b3 30 ∧ (∃ a16 : Nat, vl f b3 204 = .ref a16 ∧ (∃ t17 : Nat, 4 ≤ t17 ∧ (tg f a16 = some (.inr t17) ∧ inB b6 (ln f a16) ∧ (∃ a18 : Nat, vl f a16 b6.toNatClampNeg = .ref a18 ∧ (oc f b3 30 ∧ (∃ a19 : Nat, vl f b3 204 = .ref a19 ∧ (∃ t20 : Nat, 4 ≤ t20 ∧ (tg f a19 = some (.inr t20) ∧ inB b6 (ln f a19) ∧ (∃ a21 : Nat, vl f a19 b6.toNatClampNeg = .ref a21 ∧ (∃ t22 : Nat, tg f a21 = some (.inr t22) ∧ (tg f a18 = some (.inr 0) ∧ tg f b4 = some (.inr 0) ∧ f.2.2.2 ≤ b4 ∧ ¬ (0 : Int32) < 0 ∧ ¬ b5 < 0 ∧ ¬ (nI (ln f a21)) < 0 ∧ (0 : Int32).toNatClampNeg + (nI (ln f a21)).toNatClampNeg ≤ ln f a18 ∧ b5.toNatClampNeg + (nI (ln f a21)).toNatClampNeg ≤ ln f b4 ∧ (∀ i, i < (nI (ln f a21)).toNatClampNeg → ∃ x : Int32, vl f a18 ((0 : Int32).toNatClampNeg + i) = .int x) ∧ ∀ f23 : RH, f23 = fcont f b4 (cpy (vl f a18) (vl f b4) (0 : Int32).toNatClampNeg b5.toNatClampNeg (nI (ln f a21)).toNatClampNeg) → (oc f23 b3 30 ∧ (∃ a24 : Nat, vl f23 b3 204 = .ref a24 ∧ (∃ t25 : Nat, 4 ≤ t25 ∧ (tg f23 a24 = some (.inr t25) ∧ inB b6 (ln f23 a24) ∧ (∃ a26 : Nat, vl f23 a24 b6.toNatClampNeg = .ref a26 ∧ (∃ t27 : Nat, tg f23 a26 = some (.inr t27) ∧ (∀ y28 : Int32, y28 = (b5 + (nI (ln f23 a26))) → ExC l E w (d + 1) MX7_flat 35 [none, none, none, some (.ref b3), some (.ref b4), some (.int y28), some (.int (b6 + 1)), none, none, none, none] [] s f23 Q))))))))))))))))))))))))) : ExC l E w (d + 1) MX7_flat 35 [none, none, none, some (.ref b3), some (.ref b4), some (.int b5), some (.int b6), none, none, none, none] [] s f Q := by
  intro f0 h hW hF
  refine x_iload dX7_flat_35 rfl ?_
  refine x_aload_n dX7_flat_37 rfl rfl rfl ?_
  obtain ⟨hc, hT⟩ := hT
  obtain ⟨a14, ev, hT⟩ := hT
  refine c_fgetG dX7_flat_38 f_TallySlate_Works_128 hc (by decide) (by decide) hW ev ?_
  obtain ⟨t15, hc, hT⟩ := hT
  refine c_alen dX7_flat_41 hc hW ?_
  refine x_icmp_ge (tgt := 87) dX7_flat_42 rfl (fun c => ?_) (fun c => ?_)
  · replace hT := hT.1 c
    refine x_aload dX7_flat_87 rfl rfl ?_
    exact x_aret dX7_flat_89 rfl (by first | exact Or.inl ⟨_, rfl⟩ | exact Or.inr ⟨_, rfl⟩) rfl ⟨_, _, hW, hF, Or.inl ⟨_, rfl, hT⟩⟩
  · replace hT := hT.2 c
    refine x_aload_n dX7_flat_45 rfl rfl rfl ?_
    obtain ⟨hc, hT⟩ := hT
    obtain ⟨a16, ev, hT⟩ := hT
    refine c_fgetG dX7_flat_46 f_TallySlate_Works_128 hc (by decide) (by decide) hW ev ?_
    refine x_iload dX7_flat_49 rfl ?_
    obtain ⟨t17, ht2, hc, hT⟩ := hT
    obtain ⟨hb, hT⟩ := hT
    obtain ⟨a18, ev, hT⟩ := hT
    refine c_faald dX7_flat_51 hc ht2 hb hW ev ?_
    refine x_iconst (v := 0) dX7_flat_52 rfl ?_
    refine x_aload dX7_flat_53 rfl rfl ?_
    refine x_iload dX7_flat_55 rfl ?_
    refine x_aload_n dX7_flat_57 rfl rfl rfl ?_
    obtain ⟨hc, hT⟩ := hT
    obtain ⟨a19, ev, hT⟩ := hT
    refine c_fgetG dX7_flat_58 f_TallySlate_Works_128 hc (by decide) (by decide) hW ev ?_
    refine x_iload dX7_flat_61 rfl ?_
    obtain ⟨t20, ht2, hc, hT⟩ := hT
    obtain ⟨hb, hT⟩ := hT
    obtain ⟨a21, ev, hT⟩ := hT
    refine c_faald dX7_flat_63 hc ht2 hb hW ev ?_
    obtain ⟨t22, hc, hT⟩ := hT
    refine c_alen dX7_flat_64 hc hW ?_
    obtain ⟨ha, hb, hz, h1, h2, h3, h4, h5, hfit, hT⟩ := hT
    refine c_copyF dX7_flat_65 q1820 q573 q572 q177 ha hb hz h1 h2 h3 h4 h5 hfit (Nat.le_of_ble_eq_true rfl) rfl hW hF ?_
    intro f23 ef23 h hW hF
    replace hT := hT f23 ef23
    refine x_iload dX7_flat_68 rfl ?_
    refine x_aload_n dX7_flat_70 rfl rfl rfl ?_
    obtain ⟨hc, hT⟩ := hT
    obtain ⟨a24, ev, hT⟩ := hT
    refine c_fgetG dX7_flat_71 f_TallySlate_Works_128 hc (by decide) (by decide) hW ev ?_
    refine x_iload dX7_flat_74 rfl ?_
    obtain ⟨t25, ht2, hc, hT⟩ := hT
    obtain ⟨hb, hT⟩ := hT
    obtain ⟨a26, ev, hT⟩ := hT
    refine c_faald dX7_flat_76 hc ht2 hb hW ev ?_
    obtain ⟨t27, hc, hT⟩ := hT
    refine c_alen dX7_flat_77 hc hW ?_
    refine x_iadd dX7_flat_78 ?_
    obtain ⟨y28, ey28⟩ : ∃ z : Int32, z = (b5 + (nI (ln f23 a26))) := ⟨_, rfl⟩
    replace hT := hT y28 ey28
    refine x_istore (lo' := [none, none, none, some (.ref b3), some (.ref b4), some (.int y28), some (.int b6), none, none, none, none]) dX7_flat_79 (Nat.le_of_ble_eq_true rfl) (by rw [ey28]; exact rfl) ?_
    refine x_iinc (lo' := [none, none, none, some (.ref b3), some (.ref b4), some (.int y28), some (.int (b6 + 1)), none, none, none, none]) dX7_flat_81 rfl (show _ = (b6 + 1) from rfl) rfl ?_
    refine x_goto (tgt := 35) dX7_flat_84 rfl ?_
    exact hT f0 h hW hF
set_option maxHeartbeats 16000000 in
theorem vX7_flat_121 {l : Launch} {E : EN} {w : CO} {d : Nat} {s : CS} {f : RH} {Q : KO → CS → RH → Prop} {b2 : Int32} {b3 : Nat} {b4 : Int32} {b5 : Int32}  (hT : (oc f b3 31 ∧ (∃ a29 : Nat, vl f b3 206 = .ref a29 ∧ (∃ t30 : Nat, tg f a29 = some (.inr t30) ∧ (((nI (ln f a29)) ≤ b5 → (EvC l E w d MX6_ints [.ref (w.1 6), .int b4, .int b2] s f (fun o s31 f32 => KP o (fun r => ∃ a33 : Nat, r = some (.ref a33) ∧ ExC l E w (d + 1) MX7_flat 209 [none, none, none, some (.ref b3), none, some (.ref a33), some (.int 0), some (.int 0), none, none, none] [] s31 f32 Q) (fun k => Q (.inr k) s31 f32)))) ∧ (¬ (nI (ln f a29)) ≤ b5 → (oc f b3 31 ∧ (∃ a34 : Nat, vl f b3 206 = .ref a34 ∧ (∃ t35 : Nat, 4 ≤ t35 ∧ (tg f a34 = some (.inr t35) ∧ inB b5 (ln f a34) ∧ (∃ a36 : Nat, vl f a34 b5.toNatClampNeg = .ref a36 ∧ (isT f (.ref a36) ∧ ((tg f a36 = some (.inl 29) → (oc f b3 31 ∧ (∃ a38 : Nat, vl f b3 206 = .ref a38 ∧ (∃ t39 : Nat, 4 ≤ t39 ∧ (tg f a38 = some (.inr t39) ∧ inB b5 (ln f a38) ∧ (∃ a40 : Nat, vl f a38 b5.toNatClampNeg = .ref a40 ∧ (EvC l E w d MX7_intsOf [.ref a40] s f (fun o s41 f42 => KP o (fun r => ∃ v43 : Int32, r = some (.int v43) ∧ (∀ y44 : Int32, y44 = (b4 + v43) → ExC l E w (d + 1) MX7_flat 121 [some (.ref (w.1 7)), none, some (.int b2), some (.ref b3), some (.int y44), some (.int (b5 + 1)), none, none, none, none, none] [] s41 f42 Q)) (fun k => Q (.inr k) s41 f42))))))))) ∧ (¬ tg f a36 = some (.inl 29) → (oc f b3 31 ∧ (∃ a45 : Nat, vl f b3 206 = .ref a45 ∧ (∃ t46 : Nat, 4 ≤ t46 ∧ (tg f a45 = some (.inr t46) ∧ inB b5 (ln f a45) ∧ (∃ a47 : Nat, vl f a45 b5.toNatClampNeg = .ref a47 ∧ (isT f (.ref a47) ∧ ((tg f a47 = some (.inl 32) → (oc f b3 31 ∧ (∃ a49 : Nat, vl f b3 206 = .ref a49 ∧ (∃ t50 : Nat, 4 ≤ t50 ∧ (tg f a49 = some (.inr t50) ∧ inB b5 (ln f a49) ∧ (∃ a51 : Nat, vl f a49 b5.toNatClampNeg = .ref a51 ∧ (EvC l E w d MX7_intsOf [.ref a51] s f (fun o s52 f53 => KP o (fun r => ∃ v54 : Int32, r = some (.int v54) ∧ (∀ y55 : Int32, y55 = (b4 + v54) → ExC l E w (d + 1) MX7_flat 121 [some (.ref (w.1 7)), none, some (.int b2), some (.ref b3), some (.int y55), some (.int (b5 + 1)), none, none, none, none, none] [] s52 f53 Q)) (fun k => Q (.inr k) s52 f53))))))))) ∧ (¬ tg f a47 = some (.inl 32) → (EvC l E w d MX3_wrong [.ref (w.1 3), .int 3, .int b2] s f (fun o s56 f57 => KP o (fun r => r = some (.ref (w.1 9)) ∧ Q (.inr 9) s56 f57) (fun k => Q (.inr k) s56 f57))))))))))))))))))))))))) : ExC l E w (d + 1) MX7_flat 121 [some (.ref (w.1 7)), none, some (.int b2), some (.ref b3), some (.int b4), some (.int b5), none, none, none, none, none] [] s f Q := by
  intro f0 h hW hF
  refine x_iload dX7_flat_121 rfl ?_
  refine x_aload_n dX7_flat_123 rfl rfl rfl ?_
  obtain ⟨hc, hT⟩ := hT
  obtain ⟨a29, ev, hT⟩ := hT
  refine c_fgetG dX7_flat_124 f_TallySlate_Works_172 hc (by decide) (by decide) hW ev ?_
  obtain ⟨t30, hc, hT⟩ := hT
  refine c_alen dX7_flat_127 hc hW ?_
  refine x_icmp_ge (tgt := 188) dX7_flat_128 rfl (fun c => ?_) (fun c => ?_)
  · replace hT := hT.1 c
    refine x_aload_n dX7_flat_188 rfl rfl rfl ?_
    refine c_getO dX7_flat_189 f_TallySlate_Works_9 (by decide) (by decide) rfl hW ?_
    refine c_getO dX7_flat_192 f_TallySlate_Works_177 (by decide) (by decide) rfl hW ?_
    refine x_iload dX7_flat_195 rfl ?_
    refine x_iload_n dX7_flat_197 rfl rfl ?_
    obtain ⟨-, -, cc, hcc, -⟩ := hW.ob 6 (by decide)
    refine c_invV (vs := [.int b4, .int b2]) dX7_flat_198 oX6_ints q1701 q1819 hcc q1702 (Or.inl rfl) rfl rfl (Nat.le_of_ble_eq_true rfl) rfl hW hF hT ?_ ?_
    · intro _ s31 f32 hT h hW hF
      obtain ⟨a33, rfl, hT⟩ := hT
      refine x_astore (lo' := [some (.ref (w.1 7)), none, some (.int b2), some (.ref b3), some (.int b4), some (.ref a33), none, none, none, none, none]) dX7_flat_201 (Nat.le_of_ble_eq_true rfl) rfl rfl ?_
      refine x_iconst (v := 0) dX7_flat_203 rfl ?_
      refine x_istore (lo' := [some (.ref (w.1 7)), none, some (.int b2), some (.ref b3), some (.int b4), some (.ref a33), some (.int 0), none, none, none, none]) dX7_flat_204 (Nat.le_of_ble_eq_true rfl) rfl ?_
      refine x_iconst (v := 0) dX7_flat_206 rfl ?_
      refine x_istore (lo' := [some (.ref (w.1 7)), none, some (.int b2), some (.ref b3), some (.int b4), some (.ref a33), some (.int 0), some (.int 0), none, none, none]) dX7_flat_207 (Nat.le_of_ble_eq_true rfl) rfl ?_
      refine Ex.wkl (lo' := [none, none, none, some (.ref b3), none, some (.ref a33), some (.int 0), some (.int 0), none, none, none]) ⟨rfl, rfl, rfl, rfl, trivial⟩ ?_
      exact hT f0 h hW hF
    · intro k s31 f32 hT h a hW hx hF
      exact c_out (rfl) hW hx hF hT
  · replace hT := hT.2 c
    refine x_aload_n dX7_flat_131 rfl rfl rfl ?_
    obtain ⟨hc, hT⟩ := hT
    obtain ⟨a34, ev, hT⟩ := hT
    refine c_fgetG dX7_flat_132 f_TallySlate_Works_172 hc (by decide) (by decide) hW ev ?_
    refine x_iload dX7_flat_135 rfl ?_
    obtain ⟨t35, ht2, hc, hT⟩ := hT
    obtain ⟨hb, hT⟩ := hT
    obtain ⟨a36, ev, hT⟩ := hT
    refine c_faald dX7_flat_137 hc ht2 hb hW ev ?_
    obtain ⟨ht, hT⟩ := hT
    refine c_inst (K := 29) dX7_flat_138 (by decide) q1755 ht hW (fun hi37 => ?_) (fun hi37 => ?_)
    · replace hT := hT.1 hi37
      refine x_if_ne (tgt := 167) dX7_flat_141 rfl (fun _ => ?_) (fun c => absurd c (by decide))
      refine x_iload dX7_flat_167 rfl ?_
      refine x_aload_n dX7_flat_169 rfl rfl rfl ?_
      obtain ⟨hc, hT⟩ := hT
      obtain ⟨a38, ev, hT⟩ := hT
      refine c_fgetG dX7_flat_170 f_TallySlate_Works_172 hc (by decide) (by decide) hW ev ?_
      refine x_iload dX7_flat_173 rfl ?_
      obtain ⟨t39, ht2, hc, hT⟩ := hT
      obtain ⟨hb, hT⟩ := hT
      obtain ⟨a40, ev, hT⟩ := hT
      refine c_faald dX7_flat_175 hc ht2 hb hW ev ?_
      refine c_invS (vs := [.ref a40]) dX7_flat_176 oX7_intsOf q1823 (Or.inl q1822) rfl rfl (Nat.le_of_ble_eq_true rfl) rfl hW hF hT ?_ ?_
      · intro _ s41 f42 hT h hW hF
        obtain ⟨v43, rfl, hT⟩ := hT
        refine x_iadd dX7_flat_179 ?_
        obtain ⟨y44, ey44⟩ : ∃ z : Int32, z = (b4 + v43) := ⟨_, rfl⟩
        replace hT := hT y44 ey44
        refine x_istore (lo' := [some (.ref (w.1 7)), none, some (.int b2), some (.ref b3), some (.int y44), some (.int b5), none, none, none, none, none]) dX7_flat_180 (Nat.le_of_ble_eq_true rfl) (by rw [ey44]; exact rfl) ?_
        refine x_iinc (lo' := [some (.ref (w.1 7)), none, some (.int b2), some (.ref b3), some (.int y44), some (.int (b5 + 1)), none, none, none, none, none]) dX7_flat_182 rfl (show _ = (b5 + 1) from rfl) rfl ?_
        refine x_goto (tgt := 121) dX7_flat_185 rfl ?_
        exact hT f0 h hW hF
      · intro k s41 f42 hT h a hW hx hF
        exact c_out (rfl) hW hx hF hT
    · replace hT := hT.2 hi37
      refine x_if_ne (tgt := 167) dX7_flat_141 rfl (fun c => absurd c (by decide)) (fun _ => ?_)
      refine x_aload_n dX7_flat_144 rfl rfl rfl ?_
      obtain ⟨hc, hT⟩ := hT
      obtain ⟨a45, ev, hT⟩ := hT
      refine c_fgetG dX7_flat_145 f_TallySlate_Works_172 hc (by decide) (by decide) hW ev ?_
      refine x_iload dX7_flat_148 rfl ?_
      obtain ⟨t46, ht2, hc, hT⟩ := hT
      obtain ⟨hb, hT⟩ := hT
      obtain ⟨a47, ev, hT⟩ := hT
      refine c_faald dX7_flat_150 hc ht2 hb hW ev ?_
      obtain ⟨ht, hT⟩ := hT
      refine c_inst (K := 32) dX7_flat_151 (by decide) q1821 ht hW (fun hi48 => ?_) (fun hi48 => ?_)
      · replace hT := hT.1 hi48
        refine x_if_ne (tgt := 167) dX7_flat_154 rfl (fun _ => ?_) (fun c => absurd c (by decide))
        refine x_iload dX7_flat_167 rfl ?_
        refine x_aload_n dX7_flat_169 rfl rfl rfl ?_
        obtain ⟨hc, hT⟩ := hT
        obtain ⟨a49, ev, hT⟩ := hT
        refine c_fgetG dX7_flat_170 f_TallySlate_Works_172 hc (by decide) (by decide) hW ev ?_
        refine x_iload dX7_flat_173 rfl ?_
        obtain ⟨t50, ht2, hc, hT⟩ := hT
        obtain ⟨hb, hT⟩ := hT
        obtain ⟨a51, ev, hT⟩ := hT
        refine c_faald dX7_flat_175 hc ht2 hb hW ev ?_
        refine c_invS (vs := [.ref a51]) dX7_flat_176 oX7_intsOf q1823 (Or.inl q1822) rfl rfl (Nat.le_of_ble_eq_true rfl) rfl hW hF hT ?_ ?_
        · intro _ s52 f53 hT h hW hF
          obtain ⟨v54, rfl, hT⟩ := hT
          refine x_iadd dX7_flat_179 ?_
          obtain ⟨y55, ey55⟩ : ∃ z : Int32, z = (b4 + v54) := ⟨_, rfl⟩
          replace hT := hT y55 ey55
          refine x_istore (lo' := [some (.ref (w.1 7)), none, some (.int b2), some (.ref b3), some (.int y55), some (.int b5), none, none, none, none, none]) dX7_flat_180 (Nat.le_of_ble_eq_true rfl) (by rw [ey55]; exact rfl) ?_
          refine x_iinc (lo' := [some (.ref (w.1 7)), none, some (.int b2), some (.ref b3), some (.int y55), some (.int (b5 + 1)), none, none, none, none, none]) dX7_flat_182 rfl (show _ = (b5 + 1) from rfl) rfl ?_
          refine x_goto (tgt := 121) dX7_flat_185 rfl ?_
          exact hT f0 h hW hF
        · intro k s52 f53 hT h a hW hx hF
          exact c_out (rfl) hW hx hF hT
      · replace hT := hT.2 hi48
        refine x_if_ne (tgt := 167) dX7_flat_154 rfl (fun c => absurd c (by decide)) (fun _ => ?_)
        refine x_aload_n dX7_flat_157 rfl rfl rfl ?_
        refine c_getO dX7_flat_158 f_TallySlate_Works_9 (by decide) (by decide) rfl hW ?_
        refine x_iconst (v := 3) dX7_flat_161 rfl ?_
        refine x_iload_n dX7_flat_162 rfl rfl ?_
        obtain ⟨-, -, cc, hcc, -⟩ := hW.ob 3 (by decide)
        refine c_invV (vs := [.int 3, .int b2]) dX7_flat_163 oX3_wrong q1323 q1745 hcc q1324 (Or.inl rfl) rfl rfl (Nat.le_of_ble_eq_true rfl) rfl hW hF hT ?_ ?_
        · intro _ s56 f57 hT h hW hF
          obtain ⟨rfl, hT⟩ := hT
          refine x_athrow dX7_flat_166 ?_
          exact c_out (rfl) hW (Or.inl ⟨rfl, rfl⟩) hF hT
        · intro k s56 f57 hT h a hW hx hF
          exact c_out (rfl) hW hx hF hT
set_option maxHeartbeats 16000000 in
theorem vX7_flat_209 {l : Launch} {E : EN} {w : CO} {d : Nat} {s : CS} {f : RH} {Q : KO → CS → RH → Prop} {b3 : Nat} {b5 : Nat} {b6 : Int32} {b7 : Int32}  (hT : (oc f b3 31 ∧ (∃ a58 : Nat, vl f b3 206 = .ref a58 ∧ (∃ t59 : Nat, tg f a58 = some (.inr t59) ∧ (((nI (ln f a58)) ≤ b7 → Q (.inl (some (.ref b5))) s f) ∧ (¬ (nI (ln f a58)) ≤ b7 → (oc f b3 31 ∧ (∃ a60 : Nat, vl f b3 206 = .ref a60 ∧ (∃ t61 : Nat, 4 ≤ t61 ∧ (tg f a60 = some (.inr t61) ∧ inB b7 (ln f a60) ∧ (∃ a62 : Nat, vl f a60 b7.toNatClampNeg = .ref a62 ∧ (isT f (.ref a62) ∧ ((tg f a62 = some (.inl 32) → (tg f a62 = some (.inl 32) ∧ (oc f a62 32 ∧ (∃ v64 : Int32, vl f a62 209 = .int v64 ∧ (oc f b3 31 ∧ (∃ a65 : Nat, vl f b3 206 = .ref a65 ∧ (∃ t66 : Nat, 4 ≤ t66 ∧ (tg f a65 = some (.inr t66) ∧ inB b7 (ln f a65) ∧ (∃ a67 : Nat, vl f a65 b7.toNatClampNeg = .ref a67 ∧ (EvC l E w d MX7_copyInts [.ref a67, .int v64, .ref b5, .int b6] s f (fun o s68 f69 => KP o (fun r => r = none ∧ (oc f69 b3 31 ∧ (∃ a70 : Nat, vl f69 b3 206 = .ref a70 ∧ (∃ t71 : Nat, 4 ≤ t71 ∧ (tg f69 a70 = some (.inr t71) ∧ inB b7 (ln f69 a70) ∧ (∃ a72 : Nat, vl f69 a70 b7.toNatClampNeg = .ref a72 ∧ (EvC l E w d MX7_intsOf [.ref a72] s68 f69 (fun o s73 f74 => KP o (fun r => ∃ v75 : Int32, r = some (.int v75) ∧ (∀ y76 : Int32, y76 = (b6 + v75) → ExC l E w (d + 1) MX7_flat 209 [none, none, none, some (.ref b3), none, some (.ref b5), some (.int y76), some (.int (b7 + 1)), none, none, none] [] s73 f74 Q)) (fun k => Q (.inr k) s73 f74))))))))) (fun k => Q (.inr k) s68 f69)))))))))))) ∧ (¬ tg f a62 = some (.inl 32) → (oc f b3 31 ∧ (∃ a77 : Nat, vl f b3 206 = .ref a77 ∧ (∃ t78 : Nat, 4 ≤ t78 ∧ (tg f a77 = some (.inr t78) ∧ inB b7 (ln f a77) ∧ (∃ a79 : Nat, vl f a77 b7.toNatClampNeg = .ref a79 ∧ (EvC l E w d MX7_copyInts [.ref a79, .int 0, .ref b5, .int b6] s f (fun o s80 f81 => KP o (fun r => r = none ∧ (oc f81 b3 31 ∧ (∃ a82 : Nat, vl f81 b3 206 = .ref a82 ∧ (∃ t83 : Nat, 4 ≤ t83 ∧ (tg f81 a82 = some (.inr t83) ∧ inB b7 (ln f81 a82) ∧ (∃ a84 : Nat, vl f81 a82 b7.toNatClampNeg = .ref a84 ∧ (EvC l E w d MX7_intsOf [.ref a84] s80 f81 (fun o s85 f86 => KP o (fun r => ∃ v87 : Int32, r = some (.int v87) ∧ (∀ y88 : Int32, y88 = (b6 + v87) → ExC l E w (d + 1) MX7_flat 209 [none, none, none, some (.ref b3), none, some (.ref b5), some (.int y88), some (.int (b7 + 1)), none, none, none] [] s85 f86 Q)) (fun k => Q (.inr k) s85 f86))))))))) (fun k => Q (.inr k) s80 f81)))))))))))))))))))))) : ExC l E w (d + 1) MX7_flat 209 [none, none, none, some (.ref b3), none, some (.ref b5), some (.int b6), some (.int b7), none, none, none] [] s f Q := by
  intro f0 h hW hF
  refine x_iload dX7_flat_209 rfl ?_
  refine x_aload_n dX7_flat_211 rfl rfl rfl ?_
  obtain ⟨hc, hT⟩ := hT
  obtain ⟨a58, ev, hT⟩ := hT
  refine c_fgetG dX7_flat_212 f_TallySlate_Works_172 hc (by decide) (by decide) hW ev ?_
  obtain ⟨t59, hc, hT⟩ := hT
  refine c_alen dX7_flat_215 hc hW ?_
  refine x_icmp_ge (tgt := 291) dX7_flat_216 rfl (fun c => ?_) (fun c => ?_)
  · replace hT := hT.1 c
    refine x_aload dX7_flat_291 rfl rfl ?_
    exact x_aret dX7_flat_293 rfl (by first | exact Or.inl ⟨_, rfl⟩ | exact Or.inr ⟨_, rfl⟩) rfl ⟨_, _, hW, hF, Or.inl ⟨_, rfl, hT⟩⟩
  · replace hT := hT.2 c
    refine x_aload_n dX7_flat_219 rfl rfl rfl ?_
    obtain ⟨hc, hT⟩ := hT
    obtain ⟨a60, ev, hT⟩ := hT
    refine c_fgetG dX7_flat_220 f_TallySlate_Works_172 hc (by decide) (by decide) hW ev ?_
    refine x_iload dX7_flat_223 rfl ?_
    obtain ⟨t61, ht2, hc, hT⟩ := hT
    obtain ⟨hb, hT⟩ := hT
    obtain ⟨a62, ev, hT⟩ := hT
    refine c_faald dX7_flat_225 hc ht2 hb hW ev ?_
    refine x_astore (lo' := [none, none, none, some (.ref b3), none, some (.ref b5), some (.int b6), some (.int b7), none, none, some (.ref a62)]) dX7_flat_226 (Nat.le_of_ble_eq_true rfl) rfl rfl ?_
    refine x_aload dX7_flat_228 rfl rfl ?_
    obtain ⟨ht, hT⟩ := hT
    refine c_inst (K := 32) dX7_flat_230 (by decide) q1821 ht hW (fun hi63 => ?_) (fun hi63 => ?_)
    · replace hT := hT.1 hi63
      refine x_if_eq (tgt := 251) dX7_flat_233 rfl (fun c => absurd c (by decide)) (fun _ => ?_)
      refine x_aload dX7_flat_236 rfl rfl ?_
      obtain ⟨hc, hT⟩ := hT
      refine c_cast (K := 32) dX7_flat_238 q1821 hc hW ?_
      refine x_astore (lo' := [none, none, none, some (.ref b3), none, some (.ref b5), some (.int b6), some (.int b7), none, some (.ref a62), some (.ref a62)]) dX7_flat_241 (Nat.le_of_ble_eq_true rfl) rfl rfl ?_
      refine x_aload dX7_flat_243 rfl rfl ?_
      obtain ⟨hc, hT⟩ := hT
      obtain ⟨v64, ev, hT⟩ := hT
      refine c_fgetG dX7_flat_245 f_TallySlate_Works_201 hc (by decide) (by decide) hW ev ?_
      refine x_goto (tgt := 252) dX7_flat_248 rfl ?_
      refine x_istore (lo' := [none, none, none, some (.ref b3), none, some (.ref b5), some (.int b6), some (.int b7), some (.int v64), some (.ref a62), some (.ref a62)]) dX7_flat_252 (Nat.le_of_ble_eq_true rfl) rfl ?_
      refine x_aload_n dX7_flat_254 rfl rfl rfl ?_
      obtain ⟨hc, hT⟩ := hT
      obtain ⟨a65, ev, hT⟩ := hT
      refine c_fgetG dX7_flat_255 f_TallySlate_Works_172 hc (by decide) (by decide) hW ev ?_
      refine x_iload dX7_flat_258 rfl ?_
      obtain ⟨t66, ht2, hc, hT⟩ := hT
      obtain ⟨hb, hT⟩ := hT
      obtain ⟨a67, ev, hT⟩ := hT
      refine c_faald dX7_flat_260 hc ht2 hb hW ev ?_
      refine x_iload dX7_flat_261 rfl ?_
      refine x_aload dX7_flat_263 rfl rfl ?_
      refine x_iload dX7_flat_265 rfl ?_
      refine c_invS (vs := [.ref a67, .int v64, .ref b5, .int b6]) dX7_flat_267 oX7_copyInts q1826 (Or.inl q1825) rfl rfl (Nat.le_of_ble_eq_true rfl) rfl hW hF hT ?_ ?_
      · intro _ s68 f69 hT h hW hF
        obtain ⟨rfl, hT⟩ := hT
        refine x_iload dX7_flat_270 rfl ?_
        refine x_aload_n dX7_flat_272 rfl rfl rfl ?_
        obtain ⟨hc, hT⟩ := hT
        obtain ⟨a70, ev, hT⟩ := hT
        refine c_fgetG dX7_flat_273 f_TallySlate_Works_172 hc (by decide) (by decide) hW ev ?_
        refine x_iload dX7_flat_276 rfl ?_
        obtain ⟨t71, ht2, hc, hT⟩ := hT
        obtain ⟨hb, hT⟩ := hT
        obtain ⟨a72, ev, hT⟩ := hT
        refine c_faald dX7_flat_278 hc ht2 hb hW ev ?_
        refine c_invS (vs := [.ref a72]) dX7_flat_279 oX7_intsOf q1823 (Or.inl q1822) rfl rfl (Nat.le_of_ble_eq_true rfl) rfl hW hF hT ?_ ?_
        · intro _ s73 f74 hT h hW hF
          obtain ⟨v75, rfl, hT⟩ := hT
          refine x_iadd dX7_flat_282 ?_
          obtain ⟨y76, ey76⟩ : ∃ z : Int32, z = (b6 + v75) := ⟨_, rfl⟩
          replace hT := hT y76 ey76
          refine x_istore (lo' := [none, none, none, some (.ref b3), none, some (.ref b5), some (.int y76), some (.int b7), some (.int v64), some (.ref a62), some (.ref a62)]) dX7_flat_283 (Nat.le_of_ble_eq_true rfl) (by rw [ey76]; exact rfl) ?_
          refine x_iinc (lo' := [none, none, none, some (.ref b3), none, some (.ref b5), some (.int y76), some (.int (b7 + 1)), some (.int v64), some (.ref a62), some (.ref a62)]) dX7_flat_285 rfl (show _ = (b7 + 1) from rfl) rfl ?_
          refine x_goto (tgt := 209) dX7_flat_288 rfl ?_
          refine Ex.wkl (lo' := [none, none, none, some (.ref b3), none, some (.ref b5), some (.int y76), some (.int (b7 + 1)), none, none, none]) ⟨rfl, rfl, rfl, rfl, trivial⟩ ?_
          exact hT f0 h hW hF
        · intro k s73 f74 hT h a hW hx hF
          exact c_out (rfl) hW hx hF hT
      · intro k s68 f69 hT h a hW hx hF
        exact c_out (rfl) hW hx hF hT
    · replace hT := hT.2 hi63
      refine x_if_eq (tgt := 251) dX7_flat_233 rfl (fun _ => ?_) (fun c => absurd c (by decide))
      refine x_iconst (v := 0) dX7_flat_251 rfl ?_
      refine x_istore (lo' := [none, none, none, some (.ref b3), none, some (.ref b5), some (.int b6), some (.int b7), some (.int 0), none, some (.ref a62)]) dX7_flat_252 (Nat.le_of_ble_eq_true rfl) rfl ?_
      refine x_aload_n dX7_flat_254 rfl rfl rfl ?_
      obtain ⟨hc, hT⟩ := hT
      obtain ⟨a77, ev, hT⟩ := hT
      refine c_fgetG dX7_flat_255 f_TallySlate_Works_172 hc (by decide) (by decide) hW ev ?_
      refine x_iload dX7_flat_258 rfl ?_
      obtain ⟨t78, ht2, hc, hT⟩ := hT
      obtain ⟨hb, hT⟩ := hT
      obtain ⟨a79, ev, hT⟩ := hT
      refine c_faald dX7_flat_260 hc ht2 hb hW ev ?_
      refine x_iload dX7_flat_261 rfl ?_
      refine x_aload dX7_flat_263 rfl rfl ?_
      refine x_iload dX7_flat_265 rfl ?_
      refine c_invS (vs := [.ref a79, .int 0, .ref b5, .int b6]) dX7_flat_267 oX7_copyInts q1826 (Or.inl q1825) rfl rfl (Nat.le_of_ble_eq_true rfl) rfl hW hF hT ?_ ?_
      · intro _ s80 f81 hT h hW hF
        obtain ⟨rfl, hT⟩ := hT
        refine x_iload dX7_flat_270 rfl ?_
        refine x_aload_n dX7_flat_272 rfl rfl rfl ?_
        obtain ⟨hc, hT⟩ := hT
        obtain ⟨a82, ev, hT⟩ := hT
        refine c_fgetG dX7_flat_273 f_TallySlate_Works_172 hc (by decide) (by decide) hW ev ?_
        refine x_iload dX7_flat_276 rfl ?_
        obtain ⟨t83, ht2, hc, hT⟩ := hT
        obtain ⟨hb, hT⟩ := hT
        obtain ⟨a84, ev, hT⟩ := hT
        refine c_faald dX7_flat_278 hc ht2 hb hW ev ?_
        refine c_invS (vs := [.ref a84]) dX7_flat_279 oX7_intsOf q1823 (Or.inl q1822) rfl rfl (Nat.le_of_ble_eq_true rfl) rfl hW hF hT ?_ ?_
        · intro _ s85 f86 hT h hW hF
          obtain ⟨v87, rfl, hT⟩ := hT
          refine x_iadd dX7_flat_282 ?_
          obtain ⟨y88, ey88⟩ : ∃ z : Int32, z = (b6 + v87) := ⟨_, rfl⟩
          replace hT := hT y88 ey88
          refine x_istore (lo' := [none, none, none, some (.ref b3), none, some (.ref b5), some (.int y88), some (.int b7), some (.int 0), none, some (.ref a62)]) dX7_flat_283 (Nat.le_of_ble_eq_true rfl) (by rw [ey88]; exact rfl) ?_
          refine x_iinc (lo' := [none, none, none, some (.ref b3), none, some (.ref b5), some (.int y88), some (.int (b7 + 1)), some (.int 0), none, some (.ref a62)]) dX7_flat_285 rfl (show _ = (b7 + 1) from rfl) rfl ?_
          refine x_goto (tgt := 209) dX7_flat_288 rfl ?_
          refine Ex.wkl (lo' := [none, none, none, some (.ref b3), none, some (.ref b5), some (.int y88), some (.int (b7 + 1)), none, none, none]) ⟨rfl, rfl, rfl, rfl, trivial⟩ ?_
          exact hT f0 h hW hF
        · intro k s85 f86 hT h a hW hx hF
          exact c_out (rfl) hW hx hF hT
      · intro k s80 f81 hT h a hW hx hF
        exact c_out (rfl) hW hx hF hT
theorem vX7_copyInts_0 {l : Launch} {E : EN} {w : CO} {d : Nat} {s : CS} {f : RH} {Q : KO → CS → RH → Prop} {x1 : Value} {x2 : Int32} {x3 : Nat} {x4 : Int32} (ix1 : isR x1 = true) (hT : (isT f x1 ∧ ((∀ a2 : Nat, x1 = .ref a2 → tg f a2 = some (.inl 29) → (tg f a2 = some (.inl 29) ∧ (oc f a2 29 ∧ (∃ a3 : Nat, vl f a2 203 = .ref a3 ∧ (oc f a2 29 ∧ (∃ a4 : Nat, vl f a2 203 = .ref a4 ∧ (∃ t5 : Nat, tg f a4 = some (.inr t5) ∧ (tg f a3 = some (.inr 0) ∧ tg f x3 = some (.inr 0) ∧ f.2.2.2 ≤ x3 ∧ ¬ (0 : Int32) < 0 ∧ ¬ x4 < 0 ∧ ¬ (nI (ln f a4)) < 0 ∧ (0 : Int32).toNatClampNeg + (nI (ln f a4)).toNatClampNeg ≤ ln f a3 ∧ x4.toNatClampNeg + (nI (ln f a4)).toNatClampNeg ≤ ln f x3 ∧ (∀ i, i < (nI (ln f a4)).toNatClampNeg → ∃ x : Int32, vl f a3 ((0 : Int32).toNatClampNeg + i) = .int x) ∧ ∀ f6 : RH, f6 = fcont f x3 (cpy (vl f a3) (vl f x3) (0 : Int32).toNatClampNeg x4.toNatClampNeg (nI (ln f a4)).toNatClampNeg) → Q (.inl none) s f6)))))))) ∧ ((∀ z : Nat, x1 = .ref z → ¬ tg f z = some (.inl 29)) → (tg f x3 = some (.inr 0) ∧ inB x4 (ln f x3) ∧ f.2.2.2 ≤ x3 ∧ ∀ f7 : RH, f7 = fset f x3 x4.toNatClampNeg (.int x2) → Q (.inl none) s f7))))) : ExC l E w (d + 1) MX7_copyInts 0 [some (x1), some (.int x2), some (.ref x3), some (.int x4), none] [] s f Q := by
  intro f0 h hW hF
  refine x_aload_n dX7_copyInts_0 rfl rfl ix1 ?_
  obtain ⟨ht, hT⟩ := hT
  refine c_instV (K := 29) dX7_copyInts_1 (by decide) q1755 ht hW (fun a2 ec hi1 => ?_) (fun hi1 => ?_)
  · subst ec
    replace hT := hT.1 a2 rfl hi1
    refine x_if_eq (tgt := 33) dX7_copyInts_4 rfl (fun c => absurd c (by decide)) (fun _ => ?_)
    refine x_aload_n dX7_copyInts_7 rfl rfl rfl ?_
    obtain ⟨hc, hT⟩ := hT
    refine c_cast (K := 29) dX7_copyInts_8 q1755 hc hW ?_
    refine x_astore (lo' := [some (.ref a2), some (.int x2), some (.ref x3), some (.int x4), some (.ref a2)]) dX7_copyInts_11 (Nat.le_of_ble_eq_true rfl) rfl rfl ?_
    refine x_aload dX7_copyInts_13 rfl rfl ?_
    obtain ⟨hc, hT⟩ := hT
    obtain ⟨a3, ev, hT⟩ := hT
    refine c_fgetG dX7_copyInts_15 f_TallySlate_Works_66 hc (by decide) (by decide) hW ev ?_
    refine x_iconst (v := 0) dX7_copyInts_18 rfl ?_
    refine x_aload_n dX7_copyInts_19 rfl rfl rfl ?_
    refine x_iload_n dX7_copyInts_20 rfl rfl ?_
    refine x_aload dX7_copyInts_21 rfl rfl ?_
    obtain ⟨hc, hT⟩ := hT
    obtain ⟨a4, ev, hT⟩ := hT
    refine c_fgetG dX7_copyInts_23 f_TallySlate_Works_66 hc (by decide) (by decide) hW ev ?_
    obtain ⟨t5, hc, hT⟩ := hT
    refine c_alen dX7_copyInts_26 hc hW ?_
    obtain ⟨ha, hb, hz, h1, h2, h3, h4, h5, hfit, hT⟩ := hT
    refine c_copyF dX7_copyInts_27 q1820 q573 q572 q177 ha hb hz h1 h2 h3 h4 h5 hfit (Nat.le_of_ble_eq_true rfl) rfl hW hF ?_
    intro f6 ef6 h hW hF
    replace hT := hT f6 ef6
    refine x_goto (tgt := 37) dX7_copyInts_30 rfl ?_
    exact x_vret dX7_copyInts_37 rfl ⟨_, _, hW, hF, Or.inl ⟨_, rfl, hT⟩⟩
  · replace hT := hT.2 hi1
    refine x_if_eq (tgt := 33) dX7_copyInts_4 rfl (fun _ => ?_) (fun c => absurd c (by decide))
    refine x_aload_n dX7_copyInts_33 rfl rfl rfl ?_
    refine x_iload_n dX7_copyInts_34 rfl rfl ?_
    refine x_iload_n dX7_copyInts_35 rfl rfl ?_
    obtain ⟨hc, hT⟩ := hT
    obtain ⟨hb, hz, hT⟩ := hT
    refine c_fiastG dX7_copyInts_36 hc hb hz hW hF ?_
    intro f7 ef7 h hW hF
    replace hT := hT f7 ef7
    exact x_vret dX7_copyInts_37 rfl ⟨_, _, hW, hF, Or.inl ⟨_, rfl, hT⟩⟩
theorem eX7_copyInts {l : Launch} {E : EN} {w : CO} {d : Nat} {s : CS} {f : RH} {Q : KO → CS → RH → Prop} {x1 : Value} {x2 : Int32} {x3 : Nat} {x4 : Int32} (ix1 : isR x1 = true) (hst : l.stackTraces = false) (hT : (isT f x1 ∧ ((∀ a2 : Nat, x1 = .ref a2 → tg f a2 = some (.inl 29) → (tg f a2 = some (.inl 29) ∧ (oc f a2 29 ∧ (∃ a3 : Nat, vl f a2 203 = .ref a3 ∧ (oc f a2 29 ∧ (∃ a4 : Nat, vl f a2 203 = .ref a4 ∧ (∃ t5 : Nat, tg f a4 = some (.inr t5) ∧ (tg f a3 = some (.inr 0) ∧ tg f x3 = some (.inr 0) ∧ f.2.2.2 ≤ x3 ∧ ¬ (0 : Int32) < 0 ∧ ¬ x4 < 0 ∧ ¬ (nI (ln f a4)) < 0 ∧ (0 : Int32).toNatClampNeg + (nI (ln f a4)).toNatClampNeg ≤ ln f a3 ∧ x4.toNatClampNeg + (nI (ln f a4)).toNatClampNeg ≤ ln f x3 ∧ (∀ i, i < (nI (ln f a4)).toNatClampNeg → ∃ x : Int32, vl f a3 ((0 : Int32).toNatClampNeg + i) = .int x) ∧ ∀ f6 : RH, f6 = fcont f x3 (cpy (vl f a3) (vl f x3) (0 : Int32).toNatClampNeg x4.toNatClampNeg (nI (ln f a4)).toNatClampNeg) → Q (.inl none) s f6)))))))) ∧ ((∀ z : Nat, x1 = .ref z → ¬ tg f z = some (.inl 29)) → (tg f x3 = some (.inr 0) ∧ inB x4 (ln f x3) ∧ f.2.2.2 ≤ x3 ∧ ∀ f7 : RH, f7 = fset f x3 x4.toNatClampNeg (.int x2) → Q (.inl none) s f7))))) : EvC l E w (d + 1) MX7_copyInts [x1, .int x2, .ref x3, .int x4] s f Q :=by
  rcases isR_cases ix1 with rfl | ⟨_, rfl⟩ <;> exact
  
  EvC.of hst (by decide) (Nat.le_of_ble_eq_true rfl) (vX7_copyInts_0 ix1 hT)
theorem vX7_cut_0 {l : Launch} {E : EN} {w : CO} {d : Nat} {s : CS} {f : RH} {Q : KO → CS → RH → Prop} {x1 : Nat} {x2 : Nat} {x3 : Int32}  (hT : (∃ t1 : Nat, tg f x2 = some (.inr t1) ∧ (((nI (ln f x2)) ≤ 20 → ExC l E w (d + 1) MX7_cut 26 [some (.ref (w.1 7)), some (.ref x1), some (.ref x2), some (.int x3), some (.long 0), none, some (.int 0), some (.int 0), none, none] [] s f Q) ∧ (¬ (nI (ln f x2)) ≤ 20 → (EvC l E w d MX3_wrong [.ref (w.1 3), .int 2, .int x3] s f (fun o s2 f3 => KP o (fun r => r = some (.ref (w.1 9)) ∧ Q (.inr 9) s2 f3) (fun k => Q (.inr k) s2 f3))))))) : ExC l E w (d + 1) MX7_cut 0 [some (.ref (w.1 7)), some (.ref x1), some (.ref x2), some (.int x3), none, none, none, none, none, none] [] s f Q := by
  intro f0 h hW hF
  refine x_aload_n dX7_cut_0 rfl rfl rfl ?_
  obtain ⟨t1, hc, hT⟩ := hT
  refine c_alen dX7_cut_1 hc hW ?_
  refine x_bipush (v := 20) dX7_cut_2 rfl ?_
  refine x_icmp_le (tgt := 17) dX7_cut_4 rfl (fun c => ?_) (fun c => ?_)
  · replace hT := hT.1 c
    refine x_lconst (v := 0) dX7_cut_17 rfl ?_
    refine x_lstore (lo' := [some (.ref (w.1 7)), some (.ref x1), some (.ref x2), some (.int x3), some (.long 0), none, none, none, none, none]) dX7_cut_18 (Nat.le_of_ble_eq_true rfl) rfl ?_
    refine x_iconst (v := 0) dX7_cut_20 rfl ?_
    refine x_istore (lo' := [some (.ref (w.1 7)), some (.ref x1), some (.ref x2), some (.int x3), some (.long 0), none, some (.int 0), none, none, none]) dX7_cut_21 (Nat.le_of_ble_eq_true rfl) rfl ?_
    refine x_iconst (v := 0) dX7_cut_23 rfl ?_
    refine x_istore (lo' := [some (.ref (w.1 7)), some (.ref x1), some (.ref x2), some (.int x3), some (.long 0), none, some (.int 0), some (.int 0), none, none]) dX7_cut_24 (Nat.le_of_ble_eq_true rfl) rfl ?_
    exact hT f0 h hW hF
  · replace hT := hT.2 c
    refine x_aload_n dX7_cut_7 rfl rfl rfl ?_
    refine c_getO dX7_cut_8 f_TallySlate_Works_9 (by decide) (by decide) rfl hW ?_
    refine x_iconst (v := 2) dX7_cut_11 rfl ?_
    refine x_iload_n dX7_cut_12 rfl rfl ?_
    obtain ⟨-, -, cc, hcc, -⟩ := hW.ob 3 (by decide)
    refine c_invV (vs := [.int 2, .int x3]) dX7_cut_13 oX3_wrong q1323 q1745 hcc q1324 (Or.inl rfl) rfl rfl (Nat.le_of_ble_eq_true rfl) rfl hW hF hT ?_ ?_
    · intro _ s2 f3 hT h hW hF
      obtain ⟨rfl, hT⟩ := hT
      refine x_athrow dX7_cut_16 ?_
      exact c_out (rfl) hW (Or.inl ⟨rfl, rfl⟩) hF hT
    · intro k s2 f3 hT h a hW hx hF
      exact c_out (rfl) hW hx hF hT
theorem eX7_cut {l : Launch} {E : EN} {w : CO} {d : Nat} {s : CS} {f : RH} {Q : KO → CS → RH → Prop} {x1 : Nat} {x2 : Nat} {x3 : Int32}  (hst : l.stackTraces = false) (hT : (∃ t1 : Nat, tg f x2 = some (.inr t1) ∧ (((nI (ln f x2)) ≤ 20 → ExC l E w (d + 1) MX7_cut 26 [some (.ref (w.1 7)), some (.ref x1), some (.ref x2), some (.int x3), some (.long 0), none, some (.int 0), some (.int 0), none, none] [] s f Q) ∧ (¬ (nI (ln f x2)) ≤ 20 → (EvC l E w d MX3_wrong [.ref (w.1 3), .int 2, .int x3] s f (fun o s2 f3 => KP o (fun r => r = some (.ref (w.1 9)) ∧ Q (.inr 9) s2 f3) (fun k => Q (.inr k) s2 f3))))))) : EvC l E w (d + 1) MX7_cut [.ref (w.1 7), .ref x1, .ref x2, .int x3] s f Q :=
  EvC.of hst (by decide) (Nat.le_of_ble_eq_true rfl) (vX7_cut_0  hT)
set_option maxHeartbeats 16000000 in
theorem vX7_cut_26 {l : Launch} {E : EN} {w : CO} {d : Nat} {s : CS} {f : RH} {Q : KO → CS → RH → Prop} {b1 : Nat} {b2 : Nat} {b3 : Int32} {b4 : Int64} {b6 : Int32} {b7 : Int32}  (hT : (∃ t4 : Nat, tg f b2 = some (.inr t4) ∧ (((nI (ln f b2)) ≤ b7 → ((0 ≤ b6 → (∃ t5 : Nat, tg f b1 = some (.inr t5) ∧ (((lg_cmp b4 (nI (ln f b1)).toInt64) = 0 → (∃ t6 : Nat, tg f b2 = some (.inr t6) ∧ (¬ (nI (ln f b2)) < 0 ∧ (nI (ln f b2)).toNatClampNeg ≤ 60000000 ∧ rmF E f 1 (nI (ln f b2)).toNatClampNeg ∧ ∀ (a7 : Nat) (f8 : RH), a7 = f.1 → f8 = fnewA f 11 (nI (ln f b2)).toNatClampNeg → ExC l E w (d + 1) MX7_cut 114 [none, some (.ref b1), some (.ref b2), none, none, none, none, some (.ref a7), some (.int 0), some (.int 0)] [] s f8 Q))) ∧ (¬ (lg_cmp b4 (nI (ln f b1)).toInt64) = 0 → (EvC l E w d MX3_wrong [.ref (w.1 3), .int 4, .int b3] s f (fun o s9 f10 => KP o (fun r => r = some (.ref (w.1 9)) ∧ Q (.inr 9) s9 f10) (fun k => Q (.inr k) s9 f10))))))) ∧ (¬ 0 ≤ b6 → (EvC l E w d MX6_ints [.ref (w.1 6), .int b6, .int b3] s f (fun o s11 f12 => KP o (fun r => ∃ a13 : Nat, r = some (.ref a13) ∧ (∃ t14 : Nat, tg f12 a13 = some (.inr t14) ∧ (∀ y15 : Int64, y15 = (nI (ln f12 a13)).toInt64 → (∃ t16 : Nat, tg f12 b1 = some (.inr t16) ∧ (((lg_cmp y15 (nI (ln f12 b1)).toInt64) = 0 → (∃ t17 : Nat, tg f12 b2 = some (.inr t17) ∧ (¬ (nI (ln f12 b2)) < 0 ∧ (nI (ln f12 b2)).toNatClampNeg ≤ 60000000 ∧ rmF E f12 1 (nI (ln f12 b2)).toNatClampNeg ∧ ∀ (a18 : Nat) (f19 : RH), a18 = f12.1 → f19 = fnewA f12 11 (nI (ln f12 b2)).toNatClampNeg → ExC l E w (d + 1) MX7_cut 114 [none, some (.ref b1), some (.ref b2), none, none, none, none, some (.ref a18), some (.int 0), some (.int 0)] [] s11 f19 Q))) ∧ (¬ (lg_cmp y15 (nI (ln f12 b1)).toInt64) = 0 → (EvC l E w d MX3_wrong [.ref (w.1 3), .int 4, .int b3] s11 f12 (fun o s20 f21 => KP o (fun r => r = some (.ref (w.1 9)) ∧ Q (.inr 9) s20 f21) (fun k => Q (.inr k) s20 f21))))))))) (fun k => Q (.inr k) s11 f12)))))) ∧ (¬ (nI (ln f b2)) ≤ b7 → (tg f b2 = some (.inr 0) ∧ inB b7 (ln f b2) ∧ (∃ v22 : Int32, vl f b2 b7.toNatClampNeg = .int v22 ∧ (∀ y23 : Int64, y23 = (b4 + v22.toInt64) → (tg f b2 = some (.inr 0) ∧ inB b7 (ln f b2) ∧ (∃ v24 : Int32, vl f b2 b7.toNatClampNeg = .int v24 ∧ (∀ y25 : Int32, y25 = (if v24 < b6 then v24 else b6) → ExC l E w (d + 1) MX7_cut 26 [some (.ref (w.1 7)), some (.ref b1), some (.ref b2), some (.int b3), some (.long y23), none, some (.int y25), some (.int (b7 + 1)), none, none] [] s f Q)))))))))) : ExC l E w (d + 1) MX7_cut 26 [some (.ref (w.1 7)), some (.ref b1), some (.ref b2), some (.int b3), some (.long b4), none, some (.int b6), some (.int b7), none, none] [] s f Q := by
  intro f0 h hW hF
  refine x_iload dX7_cut_26 rfl ?_
  refine x_aload_n dX7_cut_28 rfl rfl rfl ?_
  obtain ⟨t4, hc, hT⟩ := hT
  refine c_alen dX7_cut_29 hc hW ?_
  refine x_icmp_ge (tgt := 60) dX7_cut_30 rfl (fun c => ?_) (fun c => ?_)
  · replace hT := hT.1 c
    refine x_iload dX7_cut_60 rfl ?_
    refine x_if_ge (tgt := 82) dX7_cut_62 rfl (fun c => ?_) (fun c => ?_)
    · replace hT := hT.1 c
      refine x_lload dX7_cut_82 rfl ?_
      refine x_aload_n dX7_cut_84 rfl rfl rfl ?_
      obtain ⟨t5, hc, hT⟩ := hT
      refine c_alen dX7_cut_85 hc hW ?_
      refine x_i2l dX7_cut_86 ?_
      refine x_lcmp dX7_cut_87 ?_
      refine x_if_eq (tgt := 101) dX7_cut_88 rfl (fun c => ?_) (fun c => ?_)
      · replace hT := hT.1 c
        refine x_aload_n dX7_cut_101 rfl rfl rfl ?_
        obtain ⟨t6, hc, hT⟩ := hT
        refine c_alen dX7_cut_102 hc hW ?_
        obtain ⟨hn, hT⟩ := hT
        obtain ⟨hb, hr, hT⟩ := hT
        refine c_anewarrayG (t := 11) dX7_cut_103 (by decide) (by decide) (by decide) rfl q1463 (Or.inr ⟨_, rfl, q1798⟩) hn hb hr hW hF ?_
        intro a7 f8 ea7 ef8 h hW hF
        replace hT := hT a7 f8 ea7 ef8
        refine x_astore (lo' := [some (.ref (w.1 7)), some (.ref b1), some (.ref b2), some (.int b3), some (.long b4), none, some (.int b6), some (.ref a7), none, none]) dX7_cut_106 (Nat.le_of_ble_eq_true rfl) rfl rfl ?_
        refine x_iconst (v := 0) dX7_cut_108 rfl ?_
        refine x_istore (lo' := [some (.ref (w.1 7)), some (.ref b1), some (.ref b2), some (.int b3), some (.long b4), none, some (.int b6), some (.ref a7), some (.int 0), none]) dX7_cut_109 (Nat.le_of_ble_eq_true rfl) rfl ?_
        refine x_iconst (v := 0) dX7_cut_111 rfl ?_
        refine x_istore (lo' := [some (.ref (w.1 7)), some (.ref b1), some (.ref b2), some (.int b3), some (.long b4), none, some (.int b6), some (.ref a7), some (.int 0), some (.int 0)]) dX7_cut_112 (Nat.le_of_ble_eq_true rfl) rfl ?_
        refine Ex.wkl (lo' := [none, some (.ref b1), some (.ref b2), none, none, none, none, some (.ref a7), some (.int 0), some (.int 0)]) ⟨rfl, rfl, rfl, rfl, rfl, trivial⟩ ?_
        exact hT f0 h hW hF
      · replace hT := hT.2 c
        refine x_aload_n dX7_cut_91 rfl rfl rfl ?_
        refine c_getO dX7_cut_92 f_TallySlate_Works_9 (by decide) (by decide) rfl hW ?_
        refine x_iconst (v := 4) dX7_cut_95 rfl ?_
        refine x_iload_n dX7_cut_96 rfl rfl ?_
        obtain ⟨-, -, cc, hcc, -⟩ := hW.ob 3 (by decide)
        refine c_invV (vs := [.int 4, .int b3]) dX7_cut_97 oX3_wrong q1323 q1745 hcc q1324 (Or.inl rfl) rfl rfl (Nat.le_of_ble_eq_true rfl) rfl hW hF hT ?_ ?_
        · intro _ s9 f10 hT h hW hF
          obtain ⟨rfl, hT⟩ := hT
          refine x_athrow dX7_cut_100 ?_
          exact c_out (rfl) hW (Or.inl ⟨rfl, rfl⟩) hF hT
        · intro k s9 f10 hT h a hW hx hF
          exact c_out (rfl) hW hx hF hT
    · replace hT := hT.2 c
      refine x_aload_n dX7_cut_65 rfl rfl rfl ?_
      refine c_getO dX7_cut_66 f_TallySlate_Works_9 (by decide) (by decide) rfl hW ?_
      refine c_getO dX7_cut_69 f_TallySlate_Works_177 (by decide) (by decide) rfl hW ?_
      refine x_iload dX7_cut_72 rfl ?_
      refine x_iload_n dX7_cut_74 rfl rfl ?_
      obtain ⟨-, -, cc, hcc, -⟩ := hW.ob 6 (by decide)
      refine c_invV (vs := [.int b6, .int b3]) dX7_cut_75 oX6_ints q1701 q1819 hcc q1702 (Or.inl rfl) rfl rfl (Nat.le_of_ble_eq_true rfl) rfl hW hF hT ?_ ?_
      · intro _ s11 f12 hT h hW hF
        obtain ⟨a13, rfl, hT⟩ := hT
        obtain ⟨t14, hc, hT⟩ := hT
        refine c_alen dX7_cut_78 hc hW ?_
        refine x_i2l dX7_cut_79 ?_
        obtain ⟨y15, ey15⟩ : ∃ z : Int64, z = (nI (ln f12 a13)).toInt64 := ⟨_, rfl⟩
        replace hT := hT y15 ey15
        refine x_lstore (lo' := [some (.ref (w.1 7)), some (.ref b1), some (.ref b2), some (.int b3), some (.long y15), none, some (.int b6), some (.int b7), none, none]) dX7_cut_80 (Nat.le_of_ble_eq_true rfl) (by rw [ey15]; exact rfl) ?_
        refine x_lload dX7_cut_82 rfl ?_
        refine x_aload_n dX7_cut_84 rfl rfl rfl ?_
        obtain ⟨t16, hc, hT⟩ := hT
        refine c_alen dX7_cut_85 hc hW ?_
        refine x_i2l dX7_cut_86 ?_
        refine x_lcmp dX7_cut_87 ?_
        refine x_if_eq (tgt := 101) dX7_cut_88 rfl (fun c => ?_) (fun c => ?_)
        · replace hT := hT.1 c
          refine x_aload_n dX7_cut_101 rfl rfl rfl ?_
          obtain ⟨t17, hc, hT⟩ := hT
          refine c_alen dX7_cut_102 hc hW ?_
          obtain ⟨hn, hT⟩ := hT
          obtain ⟨hb, hr, hT⟩ := hT
          refine c_anewarrayG (t := 11) dX7_cut_103 (by decide) (by decide) (by decide) rfl q1463 (Or.inr ⟨_, rfl, q1798⟩) hn hb hr hW hF ?_
          intro a18 f19 ea18 ef19 h hW hF
          replace hT := hT a18 f19 ea18 ef19
          refine x_astore (lo' := [some (.ref (w.1 7)), some (.ref b1), some (.ref b2), some (.int b3), some (.long y15), none, some (.int b6), some (.ref a18), none, none]) dX7_cut_106 (Nat.le_of_ble_eq_true rfl) rfl rfl ?_
          refine x_iconst (v := 0) dX7_cut_108 rfl ?_
          refine x_istore (lo' := [some (.ref (w.1 7)), some (.ref b1), some (.ref b2), some (.int b3), some (.long y15), none, some (.int b6), some (.ref a18), some (.int 0), none]) dX7_cut_109 (Nat.le_of_ble_eq_true rfl) rfl ?_
          refine x_iconst (v := 0) dX7_cut_111 rfl ?_
          refine x_istore (lo' := [some (.ref (w.1 7)), some (.ref b1), some (.ref b2), some (.int b3), some (.long y15), none, some (.int b6), some (.ref a18), some (.int 0), some (.int 0)]) dX7_cut_112 (Nat.le_of_ble_eq_true rfl) rfl ?_
          refine Ex.wkl (lo' := [none, some (.ref b1), some (.ref b2), none, none, none, none, some (.ref a18), some (.int 0), some (.int 0)]) ⟨rfl, rfl, rfl, rfl, rfl, trivial⟩ ?_
          exact hT f0 h hW hF
        · replace hT := hT.2 c
          refine x_aload_n dX7_cut_91 rfl rfl rfl ?_
          refine c_getO dX7_cut_92 f_TallySlate_Works_9 (by decide) (by decide) rfl hW ?_
          refine x_iconst (v := 4) dX7_cut_95 rfl ?_
          refine x_iload_n dX7_cut_96 rfl rfl ?_
          obtain ⟨-, -, cc, hcc, -⟩ := hW.ob 3 (by decide)
          refine c_invV (vs := [.int 4, .int b3]) dX7_cut_97 oX3_wrong q1323 q1745 hcc q1324 (Or.inl rfl) rfl rfl (Nat.le_of_ble_eq_true rfl) rfl hW hF hT ?_ ?_
          · intro _ s20 f21 hT h hW hF
            obtain ⟨rfl, hT⟩ := hT
            refine x_athrow dX7_cut_100 ?_
            exact c_out (rfl) hW (Or.inl ⟨rfl, rfl⟩) hF hT
          · intro k s20 f21 hT h a hW hx hF
            exact c_out (rfl) hW hx hF hT
      · intro k s11 f12 hT h a hW hx hF
        exact c_out (rfl) hW hx hF hT
  · replace hT := hT.2 c
    refine x_lload dX7_cut_33 rfl ?_
    refine x_aload_n dX7_cut_35 rfl rfl rfl ?_
    refine x_iload dX7_cut_36 rfl ?_
    obtain ⟨hc, hT⟩ := hT
    obtain ⟨hb, hT⟩ := hT
    obtain ⟨v22, ev, hT⟩ := hT
    refine c_fiald dX7_cut_38 hc hb hW ev ?_
    refine x_i2l dX7_cut_39 ?_
    refine x_ladd dX7_cut_40 ?_
    obtain ⟨y23, ey23⟩ : ∃ z : Int64, z = (b4 + v22.toInt64) := ⟨_, rfl⟩
    replace hT := hT y23 ey23
    refine x_lstore (lo' := [some (.ref (w.1 7)), some (.ref b1), some (.ref b2), some (.int b3), some (.long y23), none, some (.int b6), some (.int b7), none, none]) dX7_cut_41 (Nat.le_of_ble_eq_true rfl) (by rw [ey23]; exact rfl) ?_
    refine x_iload dX7_cut_43 rfl ?_
    refine x_aload_n dX7_cut_45 rfl rfl rfl ?_
    refine x_iload dX7_cut_46 rfl ?_
    obtain ⟨hc, hT⟩ := hT
    obtain ⟨hb, hT⟩ := hT
    obtain ⟨v24, ev, hT⟩ := hT
    refine c_fiald dX7_cut_48 hc hb hW ev ?_
    refine x_mmin dX7_cut_49 q1783 q672 q181 mq_min (Nat.le_of_ble_eq_true rfl) rfl ?_
    obtain ⟨y25, ey25⟩ : ∃ z : Int32, z = (if v24 < b6 then v24 else b6) := ⟨_, rfl⟩
    replace hT := hT y25 ey25
    refine x_istore (lo' := [some (.ref (w.1 7)), some (.ref b1), some (.ref b2), some (.int b3), some (.long y23), none, some (.int y25), some (.int b7), none, none]) dX7_cut_52 (Nat.le_of_ble_eq_true rfl) (by rw [ey25]; exact rfl) ?_
    refine x_iinc (lo' := [some (.ref (w.1 7)), some (.ref b1), some (.ref b2), some (.int b3), some (.long y23), none, some (.int y25), some (.int (b7 + 1)), none, none]) dX7_cut_54 rfl (show _ = (b7 + 1) from rfl) rfl ?_
    refine x_goto (tgt := 26) dX7_cut_57 rfl ?_
    exact hT f0 h hW hF
theorem vX7_cut_114 {l : Launch} {E : EN} {w : CO} {d : Nat} {s : CS} {f : RH} {Q : KO → CS → RH → Prop} {b1 : Nat} {b2 : Nat} {b7 : Nat} {b8 : Int32} {b9 : Int32}  (hT : (∃ t26 : Nat, tg f b2 = some (.inr t26) ∧ (((nI (ln f b2)) ≤ b9 → Q (.inl (some (.ref b7))) s f) ∧ (¬ (nI (ln f b2)) ≤ b9 → (tg f b2 = some (.inr 0) ∧ inB b9 (ln f b2) ∧ (∃ v27 : Int32, vl f b2 b9.toNatClampNeg = .int v27 ∧ (¬ v27 < 0 ∧ v27.toNatClampNeg ≤ 60000000 ∧ rmF E f 1 v27.toNatClampNeg ∧ ∀ (a28 : Nat) (f29 : RH), a28 = f.1 → f29 = fnewA f 0 v27.toNatClampNeg → (tg f29 b7 = some (.inr 11) ∧ tg f29 a28 = some (.inr 0) ∧ ez E ≤ a28 ∧ inB b9 (ln f29 b7) ∧ f29.2.2.2 ≤ b7 ∧ ∀ f30 : RH, f30 = fset f29 b7 b9.toNatClampNeg (.ref a28) → (∃ t31 : Nat, 4 ≤ t31 ∧ (tg f30 b7 = some (.inr t31) ∧ inB b9 (ln f30 b7) ∧ (∃ a32 : Nat, vl f30 b7 b9.toNatClampNeg = .ref a32 ∧ (tg f30 b2 = some (.inr 0) ∧ inB b9 (ln f30 b2) ∧ (∃ v33 : Int32, vl f30 b2 b9.toNatClampNeg = .int v33 ∧ (tg f30 b1 = some (.inr 0) ∧ tg f30 a32 = some (.inr 0) ∧ f30.2.2.2 ≤ a32 ∧ ¬ b8 < 0 ∧ ¬ (0 : Int32) < 0 ∧ ¬ v33 < 0 ∧ b8.toNatClampNeg + v33.toNatClampNeg ≤ ln f30 b1 ∧ (0 : Int32).toNatClampNeg + v33.toNatClampNeg ≤ ln f30 a32 ∧ (∀ i, i < v33.toNatClampNeg → ∃ x : Int32, vl f30 b1 (b8.toNatClampNeg + i) = .int x) ∧ ∀ f34 : RH, f34 = fcont f30 a32 (cpy (vl f30 b1) (vl f30 a32) b8.toNatClampNeg (0 : Int32).toNatClampNeg v33.toNatClampNeg) → (tg f34 b2 = some (.inr 0) ∧ inB b9 (ln f34 b2) ∧ (∃ v35 : Int32, vl f34 b2 b9.toNatClampNeg = .int v35 ∧ (∀ y36 : Int32, y36 = (b8 + v35) → ExC l E w (d + 1) MX7_cut 114 [none, some (.ref b1), some (.ref b2), none, none, none, none, some (.ref b7), some (.int y36), some (.int (b9 + 1))] [] s f34 Q))))))))))))))))) : ExC l E w (d + 1) MX7_cut 114 [none, some (.ref b1), some (.ref b2), none, none, none, none, some (.ref b7), some (.int b8), some (.int b9)] [] s f Q := by
  intro f0 h hW hF
  refine x_iload dX7_cut_114 rfl ?_
  refine x_aload_n dX7_cut_116 rfl rfl rfl ?_
  obtain ⟨t26, hc, hT⟩ := hT
  refine c_alen dX7_cut_117 hc hW ?_
  refine x_icmp_ge (tgt := 163) dX7_cut_118 rfl (fun c => ?_) (fun c => ?_)
  · replace hT := hT.1 c
    refine x_aload dX7_cut_163 rfl rfl ?_
    exact x_aret dX7_cut_165 rfl (by first | exact Or.inl ⟨_, rfl⟩ | exact Or.inr ⟨_, rfl⟩) rfl ⟨_, _, hW, hF, Or.inl ⟨_, rfl, hT⟩⟩
  · replace hT := hT.2 c
    refine x_aload dX7_cut_121 rfl rfl ?_
    refine x_iload dX7_cut_123 rfl ?_
    refine x_aload_n dX7_cut_125 rfl rfl rfl ?_
    refine x_iload dX7_cut_126 rfl ?_
    obtain ⟨hc, hT⟩ := hT
    obtain ⟨hb, hT⟩ := hT
    obtain ⟨v27, ev, hT⟩ := hT
    refine c_fiald dX7_cut_128 hc hb hW ev ?_
    obtain ⟨hn, hT⟩ := hT
    obtain ⟨hb, hr, hT⟩ := hT
    refine c_newarrayG (t := 0) dX7_cut_129 (by decide) rfl hn hb hr hW hF ?_
    intro a28 f29 ea28 ef29 h hW hF
    replace hT := hT a28 f29 ea28 ef29
    obtain ⟨hc, hv, hzb, hT⟩ := hT
    obtain ⟨hb, hz, hT⟩ := hT
    refine c_faastAG dX7_cut_131 hc hv hzb hb hz hW hF ?_
    intro f30 ef30 h hW hF
    replace hT := hT f30 ef30
    refine x_aload_n dX7_cut_132 rfl rfl rfl ?_
    refine x_iload dX7_cut_133 rfl ?_
    refine x_aload dX7_cut_135 rfl rfl ?_
    refine x_iload dX7_cut_137 rfl ?_
    obtain ⟨t31, ht2, hc, hT⟩ := hT
    obtain ⟨hb, hT⟩ := hT
    obtain ⟨a32, ev, hT⟩ := hT
    refine c_faald dX7_cut_139 hc ht2 hb hW ev ?_
    refine x_iconst (v := 0) dX7_cut_140 rfl ?_
    refine x_aload_n dX7_cut_141 rfl rfl rfl ?_
    refine x_iload dX7_cut_142 rfl ?_
    obtain ⟨hc, hT⟩ := hT
    obtain ⟨hb, hT⟩ := hT
    obtain ⟨v33, ev, hT⟩ := hT
    refine c_fiald dX7_cut_144 hc hb hW ev ?_
    obtain ⟨ha, hb, hz, h1, h2, h3, h4, h5, hfit, hT⟩ := hT
    refine c_copyF dX7_cut_145 q1820 q573 q572 q177 ha hb hz h1 h2 h3 h4 h5 hfit (Nat.le_of_ble_eq_true rfl) rfl hW hF ?_
    intro f34 ef34 h hW hF
    replace hT := hT f34 ef34
    refine x_iload dX7_cut_148 rfl ?_
    refine x_aload_n dX7_cut_150 rfl rfl rfl ?_
    refine x_iload dX7_cut_151 rfl ?_
    obtain ⟨hc, hT⟩ := hT
    obtain ⟨hb, hT⟩ := hT
    obtain ⟨v35, ev, hT⟩ := hT
    refine c_fiald dX7_cut_153 hc hb hW ev ?_
    refine x_iadd dX7_cut_154 ?_
    obtain ⟨y36, ey36⟩ : ∃ z : Int32, z = (b8 + v35) := ⟨_, rfl⟩
    replace hT := hT y36 ey36
    refine x_istore (lo' := [none, some (.ref b1), some (.ref b2), none, none, none, none, some (.ref b7), some (.int y36), some (.int b9)]) dX7_cut_155 (Nat.le_of_ble_eq_true rfl) (by rw [ey36]; exact rfl) ?_
    refine x_iinc (lo' := [none, some (.ref b1), some (.ref b2), none, none, none, none, some (.ref b7), some (.int y36), some (.int (b9 + 1))]) dX7_cut_157 rfl (show _ = (b9 + 1) from rfl) rfl ?_
    refine x_goto (tgt := 114) dX7_cut_160 rfl ?_
    exact hT f0 h hW hF
theorem vX7_pad_0 {l : Launch} {E : EN} {w : CO} {d : Nat} {s : CS} {f : RH} {Q : KO → CS → RH → Prop} {x1 : Nat} {x2 : Int32} {x3 : Int32}  (hT : (∃ t1 : Nat, tg f x1 = some (.inr t1) ∧ (EvC l E w d MX6_grid [.ref (w.1 6), .int (nI (ln f x1)), .int x2, .int x3] s f (fun o s2 f3 => KP o (fun r => ∃ a4 : Nat, r = some (.ref a4) ∧ ExC l E w (d + 1) MX7_pad 19 [none, some (.ref x1), some (.int x2), none, some (.ref a4), some (.int 0)] [] s2 f3 Q) (fun k => Q (.inr k) s2 f3))))) : ExC l E w (d + 1) MX7_pad 0 [some (.ref (w.1 7)), some (.ref x1), some (.int x2), some (.int x3), none, none] [] s f Q := by
  intro f0 h hW hF
  refine x_aload_n dX7_pad_0 rfl rfl rfl ?_
  refine c_getO dX7_pad_1 f_TallySlate_Works_9 (by decide) (by decide) rfl hW ?_
  refine c_getO dX7_pad_4 f_TallySlate_Works_177 (by decide) (by decide) rfl hW ?_
  refine x_aload_n dX7_pad_7 rfl rfl rfl ?_
  obtain ⟨t1, hc, hT⟩ := hT
  refine c_alen dX7_pad_8 hc hW ?_
  refine x_iload_n dX7_pad_9 rfl rfl ?_
  refine x_iload_n dX7_pad_10 rfl rfl ?_
  obtain ⟨-, -, cc, hcc, -⟩ := hW.ob 6 (by decide)
  refine c_invV (vs := [.int (nI (ln f x1)), .int x2, .int x3]) dX7_pad_11 oX6_grid q1726 q1895 hcc q1727 (Or.inl rfl) rfl rfl (Nat.le_of_ble_eq_true rfl) rfl hW hF hT ?_ ?_
  · intro _ s2 f3 hT h hW hF
    obtain ⟨a4, rfl, hT⟩ := hT
    refine x_astore (lo' := [some (.ref (w.1 7)), some (.ref x1), some (.int x2), some (.int x3), some (.ref a4), none]) dX7_pad_14 (Nat.le_of_ble_eq_true rfl) rfl rfl ?_
    refine x_iconst (v := 0) dX7_pad_16 rfl ?_
    refine x_istore (lo' := [some (.ref (w.1 7)), some (.ref x1), some (.int x2), some (.int x3), some (.ref a4), some (.int 0)]) dX7_pad_17 (Nat.le_of_ble_eq_true rfl) rfl ?_
    refine Ex.wkl (lo' := [none, some (.ref x1), some (.int x2), none, some (.ref a4), some (.int 0)]) ⟨rfl, rfl, rfl, rfl, trivial⟩ ?_
    exact hT f0 h hW hF
  · intro k s2 f3 hT h a hW hx hF
    exact c_out (rfl) hW hx hF hT
theorem eX7_pad {l : Launch} {E : EN} {w : CO} {d : Nat} {s : CS} {f : RH} {Q : KO → CS → RH → Prop} {x1 : Nat} {x2 : Int32} {x3 : Int32}  (hst : l.stackTraces = false) (hT : (∃ t1 : Nat, tg f x1 = some (.inr t1) ∧ (EvC l E w d MX6_grid [.ref (w.1 6), .int (nI (ln f x1)), .int x2, .int x3] s f (fun o s2 f3 => KP o (fun r => ∃ a4 : Nat, r = some (.ref a4) ∧ ExC l E w (d + 1) MX7_pad 19 [none, some (.ref x1), some (.int x2), none, some (.ref a4), some (.int 0)] [] s2 f3 Q) (fun k => Q (.inr k) s2 f3))))) : EvC l E w (d + 1) MX7_pad [.ref (w.1 7), .ref x1, .int x2, .int x3] s f Q :=
  EvC.of hst (by decide) (Nat.le_of_ble_eq_true rfl) (vX7_pad_0  hT)
theorem vX7_pad_19 {l : Launch} {E : EN} {w : CO} {d : Nat} {s : CS} {f : RH} {Q : KO → CS → RH → Prop} {b1 : Nat} {b2 : Int32} {b4 : Nat} {b5 : Int32}  (hT : (∃ t5 : Nat, tg f b4 = some (.inr t5) ∧ (((nI (ln f b4)) ≤ b5 → Q (.inl (some (.ref b4))) s f) ∧ (¬ (nI (ln f b4)) ≤ b5 → (∃ t6 : Nat, 4 ≤ t6 ∧ (tg f b1 = some (.inr t6) ∧ inB b5 (ln f b1) ∧ (∃ a7 : Nat, vl f b1 b5.toNatClampNeg = .ref a7 ∧ (∃ t8 : Nat, 4 ≤ t8 ∧ (tg f b4 = some (.inr t8) ∧ inB b5 (ln f b4) ∧ (∃ a9 : Nat, vl f b4 b5.toNatClampNeg = .ref a9 ∧ (∃ t10 : Nat, 4 ≤ t10 ∧ (tg f b1 = some (.inr t10) ∧ inB b5 (ln f b1) ∧ (∃ a11 : Nat, vl f b1 b5.toNatClampNeg = .ref a11 ∧ (∃ t12 : Nat, tg f a11 = some (.inr t12) ∧ (tg f a7 = some (.inr 0) ∧ tg f a9 = some (.inr 0) ∧ f.2.2.2 ≤ a9 ∧ ¬ (0 : Int32) < 0 ∧ ¬ (0 : Int32) < 0 ∧ ¬ (if (nI (ln f a11)) < b2 then (nI (ln f a11)) else b2) < 0 ∧ (0 : Int32).toNatClampNeg + (if (nI (ln f a11)) < b2 then (nI (ln f a11)) else b2).toNatClampNeg ≤ ln f a7 ∧ (0 : Int32).toNatClampNeg + (if (nI (ln f a11)) < b2 then (nI (ln f a11)) else b2).toNatClampNeg ≤ ln f a9 ∧ (∀ i, i < (if (nI (ln f a11)) < b2 then (nI (ln f a11)) else b2).toNatClampNeg → ∃ x : Int32, vl f a7 ((0 : Int32).toNatClampNeg + i) = .int x) ∧ ∀ f13 : RH, f13 = fcont f a9 (cpy (vl f a7) (vl f a9) (0 : Int32).toNatClampNeg (0 : Int32).toNatClampNeg (if (nI (ln f a11)) < b2 then (nI (ln f a11)) else b2).toNatClampNeg) → ExC l E w (d + 1) MX7_pad 19 [none, some (.ref b1), some (.int b2), none, some (.ref b4), some (.int (b5 + 1))] [] s f13 Q))))))))))))))) : ExC l E w (d + 1) MX7_pad 19 [none, some (.ref b1), some (.int b2), none, some (.ref b4), some (.int b5)] [] s f Q := by
  intro f0 h hW hF
  refine x_iload dX7_pad_19 rfl ?_
  refine x_aload dX7_pad_21 rfl rfl ?_
  obtain ⟨t5, hc, hT⟩ := hT
  refine c_alen dX7_pad_23 hc hW ?_
  refine x_icmp_ge (tgt := 56) dX7_pad_24 rfl (fun c => ?_) (fun c => ?_)
  · replace hT := hT.1 c
    refine x_aload dX7_pad_56 rfl rfl ?_
    exact x_aret dX7_pad_58 rfl (by first | exact Or.inl ⟨_, rfl⟩ | exact Or.inr ⟨_, rfl⟩) rfl ⟨_, _, hW, hF, Or.inl ⟨_, rfl, hT⟩⟩
  · replace hT := hT.2 c
    refine x_aload_n dX7_pad_27 rfl rfl rfl ?_
    refine x_iload dX7_pad_28 rfl ?_
    obtain ⟨t6, ht2, hc, hT⟩ := hT
    obtain ⟨hb, hT⟩ := hT
    obtain ⟨a7, ev, hT⟩ := hT
    refine c_faald dX7_pad_30 hc ht2 hb hW ev ?_
    refine x_iconst (v := 0) dX7_pad_31 rfl ?_
    refine x_aload dX7_pad_32 rfl rfl ?_
    refine x_iload dX7_pad_34 rfl ?_
    obtain ⟨t8, ht2, hc, hT⟩ := hT
    obtain ⟨hb, hT⟩ := hT
    obtain ⟨a9, ev, hT⟩ := hT
    refine c_faald dX7_pad_36 hc ht2 hb hW ev ?_
    refine x_iconst (v := 0) dX7_pad_37 rfl ?_
    refine x_iload_n dX7_pad_38 rfl rfl ?_
    refine x_aload_n dX7_pad_39 rfl rfl rfl ?_
    refine x_iload dX7_pad_40 rfl ?_
    obtain ⟨t10, ht2, hc, hT⟩ := hT
    obtain ⟨hb, hT⟩ := hT
    obtain ⟨a11, ev, hT⟩ := hT
    refine c_faald dX7_pad_42 hc ht2 hb hW ev ?_
    obtain ⟨t12, hc, hT⟩ := hT
    refine c_alen dX7_pad_43 hc hW ?_
    refine x_mmin dX7_pad_44 q1783 q672 q181 mq_min (Nat.le_of_ble_eq_true rfl) rfl ?_
    obtain ⟨ha, hb, hz, h1, h2, h3, h4, h5, hfit, hT⟩ := hT
    refine c_copyF dX7_pad_47 q1820 q573 q572 q177 ha hb hz h1 h2 h3 h4 h5 hfit (Nat.le_of_ble_eq_true rfl) rfl hW hF ?_
    intro f13 ef13 h hW hF
    replace hT := hT f13 ef13
    refine x_iinc (lo' := [none, some (.ref b1), some (.int b2), none, some (.ref b4), some (.int (b5 + 1))]) dX7_pad_50 rfl (show _ = (b5 + 1) from rfl) rfl ?_
    refine x_goto (tgt := 19) dX7_pad_53 rfl ?_
    exact hT f0 h hW hF
theorem vJ4_charAt_0 {l : Launch} {E : EN} {w : CO} {d : Nat} {s : CS} {f : RH} {Q : KO → CS → RH → Prop} {x1 : Nat} {x2 : Int32}  (hT : (∃ t1 : Nat, tg f x1 = some (.inr t1) ∧ (EvC l E w d MJ3_checkIndex [.int x2, .int (nI (ln f x1))] s f (fun o s2 f3 => KP o (fun r => r = none ∧ (∃ t4 : Nat, (t4 = 2 ∨ t4 = 3) ∧ (tg f3 x1 = some (.inr t4) ∧ inB x2 (ln f3 x1) ∧ (∃ v5 : Int32, vl f3 x1 x2.toNatClampNeg = .int v5 ∧ (narrow .char (.int (((v5 &&& 255)).toUInt32 % 65536).toInt32) = .int (((v5 &&& 255)).toUInt32 % 65536).toInt32 ∧ Q (.inl (some (.int (((v5 &&& 255)).toUInt32 % 65536).toInt32))) s2 f3))))) (fun k => Q (.inr k) s2 f3))))) : ExC l E w (d + 1) MJ4_charAt 0 [some (.ref x1), some (.int x2)] [] s f Q := by
  intro f0 h hW hF
  refine x_iload_n dJ4_charAt_0 rfl rfl ?_
  refine x_aload_n dJ4_charAt_1 rfl rfl rfl ?_
  obtain ⟨t1, hc, hT⟩ := hT
  refine c_alen dJ4_charAt_2 hc hW ?_
  refine c_invS (vs := [.int x2, .int (nI (ln f x1))]) dJ4_charAt_3 oJ3_checkIndex q740 (Or.inl q739) rfl rfl (Nat.le_of_ble_eq_true rfl) rfl hW hF hT ?_ ?_
  · intro _ s2 f3 hT h hW hF
    obtain ⟨rfl, hT⟩ := hT
    refine x_aload_n dJ4_charAt_6 rfl rfl rfl ?_
    refine x_iload_n dJ4_charAt_7 rfl rfl ?_
    obtain ⟨t4, ht2, hc, hT⟩ := hT
    obtain ⟨hb, hT⟩ := hT
    obtain ⟨v5, ev, hT⟩ := hT
    refine c_fbald dJ4_charAt_8 hc ht2 hb hW ev ?_
    refine x_sipush (v := 255) dJ4_charAt_9 rfl ?_
    refine x_iand dJ4_charAt_12 ?_
    refine x_i2c dJ4_charAt_13 ?_
    exact x_iret dJ4_charAt_14 rfl hT.1 ⟨_, _, hW, hF, Or.inl ⟨_, rfl, hT.2⟩⟩
  · intro k s2 f3 hT h a hW hx hF
    exact c_out (rfl) hW hx hF hT
theorem eJ4_charAt {l : Launch} {E : EN} {w : CO} {d : Nat} {s : CS} {f : RH} {Q : KO → CS → RH → Prop} {x1 : Nat} {x2 : Int32}  (hst : l.stackTraces = false) (hT : (∃ t1 : Nat, tg f x1 = some (.inr t1) ∧ (EvC l E w d MJ3_checkIndex [.int x2, .int (nI (ln f x1))] s f (fun o s2 f3 => KP o (fun r => r = none ∧ (∃ t4 : Nat, (t4 = 2 ∨ t4 = 3) ∧ (tg f3 x1 = some (.inr t4) ∧ inB x2 (ln f3 x1) ∧ (∃ v5 : Int32, vl f3 x1 x2.toNatClampNeg = .int v5 ∧ (narrow .char (.int (((v5 &&& 255)).toUInt32 % 65536).toInt32) = .int (((v5 &&& 255)).toUInt32 % 65536).toInt32 ∧ Q (.inl (some (.int (((v5 &&& 255)).toUInt32 % 65536).toInt32))) s2 f3))))) (fun k => Q (.inr k) s2 f3))))) : EvC l E w (d + 1) MJ4_charAt [.ref x1, .int x2] s f Q :=
  EvC.of hst (by decide) (Nat.le_of_ble_eq_true rfl) (vJ4_charAt_0  hT)
