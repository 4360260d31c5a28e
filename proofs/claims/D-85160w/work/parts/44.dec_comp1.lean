/-! decode rows -/
theorem dX0_feed_0 : decode prog_1_method_5_code 0 = .ok (.aload_n 0, 1) := by decide +kernel
theorem dX0_feed_1 : decode prog_1_method_5_code 1 = .ok (.getfield 44, 3) := by decide +kernel
theorem dX0_feed_4 : decode prog_1_method_5_code 4 = .ok (.bipush 20, 2) := by decide +kernel
theorem dX0_feed_6 : decode prog_1_method_5_code 6 = .ok (.iadd, 1) := by decide +kernel
theorem dX0_feed_7 : decode prog_1_method_5_code 7 = .ok (.sipush 1620, 3) := by decide +kernel
theorem dX0_feed_10 : decode prog_1_method_5_code 10 = .ok (.if_icmp .le 5, 3) := by decide +kernel
theorem dX0_feed_13 : decode prog_1_method_5_code 13 = .ok (.iconst (-1), 1) := by decide +kernel
theorem dX0_feed_14 : decode prog_1_method_5_code 14 = .ok (.ireturn, 1) := by decide +kernel
theorem dX0_feed_15 : decode prog_1_method_5_code 15 = .ok (.aload_n 0, 1) := by decide +kernel
theorem dX0_feed_16 : decode prog_1_method_5_code 16 = .ok (.iload_n 1, 1) := by decide +kernel
theorem dX0_feed_17 : decode prog_1_method_5_code 17 = .ok (.invokevirtual 48, 3) := by decide +kernel
theorem dX0_feed_20 : decode prog_1_method_5_code 20 = .ok (.aload_n 0, 1) := by decide +kernel
theorem dX0_feed_21 : decode prog_1_method_5_code 21 = .ok (.iload_n 2, 1) := by decide +kernel
theorem dX0_feed_22 : decode prog_1_method_5_code 22 = .ok (.invokevirtual 48, 3) := by decide +kernel
theorem dX0_feed_25 : decode prog_1_method_5_code 25 = .ok (.aload_n 0, 1) := by decide +kernel
theorem dX0_feed_26 : decode prog_1_method_5_code 26 = .ok (.iload_n 3, 1) := by decide +kernel
theorem dX0_feed_27 : decode prog_1_method_5_code 27 = .ok (.invokevirtual 48, 3) := by decide +kernel
theorem dX0_feed_30 : decode prog_1_method_5_code 30 = .ok (.aload_n 0, 1) := by decide +kernel
theorem dX0_feed_31 : decode prog_1_method_5_code 31 = .ok (.iload 4, 2) := by decide +kernel
theorem dX0_feed_33 : decode prog_1_method_5_code 33 = .ok (.invokevirtual 48, 3) := by decide +kernel
theorem dX0_feed_36 : decode prog_1_method_5_code 36 = .ok (.aload_n 0, 1) := by decide +kernel
theorem dX0_feed_37 : decode prog_1_method_5_code 37 = .ok (.iload 5, 2) := by decide +kernel
theorem dX0_feed_39 : decode prog_1_method_5_code 39 = .ok (.invokevirtual 48, 3) := by decide +kernel
theorem dX0_feed_42 : decode prog_1_method_5_code 42 = .ok (.aload_n 0, 1) := by decide +kernel
theorem dX0_feed_43 : decode prog_1_method_5_code 43 = .ok (.getfield 44, 3) := by decide +kernel
theorem dX0_feed_46 : decode prog_1_method_5_code 46 = .ok (.ireturn, 1) := by decide +kernel
theorem dX0_lay_0 : decode prog_1_method_4_code 0 = .ok (.bipush 24, 2) := by decide +kernel
theorem dX0_lay_2 : decode prog_1_method_4_code 2 = .ok (.istore_n 2, 1) := by decide +kernel
theorem dX0_lay_3 : decode prog_1_method_4_code 3 = .ok (.iload_n 2, 1) := by decide +kernel
theorem dX0_lay_4 : decode prog_1_method_4_code 4 = .ok (.ifCond .lt 32, 3) := by decide +kernel
theorem dX0_lay_7 : decode prog_1_method_4_code 7 = .ok (.aload_n 0, 1) := by decide +kernel
theorem dX0_lay_8 : decode prog_1_method_4_code 8 = .ok (.getfield 17, 3) := by decide +kernel
theorem dX0_lay_11 : decode prog_1_method_4_code 11 = .ok (.aload_n 0, 1) := by decide +kernel
theorem dX0_lay_12 : decode prog_1_method_4_code 12 = .ok (.getfield 44, 3) := by decide +kernel
theorem dX0_lay_15 : decode prog_1_method_4_code 15 = .ok (.iload_n 1, 1) := by decide +kernel
theorem dX0_lay_16 : decode prog_1_method_4_code 16 = .ok (.iload_n 2, 1) := by decide +kernel
theorem dX0_lay_17 : decode prog_1_method_4_code 17 = .ok (.ishr, 1) := by decide +kernel
theorem dX0_lay_18 : decode prog_1_method_4_code 18 = .ok (.i2b, 1) := by decide +kernel
theorem dX0_lay_19 : decode prog_1_method_4_code 19 = .ok (.bastore, 1) := by decide +kernel
theorem dX0_lay_20 : decode prog_1_method_4_code 20 = .ok (.aload_n 0, 1) := by decide +kernel
theorem dX0_lay_21 : decode prog_1_method_4_code 21 = .ok (.dup, 1) := by decide +kernel
theorem dX0_lay_22 : decode prog_1_method_4_code 22 = .ok (.getfield 44, 3) := by decide +kernel
theorem dX0_lay_25 : decode prog_1_method_4_code 25 = .ok (.iconst 1, 1) := by decide +kernel
theorem dX0_lay_26 : decode prog_1_method_4_code 26 = .ok (.iadd, 1) := by decide +kernel
theorem dX0_lay_27 : decode prog_1_method_4_code 27 = .ok (.putfield 44, 3) := by decide +kernel
theorem dX0_lay_30 : decode prog_1_method_4_code 30 = .ok (.iinc 2 (-8), 3) := by decide +kernel
theorem dX0_lay_33 : decode prog_1_method_4_code 33 = .ok (.goto (-30), 3) := by decide +kernel
theorem dX0_lay_36 : decode prog_1_method_4_code 36 = .ok (.return_, 1) := by decide +kernel
theorem dX0_load_0 : decode prog_1_method_6_code 0 = .ok (.iload_n 1, 1) := by decide +kernel
theorem dX0_load_1 : decode prog_1_method_6_code 1 = .ok (.ifCond .lt 11, 3) := by decide +kernel
theorem dX0_load_4 : decode prog_1_method_6_code 4 = .ok (.iload_n 1, 1) := by decide +kernel
theorem dX0_load_5 : decode prog_1_method_6_code 5 = .ok (.aload_n 0, 1) := by decide +kernel
theorem dX0_load_6 : decode prog_1_method_6_code 6 = .ok (.getfield 44, 3) := by decide +kernel
theorem dX0_load_9 : decode prog_1_method_6_code 9 = .ok (.if_icmp .le 6, 3) := by decide +kernel
theorem dX0_load_12 : decode prog_1_method_6_code 12 = .ok (.bipush (-2), 2) := by decide +kernel
theorem dX0_load_14 : decode prog_1_method_6_code 14 = .ok (.ireturn, 1) := by decide +kernel
theorem dX0_load_15 : decode prog_1_method_6_code 15 = .ok (.aload_n 0, 1) := by decide +kernel
theorem dX0_load_16 : decode prog_1_method_6_code 16 = .ok (.iconst 0, 1) := by decide +kernel
theorem dX0_load_17 : decode prog_1_method_6_code 17 = .ok (.putfield 44, 3) := by decide +kernel
theorem dX0_load_20 : decode prog_1_method_6_code 20 = .ok (.aload_n 0, 1) := by decide +kernel
theorem dX0_load_21 : decode prog_1_method_6_code 21 = .ok (.iconst 1, 1) := by decide +kernel
theorem dX0_load_22 : decode prog_1_method_6_code 22 = .ok (.putfield 52, 3) := by decide +kernel
theorem dX0_load_25 : decode prog_1_method_6_code 25 = .ok (.aload_n 0, 1) := by decide +kernel
theorem dX0_load_26 : decode prog_1_method_6_code 26 = .ok (.getfield 24, 3) := by decide +kernel
theorem dX0_load_29 : decode prog_1_method_6_code 29 = .ok (.iconst 0, 1) := by decide +kernel
theorem dX0_load_30 : decode prog_1_method_6_code 30 = .ok (.putfield 56, 3) := by decide +kernel
theorem dX0_load_33 : decode prog_1_method_6_code 33 = .ok (.aload_n 0, 1) := by decide +kernel
theorem dX0_load_34 : decode prog_1_method_6_code 34 = .ok (.getfield 24, 3) := by decide +kernel
theorem dX0_load_37 : decode prog_1_method_6_code 37 = .ok (.iconst (-1), 1) := by decide +kernel
theorem dX0_load_38 : decode prog_1_method_6_code 38 = .ok (.putfield 59, 3) := by decide +kernel
theorem dX0_load_41 : decode prog_1_method_6_code 41 = .ok (.iload_n 1, 1) := by decide +kernel
theorem dX0_load_42 : decode prog_1_method_6_code 42 = .ok (.sipush 1600, 3) := by decide +kernel
theorem dX0_load_45 : decode prog_1_method_6_code 45 = .ok (.if_icmp .le 15, 3) := by decide +kernel
theorem dX0_load_48 : decode prog_1_method_6_code 48 = .ok (.aload_n 0, 1) := by decide +kernel
theorem dX0_load_49 : decode prog_1_method_6_code 49 = .ok (.getfield 33, 3) := by decide +kernel
theorem dX0_load_52 : decode prog_1_method_6_code 52 = .ok (.iconst 1, 1) := by decide +kernel
theorem dX0_load_53 : decode prog_1_method_6_code 53 = .ok (.sipush 1600, 3) := by decide +kernel
theorem dX0_load_56 : decode prog_1_method_6_code 56 = .ok (.invokevirtual 62, 3) := by decide +kernel
theorem dX0_load_59 : decode prog_1_method_6_code 59 = .ok (.athrow, 1) := by decide +kernel
theorem dX0_load_60 : decode prog_1_method_6_code 60 = .ok (.aload_n 0, 1) := by decide +kernel
theorem dX0_load_61 : decode prog_1_method_6_code 61 = .ok (.getfield 33, 3) := by decide +kernel
theorem dX0_load_64 : decode prog_1_method_6_code 64 = .ok (.aload_n 0, 1) := by decide +kernel
theorem dX0_load_65 : decode prog_1_method_6_code 65 = .ok (.getfield 17, 3) := by decide +kernel
theorem dX0_load_68 : decode prog_1_method_6_code 68 = .ok (.iload_n 1, 1) := by decide +kernel
theorem dX0_load_69 : decode prog_1_method_6_code 69 = .ok (.invokevirtual 66, 3) := by decide +kernel
theorem dX0_load_72 : decode prog_1_method_6_code 72 = .ok (.new 70, 3) := by decide +kernel
theorem dX0_load_75 : decode prog_1_method_6_code 75 = .ok (.dup, 1) := by decide +kernel
theorem dX0_load_76 : decode prog_1_method_6_code 76 = .ok (.aload_n 0, 1) := by decide +kernel
theorem dX0_load_77 : decode prog_1_method_6_code 77 = .ok (.getfield 33, 3) := by decide +kernel
theorem dX0_load_80 : decode prog_1_method_6_code 80 = .ok (.invokespecial 72, 3) := by decide +kernel
theorem dX0_load_83 : decode prog_1_method_6_code 83 = .ok (.astore_n 2, 1) := by decide +kernel
theorem dX0_load_84 : decode prog_1_method_6_code 84 = .ok (.aload_n 2, 1) := by decide +kernel
theorem dX0_load_85 : decode prog_1_method_6_code 85 = .ok (.invokevirtual 75, 3) := by decide +kernel
theorem dX0_load_88 : decode prog_1_method_6_code 88 = .ok (.aload_n 0, 1) := by decide +kernel
theorem dX0_load_89 : decode prog_1_method_6_code 89 = .ok (.aload_n 2, 1) := by decide +kernel
theorem dX0_load_90 : decode prog_1_method_6_code 90 = .ok (.putfield 78, 3) := by decide +kernel
theorem dX0_load_93 : decode prog_1_method_6_code 93 = .ok (.goto 6, 3) := by decide +kernel
theorem dX0_load_96 : decode prog_1_method_6_code 96 = .ok (.astore_n 2, 1) := by decide +kernel
theorem dX0_load_97 : decode prog_1_method_6_code 97 = .ok (.iconst (-1), 1) := by decide +kernel
theorem dX0_load_98 : decode prog_1_method_6_code 98 = .ok (.ireturn, 1) := by decide +kernel
theorem dX0_load_99 : decode prog_1_method_6_code 99 = .ok (.aload_n 0, 1) := by decide +kernel
theorem dX0_load_100 : decode prog_1_method_6_code 100 = .ok (.getfield 78, 3) := by decide +kernel
theorem dX0_load_103 : decode prog_1_method_6_code 103 = .ok (.getfield 82, 3) := by decide +kernel
theorem dX0_load_106 : decode prog_1_method_6_code 106 = .ok (.ireturn, 1) := by decide +kernel
theorem dX0_fault_0 : decode prog_1_method_7_code 0 = .ok (.aload_n 0, 1) := by decide +kernel
theorem dX0_fault_1 : decode prog_1_method_7_code 1 = .ok (.getfield 52, 3) := by decide +kernel
theorem dX0_fault_4 : decode prog_1_method_7_code 4 = .ok (.ifCond .eq 12, 3) := by decide +kernel
theorem dX0_fault_7 : decode prog_1_method_7_code 7 = .ok (.iload_n 1, 1) := by decide +kernel
theorem dX0_fault_8 : decode prog_1_method_7_code 8 = .ok (.ifCond .lt 8, 3) := by decide +kernel
theorem dX0_fault_11 : decode prog_1_method_7_code 11 = .ok (.iload_n 1, 1) := by decide +kernel
theorem dX0_fault_12 : decode prog_1_method_7_code 12 = .ok (.iconst 1, 1) := by decide +kernel
theorem dX0_fault_13 : decode prog_1_method_7_code 13 = .ok (.if_icmp .le 7, 3) := by decide +kernel
theorem dX0_fault_16 : decode prog_1_method_7_code 16 = .ok (.iconst (-1), 1) := by decide +kernel
theorem dX0_fault_17 : decode prog_1_method_7_code 17 = .ok (.goto 24, 3) := by decide +kernel
theorem dX0_fault_20 : decode prog_1_method_7_code 20 = .ok (.iload_n 1, 1) := by decide +kernel
theorem dX0_fault_21 : decode prog_1_method_7_code 21 = .ok (.ifCond .ne 13, 3) := by decide +kernel
theorem dX0_fault_24 : decode prog_1_method_7_code 24 = .ok (.aload_n 0, 1) := by decide +kernel
theorem dX0_fault_25 : decode prog_1_method_7_code 25 = .ok (.getfield 24, 3) := by decide +kernel
theorem dX0_fault_28 : decode prog_1_method_7_code 28 = .ok (.getfield 56, 3) := by decide +kernel
theorem dX0_fault_31 : decode prog_1_method_7_code 31 = .ok (.goto 10, 3) := by decide +kernel
theorem dX0_fault_34 : decode prog_1_method_7_code 34 = .ok (.aload_n 0, 1) := by decide +kernel
theorem dX0_fault_35 : decode prog_1_method_7_code 35 = .ok (.getfield 24, 3) := by decide +kernel
theorem dX0_fault_38 : decode prog_1_method_7_code 38 = .ok (.getfield 59, 3) := by decide +kernel
theorem dX0_fault_41 : decode prog_1_method_7_code 41 = .ok (.ireturn, 1) := by decide +kernel
theorem dX0_function_0 : decode prog_1_method_9_code 0 = .ok (.aload_n 0, 1) := by decide +kernel
theorem dX0_function_1 : decode prog_1_method_9_code 1 = .ok (.iload_n 1, 1) := by decide +kernel
theorem dX0_function_2 : decode prog_1_method_9_code 2 = .ok (.invokevirtual 89, 3) := by decide +kernel
theorem dX0_function_5 : decode prog_1_method_9_code 5 = .ok (.astore_n 3, 1) := by decide +kernel
theorem dX0_function_6 : decode prog_1_method_9_code 6 = .ok (.aload_n 3, 1) := by decide +kernel
theorem dX0_function_7 : decode prog_1_method_9_code 7 = .ok (.ifnonnull 5, 3) := by decide +kernel
theorem dX0_function_10 : decode prog_1_method_9_code 10 = .ok (.iconst (-1), 1) := by decide +kernel
theorem dX0_function_11 : decode prog_1_method_9_code 11 = .ok (.ireturn, 1) := by decide +kernel
theorem dX0_function_12 : decode prog_1_method_9_code 12 = .ok (.iload_n 2, 1) := by decide +kernel
theorem dX0_function_13 : decode prog_1_method_9_code 13 = .ok (.ifCond .ne 10, 3) := by decide +kernel
theorem dX0_function_16 : decode prog_1_method_9_code 16 = .ok (.aload_n 3, 1) := by decide +kernel
theorem dX0_function_17 : decode prog_1_method_9_code 17 = .ok (.getfield 93, 3) := by decide +kernel
theorem dX0_function_20 : decode prog_1_method_9_code 20 = .ok (.goto 28, 3) := by decide +kernel
theorem dX0_function_23 : decode prog_1_method_9_code 23 = .ok (.iload_n 2, 1) := by decide +kernel
theorem dX0_function_24 : decode prog_1_method_9_code 24 = .ok (.iconst 1, 1) := by decide +kernel
theorem dX0_function_25 : decode prog_1_method_9_code 25 = .ok (.if_icmp .ne 10, 3) := by decide +kernel
theorem dX0_function_28 : decode prog_1_method_9_code 28 = .ok (.aload_n 3, 1) := by decide +kernel
theorem dX0_function_29 : decode prog_1_method_9_code 29 = .ok (.getfield 98, 3) := by decide +kernel
theorem dX0_function_32 : decode prog_1_method_9_code 32 = .ok (.goto 16, 3) := by decide +kernel
theorem dX0_function_35 : decode prog_1_method_9_code 35 = .ok (.iload_n 2, 1) := by decide +kernel
theorem dX0_function_36 : decode prog_1_method_9_code 36 = .ok (.iconst 2, 1) := by decide +kernel
theorem dX0_function_37 : decode prog_1_method_9_code 37 = .ok (.if_icmp .ne 10, 3) := by decide +kernel
theorem dX0_function_40 : decode prog_1_method_9_code 40 = .ok (.aload_n 3, 1) := by decide +kernel
theorem dX0_function_41 : decode prog_1_method_9_code 41 = .ok (.getfield 101, 3) := by decide +kernel
theorem dX0_function_44 : decode prog_1_method_9_code 44 = .ok (.goto 4, 3) := by decide +kernel
theorem dX0_function_47 : decode prog_1_method_9_code 47 = .ok (.iconst (-1), 1) := by decide +kernel
theorem dX0_function_48 : decode prog_1_method_9_code 48 = .ok (.ireturn, 1) := by decide +kernel
theorem dX0_definition_0 : decode prog_1_method_8_code 0 = .ok (.aload_n 0, 1) := by decide +kernel
theorem dX0_definition_1 : decode prog_1_method_8_code 1 = .ok (.getfield 78, 3) := by decide +kernel
theorem dX0_definition_4 : decode prog_1_method_8_code 4 = .ok (.ifnull 18, 3) := by decide +kernel
theorem dX0_definition_7 : decode prog_1_method_8_code 7 = .ok (.iload_n 1, 1) := by decide +kernel
theorem dX0_definition_8 : decode prog_1_method_8_code 8 = .ok (.ifCond .lt 14, 3) := by decide +kernel
theorem dX0_definition_11 : decode prog_1_method_8_code 11 = .ok (.iload_n 1, 1) := by decide +kernel
theorem dX0_definition_12 : decode prog_1_method_8_code 12 = .ok (.aload_n 0, 1) := by decide +kernel
theorem dX0_definition_13 : decode prog_1_method_8_code 13 = .ok (.getfield 78, 3) := by decide +kernel
theorem dX0_definition_16 : decode prog_1_method_8_code 16 = .ok (.getfield 82, 3) := by decide +kernel
theorem dX0_definition_19 : decode prog_1_method_8_code 19 = .ok (.if_icmp .lt 7, 3) := by decide +kernel
theorem dX0_definition_22 : decode prog_1_method_8_code 22 = .ok (.aconst_null, 1) := by decide +kernel
theorem dX0_definition_23 : decode prog_1_method_8_code 23 = .ok (.goto 12, 3) := by decide +kernel
theorem dX0_definition_26 : decode prog_1_method_8_code 26 = .ok (.aload_n 0, 1) := by decide +kernel
theorem dX0_definition_27 : decode prog_1_method_8_code 27 = .ok (.getfield 78, 3) := by decide +kernel
theorem dX0_definition_30 : decode prog_1_method_8_code 30 = .ok (.getfield 85, 3) := by decide +kernel
theorem dX0_definition_33 : decode prog_1_method_8_code 33 = .ok (.iload_n 1, 1) := by decide +kernel
theorem dX0_definition_34 : decode prog_1_method_8_code 34 = .ok (.aaload, 1) := by decide +kernel
theorem dX0_definition_35 : decode prog_1_method_8_code 35 = .ok (.areturn, 1) := by decide +kernel
theorem dX0_run_0 : decode prog_1_method_11_code 0 = .ok (.aload_n 0, 1) := by decide +kernel
theorem dX0_run_1 : decode prog_1_method_11_code 1 = .ok (.iload_n 1, 1) := by decide +kernel
theorem dX0_run_2 : decode prog_1_method_11_code 2 = .ok (.invokevirtual 89, 3) := by decide +kernel
theorem dX0_run_5 : decode prog_1_method_11_code 5 = .ok (.astore 4, 2) := by decide +kernel
theorem dX0_run_7 : decode prog_1_method_11_code 7 = .ok (.aload 4, 2) := by decide +kernel
theorem dX0_run_9 : decode prog_1_method_11_code 9 = .ok (.ifnull 35, 3) := by decide +kernel
theorem dX0_run_12 : decode prog_1_method_11_code 12 = .ok (.aload 4, 2) := by decide +kernel
theorem dX0_run_14 : decode prog_1_method_11_code 14 = .ok (.getfield 93, 3) := by decide +kernel
theorem dX0_run_17 : decode prog_1_method_11_code 17 = .ok (.ifCond .gt 27, 3) := by decide +kernel
theorem dX0_run_20 : decode prog_1_method_11_code 20 = .ok (.iload_n 2, 1) := by decide +kernel
theorem dX0_run_21 : decode prog_1_method_11_code 21 = .ok (.iconst (-1), 1) := by decide +kernel
theorem dX0_run_22 : decode prog_1_method_11_code 22 = .ok (.if_icmp .eq 10, 3) := by decide +kernel
theorem dX0_run_25 : decode prog_1_method_11_code 25 = .ok (.iload_n 2, 1) := by decide +kernel
theorem dX0_run_26 : decode prog_1_method_11_code 26 = .ok (.invokestatic 102, 3) := by decide +kernel
theorem dX0_run_29 : decode prog_1_method_11_code 29 = .ok (.ifCond .eq 15, 3) := by decide +kernel
theorem dX0_run_32 : decode prog_1_method_11_code 32 = .ok (.iload_n 3, 1) := by decide +kernel
theorem dX0_run_33 : decode prog_1_method_11_code 33 = .ok (.iconst 1, 1) := by decide +kernel
theorem dX0_run_34 : decode prog_1_method_11_code 34 = .ok (.if_icmp .lt 10, 3) := by decide +kernel
theorem dX0_run_37 : decode prog_1_method_11_code 37 = .ok (.iload_n 3, 1) := by decide +kernel
theorem dX0_run_38 : decode prog_1_method_11_code 38 = .ok (.sipush 20000, 3) := by decide +kernel
theorem dX0_run_41 : decode prog_1_method_11_code 41 = .ok (.if_icmp .le 5, 3) := by decide +kernel
theorem dX0_run_44 : decode prog_1_method_11_code 44 = .ok (.iconst (-1), 1) := by decide +kernel
theorem dX0_run_45 : decode prog_1_method_11_code 45 = .ok (.ireturn, 1) := by decide +kernel
theorem dX0_run_46 : decode prog_1_method_11_code 46 = .ok (.aload_n 0, 1) := by decide +kernel
theorem dX0_run_47 : decode prog_1_method_11_code 47 = .ok (.getfield 40, 3) := by decide +kernel
theorem dX0_run_50 : decode prog_1_method_11_code 50 = .ok (.astore 5, 2) := by decide +kernel
theorem dX0_run_52 : decode prog_1_method_11_code 52 = .ok (.aload 5, 2) := by decide +kernel
theorem dX0_run_54 : decode prog_1_method_11_code 54 = .ok (.iload_n 3, 1) := by decide +kernel
theorem dX0_run_55 : decode prog_1_method_11_code 55 = .ok (.invokevirtual 106, 3) := by decide +kernel
theorem dX0_run_58 : decode prog_1_method_11_code 58 = .ok (.aload 5, 2) := by decide +kernel
theorem dX0_run_60 : decode prog_1_method_11_code 60 = .ok (.getfield 108, 3) := by decide +kernel
theorem dX0_run_63 : decode prog_1_method_11_code 63 = .ok (.bipush 6, 2) := by decide +kernel
theorem dX0_run_65 : decode prog_1_method_11_code 65 = .ok (.invokevirtual 112, 3) := by decide +kernel
theorem dX0_run_68 : decode prog_1_method_11_code 68 = .ok (.aload_n 0, 1) := by decide +kernel
theorem dX0_run_69 : decode prog_1_method_11_code 69 = .ok (.iconst 1, 1) := by decide +kernel
theorem dX0_run_70 : decode prog_1_method_11_code 70 = .ok (.putfield 117, 3) := by decide +kernel
theorem dX0_run_73 : decode prog_1_method_11_code 73 = .ok (.aload 5, 2) := by decide +kernel
theorem dX0_run_75 : decode prog_1_method_11_code 75 = .ok (.aload 4, 2) := by decide +kernel
theorem dX0_run_77 : decode prog_1_method_11_code 77 = .ok (.iconst (-1), 1) := by decide +kernel
theorem dX0_run_78 : decode prog_1_method_11_code 78 = .ok (.invokevirtual 120, 3) := by decide +kernel
theorem dX0_run_81 : decode prog_1_method_11_code 81 = .ok (.goto 21, 3) := by decide +kernel
theorem dX0_run_84 : decode prog_1_method_11_code 84 = .ok (.astore 6, 2) := by decide +kernel
theorem dX0_run_86 : decode prog_1_method_11_code 86 = .ok (.aload 5, 2) := by decide +kernel
theorem dX0_run_88 : decode prog_1_method_11_code 88 = .ok (.getfield 108, 3) := by decide +kernel
theorem dX0_run_91 : decode prog_1_method_11_code 91 = .ok (.bipush 6, 2) := by decide +kernel
theorem dX0_run_93 : decode prog_1_method_11_code 93 = .ok (.invokevirtual 126, 3) := by decide +kernel
theorem dX0_run_96 : decode prog_1_method_11_code 96 = .ok (.aload 6, 2) := by decide +kernel
theorem dX0_run_98 : decode prog_1_method_11_code 98 = .ok (.getfield 129, 3) := by decide +kernel
theorem dX0_run_101 : decode prog_1_method_11_code 101 = .ok (.ireturn, 1) := by decide +kernel
theorem dX0_run_102 : decode prog_1_method_11_code 102 = .ok (.iload_n 2, 1) := by decide +kernel
theorem dX0_run_103 : decode prog_1_method_11_code 103 = .ok (.iconst (-1), 1) := by decide +kernel
theorem dX0_run_104 : decode prog_1_method_11_code 104 = .ok (.if_icmp .ne 11, 3) := by decide +kernel
theorem dX0_run_107 : decode prog_1_method_11_code 107 = .ok (.aload 5, 2) := by decide +kernel
theorem dX0_run_109 : decode prog_1_method_11_code 109 = .ok (.invokevirtual 130, 3) := by decide +kernel
theorem dX0_run_112 : decode prog_1_method_11_code 112 = .ok (.goto 9, 3) := by decide +kernel
theorem dX0_run_115 : decode prog_1_method_11_code 115 = .ok (.aload 5, 2) := by decide +kernel
theorem dX0_run_117 : decode prog_1_method_11_code 117 = .ok (.iload_n 2, 1) := by decide +kernel
theorem dX0_run_118 : decode prog_1_method_11_code 118 = .ok (.invokevirtual 133, 3) := by decide +kernel
theorem dX0_run_121 : decode prog_1_method_11_code 121 = .ok (.aload 5, 2) := by decide +kernel
theorem dX0_run_123 : decode prog_1_method_11_code 123 = .ok (.iconst 0, 1) := by decide +kernel
theorem dX0_run_124 : decode prog_1_method_11_code 124 = .ok (.iconst (-1), 1) := by decide +kernel
theorem dX0_run_125 : decode prog_1_method_11_code 125 = .ok (.invokevirtual 136, 3) := by decide +kernel
theorem dX0_run_128 : decode prog_1_method_11_code 128 = .ok (.astore 6, 2) := by decide +kernel
theorem dX0_run_130 : decode prog_1_method_11_code 130 = .ok (.aload 6, 2) := by decide +kernel
theorem dX0_run_132 : decode prog_1_method_11_code 132 = .ok (.getfield 129, 3) := by decide +kernel
theorem dX0_run_135 : decode prog_1_method_11_code 135 = .ok (.ireturn, 1) := by decide +kernel
theorem dX0_isShelf_0 : decode prog_1_method_10_code 0 = .ok (.iload_n 0, 1) := by decide +kernel
theorem dX0_isShelf_1 : decode prog_1_method_10_code 1 = .ok (.ifCond .lt 13, 3) := by decide +kernel
theorem dX0_isShelf_4 : decode prog_1_method_10_code 4 = .ok (.iload_n 0, 1) := by decide +kernel
theorem dX0_isShelf_5 : decode prog_1_method_10_code 5 = .ok (.bipush 8, 2) := by decide +kernel
theorem dX0_isShelf_7 : decode prog_1_method_10_code 7 = .ok (.if_icmp .ge 7, 3) := by decide +kernel
theorem dX0_isShelf_10 : decode prog_1_method_10_code 10 = .ok (.iconst 1, 1) := by decide +kernel
theorem dX0_isShelf_11 : decode prog_1_method_10_code 11 = .ok (.goto 4, 3) := by decide +kernel
theorem dX0_isShelf_14 : decode prog_1_method_10_code 14 = .ok (.iconst 0, 1) := by decide +kernel
theorem dX0_isShelf_15 : decode prog_1_method_10_code 15 = .ok (.ireturn, 1) := by decide +kernel
theorem dX0_trouble_0 : decode prog_1_method_12_code 0 = .ok (.aload_n 0, 1) := by decide +kernel
theorem dX0_trouble_1 : decode prog_1_method_12_code 1 = .ok (.getfield 117, 3) := by decide +kernel
theorem dX0_trouble_4 : decode prog_1_method_12_code 4 = .ok (.ifCond .ne 5, 3) := by decide +kernel
theorem dX0_trouble_7 : decode prog_1_method_12_code 7 = .ok (.iconst (-1), 1) := by decide +kernel
theorem dX0_trouble_8 : decode prog_1_method_12_code 8 = .ok (.ireturn, 1) := by decide +kernel
theorem dX0_trouble_9 : decode prog_1_method_12_code 9 = .ok (.iload_n 1, 1) := by decide +kernel
theorem dX0_trouble_10 : decode prog_1_method_12_code 10 = .ok (.tableswitch 107 0 6 #[42, 53, 64, 75, 83, 91, 99], 42) := by decide +kernel
theorem dX0_trouble_52 : decode prog_1_method_12_code 52 = .ok (.aload_n 0, 1) := by decide +kernel
theorem dX0_trouble_53 : decode prog_1_method_12_code 53 = .ok (.getfield 40, 3) := by decide +kernel
theorem dX0_trouble_56 : decode prog_1_method_12_code 56 = .ok (.getfield 139, 3) := by decide +kernel
theorem dX0_trouble_59 : decode prog_1_method_12_code 59 = .ok (.getfield 129, 3) := by decide +kernel
theorem dX0_trouble_62 : decode prog_1_method_12_code 62 = .ok (.ireturn, 1) := by decide +kernel
theorem dX0_trouble_63 : decode prog_1_method_12_code 63 = .ok (.aload_n 0, 1) := by decide +kernel
theorem dX0_trouble_64 : decode prog_1_method_12_code 64 = .ok (.getfield 40, 3) := by decide +kernel
theorem dX0_trouble_67 : decode prog_1_method_12_code 67 = .ok (.getfield 139, 3) := by decide +kernel
theorem dX0_trouble_70 : decode prog_1_method_12_code 70 = .ok (.getfield 143, 3) := by decide +kernel
theorem dX0_trouble_73 : decode prog_1_method_12_code 73 = .ok (.ireturn, 1) := by decide +kernel
theorem dX0_trouble_74 : decode prog_1_method_12_code 74 = .ok (.aload_n 0, 1) := by decide +kernel
theorem dX0_trouble_75 : decode prog_1_method_12_code 75 = .ok (.getfield 40, 3) := by decide +kernel
theorem dX0_trouble_78 : decode prog_1_method_12_code 78 = .ok (.getfield 139, 3) := by decide +kernel
theorem dX0_trouble_81 : decode prog_1_method_12_code 81 = .ok (.getfield 144, 3) := by decide +kernel
theorem dX0_trouble_84 : decode prog_1_method_12_code 84 = .ok (.ireturn, 1) := by decide +kernel
theorem dX0_trouble_85 : decode prog_1_method_12_code 85 = .ok (.aload_n 0, 1) := by decide +kernel
theorem dX0_trouble_86 : decode prog_1_method_12_code 86 = .ok (.getfield 40, 3) := by decide +kernel
theorem dX0_trouble_89 : decode prog_1_method_12_code 89 = .ok (.getfield 147, 3) := by decide +kernel
theorem dX0_trouble_92 : decode prog_1_method_12_code 92 = .ok (.ireturn, 1) := by decide +kernel
theorem dX0_trouble_93 : decode prog_1_method_12_code 93 = .ok (.aload_n 0, 1) := by decide +kernel
theorem dX0_trouble_94 : decode prog_1_method_12_code 94 = .ok (.getfield 40, 3) := by decide +kernel
theorem dX0_trouble_97 : decode prog_1_method_12_code 97 = .ok (.getfield 150, 3) := by decide +kernel
theorem dX0_trouble_100 : decode prog_1_method_12_code 100 = .ok (.ireturn, 1) := by decide +kernel
theorem dX0_trouble_101 : decode prog_1_method_12_code 101 = .ok (.aload_n 0, 1) := by decide +kernel
theorem dX0_trouble_102 : decode prog_1_method_12_code 102 = .ok (.getfield 40, 3) := by decide +kernel
theorem dX0_trouble_105 : decode prog_1_method_12_code 105 = .ok (.getfield 153, 3) := by decide +kernel
theorem dX0_trouble_108 : decode prog_1_method_12_code 108 = .ok (.ireturn, 1) := by decide +kernel
theorem dX0_trouble_109 : decode prog_1_method_12_code 109 = .ok (.aload_n 0, 1) := by decide +kernel
theorem dX0_trouble_110 : decode prog_1_method_12_code 110 = .ok (.getfield 40, 3) := by decide +kernel
theorem dX0_trouble_113 : decode prog_1_method_12_code 113 = .ok (.getfield 156, 3) := by decide +kernel
theorem dX0_trouble_116 : decode prog_1_method_12_code 116 = .ok (.ireturn, 1) := by decide +kernel
theorem dX0_trouble_117 : decode prog_1_method_12_code 117 = .ok (.iconst (-1), 1) := by decide +kernel
theorem dX0_trouble_118 : decode prog_1_method_12_code 118 = .ok (.ireturn, 1) := by decide +kernel
theorem dX0_out_0 : decode prog_1_method_13_code 0 = .ok (.iload_n 1, 1) := by decide +kernel
theorem dX0_out_1 : decode prog_1_method_13_code 1 = .ok (.ifCond .lt 39, 3) := by decide +kernel
theorem dX0_out_4 : decode prog_1_method_13_code 4 = .ok (.iload_n 1, 1) := by decide +kernel
theorem dX0_out_5 : decode prog_1_method_13_code 5 = .ok (.sipush 600, 3) := by decide +kernel
theorem dX0_out_8 : decode prog_1_method_13_code 8 = .ok (.if_icmp .ge 32, 3) := by decide +kernel
theorem dX0_out_11 : decode prog_1_method_13_code 11 = .ok (.iload_n 1, 1) := by decide +kernel
theorem dX0_out_12 : decode prog_1_method_13_code 12 = .ok (.aload_n 0, 1) := by decide +kernel
theorem dX0_out_13 : decode prog_1_method_13_code 13 = .ok (.getfield 40, 3) := by decide +kernel
theorem dX0_out_16 : decode prog_1_method_13_code 16 = .ok (.getfield 159, 3) := by decide +kernel
theorem dX0_out_19 : decode prog_1_method_13_code 19 = .ok (.getfield 163, 3) := by decide +kernel
theorem dX0_out_22 : decode prog_1_method_13_code 22 = .ok (.if_icmp .ge 18, 3) := by decide +kernel
theorem dX0_out_25 : decode prog_1_method_13_code 25 = .ok (.aload_n 0, 1) := by decide +kernel
theorem dX0_out_26 : decode prog_1_method_13_code 26 = .ok (.getfield 40, 3) := by decide +kernel
theorem dX0_out_29 : decode prog_1_method_13_code 29 = .ok (.getfield 159, 3) := by decide +kernel
theorem dX0_out_32 : decode prog_1_method_13_code 32 = .ok (.getfield 166, 3) := by decide +kernel
theorem dX0_out_35 : decode prog_1_method_13_code 35 = .ok (.iload_n 1, 1) := by decide +kernel
theorem dX0_out_36 : decode prog_1_method_13_code 36 = .ok (.baload, 1) := by decide +kernel
theorem dX0_out_37 : decode prog_1_method_13_code 37 = .ok (.goto 4, 3) := by decide +kernel
theorem dX0_out_40 : decode prog_1_method_13_code 40 = .ok (.iconst (-1), 1) := by decide +kernel
theorem dX0_out_41 : decode prog_1_method_13_code 41 = .ok (.ireturn, 1) := by decide +kernel
theorem dX0_outs_0 : decode prog_1_method_14_code 0 = .ok (.aload_n 0, 1) := by decide +kernel
theorem dX0_outs_1 : decode prog_1_method_14_code 1 = .ok (.getfield 40, 3) := by decide +kernel
theorem dX0_outs_4 : decode prog_1_method_14_code 4 = .ok (.getfield 159, 3) := by decide +kernel
theorem dX0_outs_7 : decode prog_1_method_14_code 7 = .ok (.getfield 163, 3) := by decide +kernel
theorem dX0_outs_10 : decode prog_1_method_14_code 10 = .ok (.ireturn, 1) := by decide +kernel
theorem dX0_show_0 : decode prog_1_method_17_code 0 = .ok (.aload_n 0, 1) := by decide +kernel
theorem dX0_show_1 : decode prog_1_method_17_code 1 = .ok (.iload_n 1, 1) := by decide +kernel
theorem dX0_show_2 : decode prog_1_method_17_code 2 = .ok (.invokevirtual 177, 3) := by decide +kernel
theorem dX0_show_5 : decode prog_1_method_17_code 5 = .ok (.ifCond .ne 5, 3) := by decide +kernel
theorem dX0_show_8 : decode prog_1_method_17_code 8 = .ok (.iconst (-1), 1) := by decide +kernel
theorem dX0_show_9 : decode prog_1_method_17_code 9 = .ok (.ireturn, 1) := by decide +kernel
theorem dX0_show_10 : decode prog_1_method_17_code 10 = .ok (.aload_n 0, 1) := by decide +kernel
theorem dX0_show_11 : decode prog_1_method_17_code 11 = .ok (.getfield 40, 3) := by decide +kernel
theorem dX0_show_14 : decode prog_1_method_17_code 14 = .ok (.getfield 159, 3) := by decide +kernel
theorem dX0_show_17 : decode prog_1_method_17_code 17 = .ok (.iconst 0, 1) := by decide +kernel
theorem dX0_show_18 : decode prog_1_method_17_code 18 = .ok (.putfield 163, 3) := by decide +kernel
theorem dX0_show_21 : decode prog_1_method_17_code 21 = .ok (.aload_n 0, 1) := by decide +kernel
theorem dX0_show_22 : decode prog_1_method_17_code 22 = .ok (.iload_n 1, 1) := by decide +kernel
theorem dX0_show_23 : decode prog_1_method_17_code 23 = .ok (.invokevirtual 180, 3) := by decide +kernel
theorem dX0_show_26 : decode prog_1_method_17_code 26 = .ok (.ifnonnull 28, 3) := by decide +kernel
theorem dX0_show_29 : decode prog_1_method_17_code 29 = .ok (.aload_n 0, 1) := by decide +kernel
theorem dX0_show_30 : decode prog_1_method_17_code 30 = .ok (.getfield 40, 3) := by decide +kernel
theorem dX0_show_33 : decode prog_1_method_17_code 33 = .ok (.getfield 159, 3) := by decide +kernel
theorem dX0_show_36 : decode prog_1_method_17_code 36 = .ok (.aload_n 0, 1) := by decide +kernel
theorem dX0_show_37 : decode prog_1_method_17_code 37 = .ok (.getfield 40, 3) := by decide +kernel
theorem dX0_show_40 : decode prog_1_method_17_code 40 = .ok (.getfield 108, 3) := by decide +kernel
theorem dX0_show_43 : decode prog_1_method_17_code 43 = .ok (.getfield 184, 3) := by decide +kernel
theorem dX0_show_46 : decode prog_1_method_17_code 46 = .ok (.iload_n 1, 1) := by decide +kernel
theorem dX0_show_47 : decode prog_1_method_17_code 47 = .ok (.iaload, 1) := by decide +kernel
theorem dX0_show_48 : decode prog_1_method_17_code 48 = .ok (.invokevirtual 188, 3) := by decide +kernel
theorem dX0_show_51 : decode prog_1_method_17_code 51 = .ok (.goto 18, 3) := by decide +kernel
theorem dX0_show_54 : decode prog_1_method_17_code 54 = .ok (.aload_n 0, 1) := by decide +kernel
theorem dX0_show_55 : decode prog_1_method_17_code 55 = .ok (.iload_n 1, 1) := by decide +kernel
theorem dX0_show_56 : decode prog_1_method_17_code 56 = .ok (.invokevirtual 180, 3) := by decide +kernel
theorem dX0_show_59 : decode prog_1_method_17_code 59 = .ok (.aload_n 0, 1) := by decide +kernel
theorem dX0_show_60 : decode prog_1_method_17_code 60 = .ok (.getfield 40, 3) := by decide +kernel
theorem dX0_show_63 : decode prog_1_method_17_code 63 = .ok (.getfield 159, 3) := by decide +kernel
theorem dX0_show_66 : decode prog_1_method_17_code 66 = .ok (.invokevirtual 191, 3) := by decide +kernel
theorem dX0_show_69 : decode prog_1_method_17_code 69 = .ok (.aload_n 0, 1) := by decide +kernel
theorem dX0_show_70 : decode prog_1_method_17_code 70 = .ok (.getfield 40, 3) := by decide +kernel
theorem dX0_show_73 : decode prog_1_method_17_code 73 = .ok (.getfield 159, 3) := by decide +kernel
theorem dX0_show_76 : decode prog_1_method_17_code 76 = .ok (.getfield 163, 3) := by decide +kernel
theorem dX0_show_79 : decode prog_1_method_17_code 79 = .ok (.ireturn, 1) := by decide +kernel
theorem dX0_has_0 : decode prog_1_method_15_code 0 = .ok (.iload_n 1, 1) := by decide +kernel
theorem dX0_has_1 : decode prog_1_method_15_code 1 = .ok (.invokestatic 102, 3) := by decide +kernel
theorem dX0_has_4 : decode prog_1_method_15_code 4 = .ok (.ifCond .eq 22, 3) := by decide +kernel
theorem dX0_has_7 : decode prog_1_method_15_code 7 = .ok (.aload_n 0, 1) := by decide +kernel
theorem dX0_has_8 : decode prog_1_method_15_code 8 = .ok (.getfield 40, 3) := by decide +kernel
theorem dX0_has_11 : decode prog_1_method_15_code 11 = .ok (.getfield 108, 3) := by decide +kernel
theorem dX0_has_14 : decode prog_1_method_15_code 14 = .ok (.getfield 169, 3) := by decide +kernel
theorem dX0_has_17 : decode prog_1_method_15_code 17 = .ok (.iload_n 1, 1) := by decide +kernel
theorem dX0_has_18 : decode prog_1_method_15_code 18 = .ok (.baload, 1) := by decide +kernel
theorem dX0_has_19 : decode prog_1_method_15_code 19 = .ok (.ifCond .eq 7, 3) := by decide +kernel
theorem dX0_has_22 : decode prog_1_method_15_code 22 = .ok (.iconst 1, 1) := by decide +kernel
theorem dX0_has_23 : decode prog_1_method_15_code 23 = .ok (.goto 4, 3) := by decide +kernel
theorem dX0_has_26 : decode prog_1_method_15_code 26 = .ok (.iconst 0, 1) := by decide +kernel
theorem dX0_has_27 : decode prog_1_method_15_code 27 = .ok (.ireturn, 1) := by decide +kernel
theorem dX0_thingOn_0 : decode prog_1_method_16_code 0 = .ok (.aload_n 0, 1) := by decide +kernel
theorem dX0_thingOn_1 : decode prog_1_method_16_code 1 = .ok (.getfield 40, 3) := by decide +kernel
theorem dX0_thingOn_4 : decode prog_1_method_16_code 4 = .ok (.getfield 108, 3) := by decide +kernel
theorem dX0_thingOn_7 : decode prog_1_method_16_code 7 = .ok (.getfield 173, 3) := by decide +kernel
theorem dX0_thingOn_10 : decode prog_1_method_16_code 10 = .ok (.iload_n 1, 1) := by decide +kernel
theorem dX0_thingOn_11 : decode prog_1_method_16_code 11 = .ok (.aaload, 1) := by decide +kernel
theorem dX0_thingOn_12 : decode prog_1_method_16_code 12 = .ok (.areturn, 1) := by decide +kernel
theorem dX0_set_0 : decode prog_1_method_18_code 0 = .ok (.iload_n 1, 1) := by decide +kernel
theorem dX0_set_1 : decode prog_1_method_18_code 1 = .ok (.invokestatic 102, 3) := by decide +kernel
theorem dX0_set_4 : decode prog_1_method_18_code 4 = .ok (.ifCond .ne 5, 3) := by decide +kernel
theorem dX0_set_7 : decode prog_1_method_18_code 7 = .ok (.iconst 0, 1) := by decide +kernel
theorem dX0_set_8 : decode prog_1_method_18_code 8 = .ok (.ireturn, 1) := by decide +kernel
theorem dX0_set_9 : decode prog_1_method_18_code 9 = .ok (.aload_n 0, 1) := by decide +kernel
theorem dX0_set_10 : decode prog_1_method_18_code 10 = .ok (.getfield 40, 3) := by decide +kernel
theorem dX0_set_13 : decode prog_1_method_18_code 13 = .ok (.getfield 108, 3) := by decide +kernel
theorem dX0_set_16 : decode prog_1_method_18_code 16 = .ok (.iload_n 1, 1) := by decide +kernel
theorem dX0_set_17 : decode prog_1_method_18_code 17 = .ok (.iload_n 2, 1) := by decide +kernel
theorem dX0_set_18 : decode prog_1_method_18_code 18 = .ok (.aconst_null, 1) := by decide +kernel
theorem dX0_set_19 : decode prog_1_method_18_code 19 = .ok (.invokevirtual 195, 3) := by decide +kernel
theorem dX0_set_22 : decode prog_1_method_18_code 22 = .ok (.iconst 1, 1) := by decide +kernel
theorem dX0_set_23 : decode prog_1_method_18_code 23 = .ok (.ireturn, 1) := by decide +kernel
theorem dX0_clear_0 : decode prog_1_method_20_code 0 = .ok (.aload_n 0, 1) := by decide +kernel
theorem dX0_clear_1 : decode prog_1_method_20_code 1 = .ok (.iload_n 1, 1) := by decide +kernel
theorem dX0_clear_2 : decode prog_1_method_20_code 2 = .ok (.invokevirtual 177, 3) := by decide +kernel
theorem dX0_clear_5 : decode prog_1_method_20_code 5 = .ok (.ifCond .ne 5, 3) := by decide +kernel
theorem dX0_clear_8 : decode prog_1_method_20_code 8 = .ok (.iconst 0, 1) := by decide +kernel
theorem dX0_clear_9 : decode prog_1_method_20_code 9 = .ok (.ireturn, 1) := by decide +kernel
theorem dX0_clear_10 : decode prog_1_method_20_code 10 = .ok (.aload_n 0, 1) := by decide +kernel
theorem dX0_clear_11 : decode prog_1_method_20_code 11 = .ok (.getfield 40, 3) := by decide +kernel
theorem dX0_clear_14 : decode prog_1_method_20_code 14 = .ok (.getfield 108, 3) := by decide +kernel
theorem dX0_clear_17 : decode prog_1_method_20_code 17 = .ok (.getfield 169, 3) := by decide +kernel
theorem dX0_clear_20 : decode prog_1_method_20_code 20 = .ok (.iload_n 1, 1) := by decide +kernel
theorem dX0_clear_21 : decode prog_1_method_20_code 21 = .ok (.iconst 0, 1) := by decide +kernel
theorem dX0_clear_22 : decode prog_1_method_20_code 22 = .ok (.bastore, 1) := by decide +kernel
theorem dX0_clear_23 : decode prog_1_method_20_code 23 = .ok (.iconst 1, 1) := by decide +kernel
theorem dX0_clear_24 : decode prog_1_method_20_code 24 = .ok (.ireturn, 1) := by decide +kernel
theorem dX0_kind_0 : decode prog_1_method_21_code 0 = .ok (.aload_n 0, 1) := by decide +kernel
theorem dX0_kind_1 : decode prog_1_method_21_code 1 = .ok (.iload_n 1, 1) := by decide +kernel
theorem dX0_kind_2 : decode prog_1_method_21_code 2 = .ok (.invokevirtual 177, 3) := by decide +kernel
theorem dX0_kind_5 : decode prog_1_method_21_code 5 = .ok (.ifCond .ne 7, 3) := by decide +kernel
theorem dX0_kind_8 : decode prog_1_method_21_code 8 = .ok (.iconst (-1), 1) := by decide +kernel
theorem dX0_kind_9 : decode prog_1_method_21_code 9 = .ok (.goto 23, 3) := by decide +kernel
theorem dX0_kind_12 : decode prog_1_method_21_code 12 = .ok (.aload_n 0, 1) := by decide +kernel
theorem dX0_kind_13 : decode prog_1_method_21_code 13 = .ok (.iload_n 1, 1) := by decide +kernel
theorem dX0_kind_14 : decode prog_1_method_21_code 14 = .ok (.invokevirtual 180, 3) := by decide +kernel
theorem dX0_kind_17 : decode prog_1_method_21_code 17 = .ok (.ifnonnull 7, 3) := by decide +kernel
theorem dX0_kind_20 : decode prog_1_method_21_code 20 = .ok (.iconst 0, 1) := by decide +kernel
theorem dX0_kind_21 : decode prog_1_method_21_code 21 = .ok (.goto 11, 3) := by decide +kernel
theorem dX0_kind_24 : decode prog_1_method_21_code 24 = .ok (.aload_n 0, 1) := by decide +kernel
theorem dX0_kind_25 : decode prog_1_method_21_code 25 = .ok (.iload_n 1, 1) := by decide +kernel
theorem dX0_kind_26 : decode prog_1_method_21_code 26 = .ok (.invokevirtual 180, 3) := by decide +kernel
theorem dX0_kind_29 : decode prog_1_method_21_code 29 = .ok (.invokevirtual 212, 3) := by decide +kernel
theorem dX0_kind_32 : decode prog_1_method_21_code 32 = .ok (.ireturn, 1) := by decide +kernel
theorem dX0_size_0 : decode prog_1_method_22_code 0 = .ok (.aload_n 0, 1) := by decide +kernel
theorem dX0_size_1 : decode prog_1_method_22_code 1 = .ok (.iload_n 1, 1) := by decide +kernel
theorem dX0_size_2 : decode prog_1_method_22_code 2 = .ok (.invokevirtual 177, 3) := by decide +kernel
theorem dX0_size_5 : decode prog_1_method_22_code 5 = .ok (.ifCond .ne 5, 3) := by decide +kernel
theorem dX0_size_8 : decode prog_1_method_22_code 8 = .ok (.iconst (-1), 1) := by decide +kernel
theorem dX0_size_9 : decode prog_1_method_22_code 9 = .ok (.ireturn, 1) := by decide +kernel
theorem dX0_size_10 : decode prog_1_method_22_code 10 = .ok (.aload_n 0, 1) := by decide +kernel
theorem dX0_size_11 : decode prog_1_method_22_code 11 = .ok (.iload_n 1, 1) := by decide +kernel
theorem dX0_size_12 : decode prog_1_method_22_code 12 = .ok (.invokevirtual 180, 3) := by decide +kernel
theorem dX0_size_15 : decode prog_1_method_22_code 15 = .ok (.astore_n 3, 1) := by decide +kernel
theorem dX0_size_16 : decode prog_1_method_22_code 16 = .ok (.iload_n 2, 1) := by decide +kernel
theorem dX0_size_17 : decode prog_1_method_22_code 17 = .ok (.iconst (-1), 1) := by decide +kernel
theorem dX0_size_18 : decode prog_1_method_22_code 18 = .ok (.if_icmp .ne 16, 3) := by decide +kernel
theorem dX0_size_21 : decode prog_1_method_22_code 21 = .ok (.aload_n 3, 1) := by decide +kernel
theorem dX0_size_22 : decode prog_1_method_22_code 22 = .ok (.ifnonnull 7, 3) := by decide +kernel
theorem dX0_size_25 : decode prog_1_method_22_code 25 = .ok (.iconst 0, 1) := by decide +kernel
theorem dX0_size_26 : decode prog_1_method_22_code 26 = .ok (.goto 7, 3) := by decide +kernel
theorem dX0_size_29 : decode prog_1_method_22_code 29 = .ok (.aload_n 3, 1) := by decide +kernel
theorem dX0_size_30 : decode prog_1_method_22_code 30 = .ok (.invokevirtual 215, 3) := by decide +kernel
theorem dX0_size_33 : decode prog_1_method_22_code 33 = .ok (.ireturn, 1) := by decide +kernel
theorem dX0_size_34 : decode prog_1_method_22_code 34 = .ok (.aload_n 3, 1) := by decide +kernel
theorem dX0_size_35 : decode prog_1_method_22_code 35 = .ok (.ifnull 15, 3) := by decide +kernel
theorem dX0_size_38 : decode prog_1_method_22_code 38 = .ok (.iload_n 2, 1) := by decide +kernel
theorem dX0_size_39 : decode prog_1_method_22_code 39 = .ok (.ifCond .lt 11, 3) := by decide +kernel
theorem dX0_size_42 : decode prog_1_method_22_code 42 = .ok (.iload_n 2, 1) := by decide +kernel
theorem dX0_size_43 : decode prog_1_method_22_code 43 = .ok (.aload_n 3, 1) := by decide +kernel
theorem dX0_size_44 : decode prog_1_method_22_code 44 = .ok (.invokevirtual 215, 3) := by decide +kernel
theorem dX0_size_47 : decode prog_1_method_22_code 47 = .ok (.if_icmp .lt 5, 3) := by decide +kernel
theorem dX0_size_50 : decode prog_1_method_22_code 50 = .ok (.iconst (-1), 1) := by decide +kernel
theorem dX0_size_51 : decode prog_1_method_22_code 51 = .ok (.ireturn, 1) := by decide +kernel
theorem dX0_size_52 : decode prog_1_method_22_code 52 = .ok (.aload_n 3, 1) := by decide +kernel
theorem dX0_size_53 : decode prog_1_method_22_code 53 = .ok (.instanceof 218, 3) := by decide +kernel
theorem dX0_size_56 : decode prog_1_method_22_code 56 = .ok (.ifCond .eq 18, 3) := by decide +kernel
theorem dX0_size_59 : decode prog_1_method_22_code 59 = .ok (.aload_n 3, 1) := by decide +kernel
theorem dX0_size_60 : decode prog_1_method_22_code 60 = .ok (.checkcast 218, 3) := by decide +kernel
theorem dX0_size_63 : decode prog_1_method_22_code 63 = .ok (.astore 4, 2) := by decide +kernel
theorem dX0_size_65 : decode prog_1_method_22_code 65 = .ok (.aload 4, 2) := by decide +kernel
theorem dX0_size_67 : decode prog_1_method_22_code 67 = .ok (.getfield 220, 3) := by decide +kernel
theorem dX0_size_70 : decode prog_1_method_22_code 70 = .ok (.iload_n 2, 1) := by decide +kernel
theorem dX0_size_71 : decode prog_1_method_22_code 71 = .ok (.aaload, 1) := by decide +kernel
theorem dX0_size_72 : decode prog_1_method_22_code 72 = .ok (.arraylength, 1) := by decide +kernel
theorem dX0_size_73 : decode prog_1_method_22_code 73 = .ok (.ireturn, 1) := by decide +kernel
theorem dX0_size_74 : decode prog_1_method_22_code 74 = .ok (.aload_n 3, 1) := by decide +kernel
theorem dX0_size_75 : decode prog_1_method_22_code 75 = .ok (.instanceof 223, 3) := by decide +kernel
theorem dX0_size_78 : decode prog_1_method_22_code 78 = .ok (.ifCond .eq 22, 3) := by decide +kernel
theorem dX0_size_81 : decode prog_1_method_22_code 81 = .ok (.aload_n 3, 1) := by decide +kernel
theorem dX0_size_82 : decode prog_1_method_22_code 82 = .ok (.checkcast 223, 3) := by decide +kernel
theorem dX0_size_85 : decode prog_1_method_22_code 85 = .ok (.astore 4, 2) := by decide +kernel
theorem dX0_size_87 : decode prog_1_method_22_code 87 = .ok (.aload 4, 2) := by decide +kernel
theorem dX0_size_89 : decode prog_1_method_22_code 89 = .ok (.getfield 225, 3) := by decide +kernel
theorem dX0_size_92 : decode prog_1_method_22_code 92 = .ok (.iload_n 2, 1) := by decide +kernel
theorem dX0_size_93 : decode prog_1_method_22_code 93 = .ok (.aaload, 1) := by decide +kernel
theorem dX0_size_94 : decode prog_1_method_22_code 94 = .ok (.invokevirtual 212, 3) := by decide +kernel
theorem dX0_size_97 : decode prog_1_method_22_code 97 = .ok (.goto 4, 3) := by decide +kernel
theorem dX0_size_100 : decode prog_1_method_22_code 100 = .ok (.iconst (-1), 1) := by decide +kernel
theorem dX0_size_101 : decode prog_1_method_22_code 101 = .ok (.ireturn, 1) := by decide +kernel
theorem dX0_cell_0 : decode prog_1_method_24_code 0 = .ok (.aload_n 0, 1) := by decide +kernel
theorem dX0_cell_1 : decode prog_1_method_24_code 1 = .ok (.iload_n 1, 1) := by decide +kernel
theorem dX0_cell_2 : decode prog_1_method_24_code 2 = .ok (.invokevirtual 177, 3) := by decide +kernel
theorem dX0_cell_5 : decode prog_1_method_24_code 5 = .ok (.ifCond .ne 5, 3) := by decide +kernel
theorem dX0_cell_8 : decode prog_1_method_24_code 8 = .ok (.iconst 0, 1) := by decide +kernel
theorem dX0_cell_9 : decode prog_1_method_24_code 9 = .ok (.ireturn, 1) := by decide +kernel
theorem dX0_cell_10 : decode prog_1_method_24_code 10 = .ok (.aload_n 0, 1) := by decide +kernel
theorem dX0_cell_11 : decode prog_1_method_24_code 11 = .ok (.iload_n 1, 1) := by decide +kernel
theorem dX0_cell_12 : decode prog_1_method_24_code 12 = .ok (.invokevirtual 180, 3) := by decide +kernel
theorem dX0_cell_15 : decode prog_1_method_24_code 15 = .ok (.astore 4, 2) := by decide +kernel
theorem dX0_cell_17 : decode prog_1_method_24_code 17 = .ok (.aload 4, 2) := by decide +kernel
theorem dX0_cell_19 : decode prog_1_method_24_code 19 = .ok (.ifnonnull 16, 3) := by decide +kernel
theorem dX0_cell_22 : decode prog_1_method_24_code 22 = .ok (.aload_n 0, 1) := by decide +kernel
theorem dX0_cell_23 : decode prog_1_method_24_code 23 = .ok (.getfield 40, 3) := by decide +kernel
theorem dX0_cell_26 : decode prog_1_method_24_code 26 = .ok (.getfield 108, 3) := by decide +kernel
theorem dX0_cell_29 : decode prog_1_method_24_code 29 = .ok (.getfield 184, 3) := by decide +kernel
theorem dX0_cell_32 : decode prog_1_method_24_code 32 = .ok (.iload_n 1, 1) := by decide +kernel
theorem dX0_cell_33 : decode prog_1_method_24_code 33 = .ok (.iaload, 1) := by decide +kernel
theorem dX0_cell_34 : decode prog_1_method_24_code 34 = .ok (.ireturn, 1) := by decide +kernel
theorem dX0_cell_35 : decode prog_1_method_24_code 35 = .ok (.aload 4, 2) := by decide +kernel
theorem dX0_cell_37 : decode prog_1_method_24_code 37 = .ok (.instanceof 198, 3) := by decide +kernel
theorem dX0_cell_40 : decode prog_1_method_24_code 40 = .ok (.ifCond .eq 20, 3) := by decide +kernel
theorem dX0_cell_43 : decode prog_1_method_24_code 43 = .ok (.aload 4, 2) := by decide +kernel
theorem dX0_cell_45 : decode prog_1_method_24_code 45 = .ok (.checkcast 198, 3) := by decide +kernel
theorem dX0_cell_48 : decode prog_1_method_24_code 48 = .ok (.astore 5, 2) := by decide +kernel
theorem dX0_cell_50 : decode prog_1_method_24_code 50 = .ok (.aload 5, 2) := by decide +kernel
theorem dX0_cell_52 : decode prog_1_method_24_code 52 = .ok (.getfield 200, 3) := by decide +kernel
theorem dX0_cell_55 : decode prog_1_method_24_code 55 = .ok (.iload_n 2, 1) := by decide +kernel
theorem dX0_cell_56 : decode prog_1_method_24_code 56 = .ok (.invokestatic 227, 3) := by decide +kernel
theorem dX0_cell_59 : decode prog_1_method_24_code 59 = .ok (.ireturn, 1) := by decide +kernel
theorem dX0_cell_60 : decode prog_1_method_24_code 60 = .ok (.iload_n 2, 1) := by decide +kernel
theorem dX0_cell_61 : decode prog_1_method_24_code 61 = .ok (.ifCond .lt 12, 3) := by decide +kernel
theorem dX0_cell_64 : decode prog_1_method_24_code 64 = .ok (.iload_n 2, 1) := by decide +kernel
theorem dX0_cell_65 : decode prog_1_method_24_code 65 = .ok (.aload 4, 2) := by decide +kernel
theorem dX0_cell_67 : decode prog_1_method_24_code 67 = .ok (.invokevirtual 215, 3) := by decide +kernel
theorem dX0_cell_70 : decode prog_1_method_24_code 70 = .ok (.if_icmp .lt 5, 3) := by decide +kernel
theorem dX0_cell_73 : decode prog_1_method_24_code 73 = .ok (.iconst 0, 1) := by decide +kernel
theorem dX0_cell_74 : decode prog_1_method_24_code 74 = .ok (.ireturn, 1) := by decide +kernel
theorem dX0_cell_75 : decode prog_1_method_24_code 75 = .ok (.aload 4, 2) := by decide +kernel
theorem dX0_cell_77 : decode prog_1_method_24_code 77 = .ok (.instanceof 218, 3) := by decide +kernel
theorem dX0_cell_80 : decode prog_1_method_24_code 80 = .ok (.ifCond .eq 22, 3) := by decide +kernel
theorem dX0_cell_83 : decode prog_1_method_24_code 83 = .ok (.aload 4, 2) := by decide +kernel
theorem dX0_cell_85 : decode prog_1_method_24_code 85 = .ok (.checkcast 218, 3) := by decide +kernel
theorem dX0_cell_88 : decode prog_1_method_24_code 88 = .ok (.astore 5, 2) := by decide +kernel
theorem dX0_cell_90 : decode prog_1_method_24_code 90 = .ok (.aload 5, 2) := by decide +kernel
theorem dX0_cell_92 : decode prog_1_method_24_code 92 = .ok (.getfield 220, 3) := by decide +kernel
theorem dX0_cell_95 : decode prog_1_method_24_code 95 = .ok (.iload_n 2, 1) := by decide +kernel
theorem dX0_cell_96 : decode prog_1_method_24_code 96 = .ok (.aaload, 1) := by decide +kernel
theorem dX0_cell_97 : decode prog_1_method_24_code 97 = .ok (.iload_n 3, 1) := by decide +kernel
theorem dX0_cell_98 : decode prog_1_method_24_code 98 = .ok (.invokestatic 227, 3) := by decide +kernel
theorem dX0_cell_101 : decode prog_1_method_24_code 101 = .ok (.ireturn, 1) := by decide +kernel
theorem dX0_cell_102 : decode prog_1_method_24_code 102 = .ok (.aload 4, 2) := by decide +kernel
theorem dX0_cell_104 : decode prog_1_method_24_code 104 = .ok (.checkcast 223, 3) := by decide +kernel
theorem dX0_cell_107 : decode prog_1_method_24_code 107 = .ok (.getfield 225, 3) := by decide +kernel
theorem dX0_cell_110 : decode prog_1_method_24_code 110 = .ok (.iload_n 2, 1) := by decide +kernel
theorem dX0_cell_111 : decode prog_1_method_24_code 111 = .ok (.aaload, 1) := by decide +kernel
theorem dX0_cell_112 : decode prog_1_method_24_code 112 = .ok (.astore 5, 2) := by decide +kernel
theorem dX0_cell_114 : decode prog_1_method_24_code 114 = .ok (.aload 5, 2) := by decide +kernel
theorem dX0_cell_116 : decode prog_1_method_24_code 116 = .ok (.instanceof 231, 3) := by decide +kernel
theorem dX0_cell_119 : decode prog_1_method_24_code 119 = .ok (.ifCond .eq 18, 3) := by decide +kernel
theorem dX0_cell_122 : decode prog_1_method_24_code 122 = .ok (.aload 5, 2) := by decide +kernel
theorem dX0_cell_124 : decode prog_1_method_24_code 124 = .ok (.checkcast 231, 3) := by decide +kernel
theorem dX0_cell_127 : decode prog_1_method_24_code 127 = .ok (.astore 7, 2) := by decide +kernel
theorem dX0_cell_129 : decode prog_1_method_24_code 129 = .ok (.aload 7, 2) := by decide +kernel
theorem dX0_cell_131 : decode prog_1_method_24_code 131 = .ok (.getfield 233, 3) := by decide +kernel
theorem dX0_cell_134 : decode prog_1_method_24_code 134 = .ok (.goto 31, 3) := by decide +kernel
theorem dX0_cell_137 : decode prog_1_method_24_code 137 = .ok (.aload 5, 2) := by decide +kernel
theorem dX0_cell_139 : decode prog_1_method_24_code 139 = .ok (.instanceof 198, 3) := by decide +kernel
theorem dX0_cell_142 : decode prog_1_method_24_code 142 = .ok (.ifCond .eq 22, 3) := by decide +kernel
theorem dX0_cell_145 : decode prog_1_method_24_code 145 = .ok (.aload 5, 2) := by decide +kernel
theorem dX0_cell_147 : decode prog_1_method_24_code 147 = .ok (.checkcast 198, 3) := by decide +kernel
theorem dX0_cell_150 : decode prog_1_method_24_code 150 = .ok (.astore 6, 2) := by decide +kernel
theorem dX0_cell_152 : decode prog_1_method_24_code 152 = .ok (.aload 6, 2) := by decide +kernel
theorem dX0_cell_154 : decode prog_1_method_24_code 154 = .ok (.getfield 200, 3) := by decide +kernel
theorem dX0_cell_157 : decode prog_1_method_24_code 157 = .ok (.iload_n 3, 1) := by decide +kernel
theorem dX0_cell_158 : decode prog_1_method_24_code 158 = .ok (.invokestatic 227, 3) := by decide +kernel
theorem dX0_cell_161 : decode prog_1_method_24_code 161 = .ok (.goto 4, 3) := by decide +kernel
theorem dX0_cell_164 : decode prog_1_method_24_code 164 = .ok (.iconst 0, 1) := by decide +kernel
theorem dX0_cell_165 : decode prog_1_method_24_code 165 = .ok (.ireturn, 1) := by decide +kernel
theorem dX0_intOf_0 : decode prog_1_method_23_code 0 = .ok (.iload_n 1, 1) := by decide +kernel
theorem dX0_intOf_1 : decode prog_1_method_23_code 1 = .ok (.ifCond .lt 15, 3) := by decide +kernel
theorem dX0_intOf_4 : decode prog_1_method_23_code 4 = .ok (.iload_n 1, 1) := by decide +kernel
theorem dX0_intOf_5 : decode prog_1_method_23_code 5 = .ok (.aload_n 0, 1) := by decide +kernel
theorem dX0_intOf_6 : decode prog_1_method_23_code 6 = .ok (.arraylength, 1) := by decide +kernel
theorem dX0_intOf_7 : decode prog_1_method_23_code 7 = .ok (.if_icmp .ge 9, 3) := by decide +kernel
theorem dX0_intOf_10 : decode prog_1_method_23_code 10 = .ok (.aload_n 0, 1) := by decide +kernel
theorem dX0_intOf_11 : decode prog_1_method_23_code 11 = .ok (.iload_n 1, 1) := by decide +kernel
theorem dX0_intOf_12 : decode prog_1_method_23_code 12 = .ok (.iaload, 1) := by decide +kernel
theorem dX0_intOf_13 : decode prog_1_method_23_code 13 = .ok (.goto 4, 3) := by decide +kernel
theorem dX0_intOf_16 : decode prog_1_method_23_code 16 = .ok (.iconst 0, 1) := by decide +kernel
theorem dX0_intOf_17 : decode prog_1_method_23_code 17 = .ok (.ireturn, 1) := by decide +kernel
theorem dX0_same_0 : decode prog_1_method_25_code 0 = .ok (.iload_n 1, 1) := by decide +kernel
theorem dX0_same_1 : decode prog_1_method_25_code 1 = .ok (.invokestatic 102, 3) := by decide +kernel
theorem dX0_same_4 : decode prog_1_method_25_code 4 = .ok (.ifCond .eq 29, 3) := by decide +kernel
theorem dX0_same_7 : decode prog_1_method_25_code 7 = .ok (.iload_n 2, 1) := by decide +kernel
theorem dX0_same_8 : decode prog_1_method_25_code 8 = .ok (.invokestatic 102, 3) := by decide +kernel
theorem dX0_same_11 : decode prog_1_method_25_code 11 = .ok (.ifCond .eq 22, 3) := by decide +kernel
theorem dX0_same_14 : decode prog_1_method_25_code 14 = .ok (.aload_n 0, 1) := by decide +kernel
theorem dX0_same_15 : decode prog_1_method_25_code 15 = .ok (.getfield 40, 3) := by decide +kernel
theorem dX0_same_18 : decode prog_1_method_25_code 18 = .ok (.getfield 108, 3) := by decide +kernel
theorem dX0_same_21 : decode prog_1_method_25_code 21 = .ok (.iload_n 1, 1) := by decide +kernel
theorem dX0_same_22 : decode prog_1_method_25_code 22 = .ok (.iload_n 2, 1) := by decide +kernel
theorem dX0_same_23 : decode prog_1_method_25_code 23 = .ok (.invokevirtual 236, 3) := by decide +kernel
theorem dX0_same_26 : decode prog_1_method_25_code 26 = .ok (.ifCond .eq 7, 3) := by decide +kernel
theorem dX0_same_29 : decode prog_1_method_25_code 29 = .ok (.iconst 1, 1) := by decide +kernel
theorem dX0_same_30 : decode prog_1_method_25_code 30 = .ok (.goto 4, 3) := by decide +kernel
theorem dX0_same_33 : decode prog_1_method_25_code 33 = .ok (.iconst 0, 1) := by decide +kernel
theorem dX0_same_34 : decode prog_1_method_25_code 34 = .ok (.ireturn, 1) := by decide +kernel
theorem dX0_mark_0 : decode prog_1_method_26_code 0 = .ok (.aload_n 0, 1) := by decide +kernel
theorem dX0_mark_1 : decode prog_1_method_26_code 1 = .ok (.getfield 40, 3) := by decide +kernel
theorem dX0_mark_4 : decode prog_1_method_26_code 4 = .ok (.getfield 108, 3) := by decide +kernel
theorem dX0_mark_7 : decode prog_1_method_26_code 7 = .ok (.invokevirtual 239, 3) := by decide +kernel
theorem dX0_mark_10 : decode prog_1_method_26_code 10 = .ok (.ireturn, 1) := by decide +kernel
theorem dX0_back_0 : decode prog_1_method_27_code 0 = .ok (.aload_n 0, 1) := by decide +kernel
theorem dX0_back_1 : decode prog_1_method_27_code 1 = .ok (.getfield 40, 3) := by decide +kernel
theorem dX0_back_4 : decode prog_1_method_27_code 4 = .ok (.getfield 108, 3) := by decide +kernel
theorem dX0_back_7 : decode prog_1_method_27_code 7 = .ok (.getfield 242, 3) := by decide +kernel
theorem dX0_back_10 : decode prog_1_method_27_code 10 = .ok (.ifCond .ne 5, 3) := by decide +kernel
theorem dX0_back_13 : decode prog_1_method_27_code 13 = .ok (.iconst 0, 1) := by decide +kernel
theorem dX0_back_14 : decode prog_1_method_27_code 14 = .ok (.ireturn, 1) := by decide +kernel
theorem dX0_back_15 : decode prog_1_method_27_code 15 = .ok (.aload_n 0, 1) := by decide +kernel
theorem dX0_back_16 : decode prog_1_method_27_code 16 = .ok (.getfield 40, 3) := by decide +kernel
theorem dX0_back_19 : decode prog_1_method_27_code 19 = .ok (.getfield 108, 3) := by decide +kernel
theorem dX0_back_22 : decode prog_1_method_27_code 22 = .ok (.dup, 1) := by decide +kernel
theorem dX0_back_23 : decode prog_1_method_27_code 23 = .ok (.getfield 242, 3) := by decide +kernel
theorem dX0_back_26 : decode prog_1_method_27_code 26 = .ok (.iconst 1, 1) := by decide +kernel
theorem dX0_back_27 : decode prog_1_method_27_code 27 = .ok (.isub, 1) := by decide +kernel
theorem dX0_back_28 : decode prog_1_method_27_code 28 = .ok (.putfield 242, 3) := by decide +kernel
theorem dX0_back_31 : decode prog_1_method_27_code 31 = .ok (.aload_n 0, 1) := by decide +kernel
theorem dX0_back_32 : decode prog_1_method_27_code 32 = .ok (.getfield 40, 3) := by decide +kernel
theorem dX0_back_35 : decode prog_1_method_27_code 35 = .ok (.getfield 108, 3) := by decide +kernel
theorem dX0_back_38 : decode prog_1_method_27_code 38 = .ok (.aload_n 0, 1) := by decide +kernel
theorem dX0_back_39 : decode prog_1_method_27_code 39 = .ok (.getfield 40, 3) := by decide +kernel
theorem dX0_back_42 : decode prog_1_method_27_code 42 = .ok (.getfield 108, 3) := by decide +kernel
theorem dX0_back_45 : decode prog_1_method_27_code 45 = .ok (.getfield 242, 3) := by decide +kernel
theorem dX0_back_48 : decode prog_1_method_27_code 48 = .ok (.invokevirtual 126, 3) := by decide +kernel
theorem dX0_back_51 : decode prog_1_method_27_code 51 = .ok (.iconst 1, 1) := by decide +kernel
theorem dX0_back_52 : decode prog_1_method_27_code 52 = .ok (.ireturn, 1) := by decide +kernel
theorem dX0_sum_0 : decode prog_1_method_28_code 0 = .ok (.lconst 0, 1) := by decide +kernel
theorem dX0_sum_1 : decode prog_1_method_28_code 1 = .ok (.lstore_n 1, 1) := by decide +kernel
theorem dX0_sum_2 : decode prog_1_method_28_code 2 = .ok (.iconst 0, 1) := by decide +kernel
theorem dX0_sum_3 : decode prog_1_method_28_code 3 = .ok (.istore_n 3, 1) := by decide +kernel
theorem dX0_sum_4 : decode prog_1_method_28_code 4 = .ok (.iload_n 3, 1) := by decide +kernel
theorem dX0_sum_5 : decode prog_1_method_28_code 5 = .ok (.bipush 8, 2) := by decide +kernel
theorem dX0_sum_7 : decode prog_1_method_28_code 7 = .ok (.if_icmp .ge 71, 3) := by decide +kernel
theorem dX0_sum_10 : decode prog_1_method_28_code 10 = .ok (.aload_n 0, 1) := by decide +kernel
theorem dX0_sum_11 : decode prog_1_method_28_code 11 = .ok (.iload_n 3, 1) := by decide +kernel
theorem dX0_sum_12 : decode prog_1_method_28_code 12 = .ok (.invokevirtual 177, 3) := by decide +kernel
theorem dX0_sum_15 : decode prog_1_method_28_code 15 = .ok (.ifCond .ne 14, 3) := by decide +kernel
theorem dX0_sum_18 : decode prog_1_method_28_code 18 = .ok (.lload_n 1, 1) := by decide +kernel
theorem dX0_sum_19 : decode prog_1_method_28_code 19 = .ok (.ldc2_w 244, 3) := by decide +kernel
theorem dX0_sum_22 : decode prog_1_method_28_code 22 = .ok (.invokestatic 246, 3) := by decide +kernel
theorem dX0_sum_25 : decode prog_1_method_28_code 25 = .ok (.lstore_n 1, 1) := by decide +kernel
theorem dX0_sum_26 : decode prog_1_method_28_code 26 = .ok (.goto 46, 3) := by decide +kernel
theorem dX0_sum_29 : decode prog_1_method_28_code 29 = .ok (.aload_n 0, 1) := by decide +kernel
theorem dX0_sum_30 : decode prog_1_method_28_code 30 = .ok (.iload_n 3, 1) := by decide +kernel
theorem dX0_sum_31 : decode prog_1_method_28_code 31 = .ok (.invokevirtual 180, 3) := by decide +kernel
theorem dX0_sum_34 : decode prog_1_method_28_code 34 = .ok (.ifnonnull 28, 3) := by decide +kernel
theorem dX0_sum_37 : decode prog_1_method_28_code 37 = .ok (.lload_n 1, 1) := by decide +kernel
theorem dX0_sum_38 : decode prog_1_method_28_code 38 = .ok (.lconst 0, 1) := by decide +kernel
theorem dX0_sum_39 : decode prog_1_method_28_code 39 = .ok (.invokestatic 246, 3) := by decide +kernel
theorem dX0_sum_42 : decode prog_1_method_28_code 42 = .ok (.aload_n 0, 1) := by decide +kernel
theorem dX0_sum_43 : decode prog_1_method_28_code 43 = .ok (.getfield 40, 3) := by decide +kernel
theorem dX0_sum_46 : decode prog_1_method_28_code 46 = .ok (.getfield 108, 3) := by decide +kernel
theorem dX0_sum_49 : decode prog_1_method_28_code 49 = .ok (.getfield 184, 3) := by decide +kernel
theorem dX0_sum_52 : decode prog_1_method_28_code 52 = .ok (.iload_n 3, 1) := by decide +kernel
theorem dX0_sum_53 : decode prog_1_method_28_code 53 = .ok (.iaload, 1) := by decide +kernel
theorem dX0_sum_54 : decode prog_1_method_28_code 54 = .ok (.i2l, 1) := by decide +kernel
theorem dX0_sum_55 : decode prog_1_method_28_code 55 = .ok (.invokestatic 246, 3) := by decide +kernel
theorem dX0_sum_58 : decode prog_1_method_28_code 58 = .ok (.lstore_n 1, 1) := by decide +kernel
theorem dX0_sum_59 : decode prog_1_method_28_code 59 = .ok (.goto 13, 3) := by decide +kernel
theorem dX0_sum_62 : decode prog_1_method_28_code 62 = .ok (.aload_n 0, 1) := by decide +kernel
theorem dX0_sum_63 : decode prog_1_method_28_code 63 = .ok (.iload_n 3, 1) := by decide +kernel
theorem dX0_sum_64 : decode prog_1_method_28_code 64 = .ok (.invokevirtual 180, 3) := by decide +kernel
theorem dX0_sum_67 : decode prog_1_method_28_code 67 = .ok (.lload_n 1, 1) := by decide +kernel
theorem dX0_sum_68 : decode prog_1_method_28_code 68 = .ok (.invokevirtual 250, 3) := by decide +kernel
theorem dX0_sum_71 : decode prog_1_method_28_code 71 = .ok (.lstore_n 1, 1) := by decide +kernel
theorem dX0_sum_72 : decode prog_1_method_28_code 72 = .ok (.iinc 3 1, 3) := by decide +kernel
theorem dX0_sum_75 : decode prog_1_method_28_code 75 = .ok (.goto (-71), 3) := by decide +kernel
theorem dX0_sum_78 : decode prog_1_method_28_code 78 = .ok (.lload_n 1, 1) := by decide +kernel
theorem dX0_sum_79 : decode prog_1_method_28_code 79 = .ok (.lreturn, 1) := by decide +kernel
theorem dX0_joined_0 : decode prog_1_method_1_code 0 = .ok (.lload_n 0, 1) := by decide +kernel
theorem dX0_joined_1 : decode prog_1_method_1_code 1 = .ok (.ldc2_w 1, 3) := by decide +kernel
theorem dX0_joined_4 : decode prog_1_method_1_code 4 = .ok (.lmul, 1) := by decide +kernel
theorem dX0_joined_5 : decode prog_1_method_1_code 5 = .ok (.lload_n 2, 1) := by decide +kernel
theorem dX0_joined_6 : decode prog_1_method_1_code 6 = .ok (.lxor, 1) := by decide +kernel
theorem dX0_joined_7 : decode prog_1_method_1_code 7 = .ok (.lreturn, 1) := by decide +kernel
theorem dX11_init_0 : decode prog_24_method_1_code 0 = .ok (.aload_n 0, 1) := by decide +kernel
theorem dX11_init_1 : decode prog_24_method_1_code 1 = .ok (.invokespecial 3, 3) := by decide +kernel
theorem dX11_init_4 : decode prog_24_method_1_code 4 = .ok (.aload_n 0, 1) := by decide +kernel
theorem dX11_init_5 : decode prog_24_method_1_code 5 = .ok (.bipush 12, 2) := by decide +kernel
theorem dX11_init_7 : decode prog_24_method_1_code 7 = .ok (.anewarray 9, 3) := by decide +kernel
theorem dX11_init_10 : decode prog_24_method_1_code 10 = .ok (.putfield 11, 3) := by decide +kernel
theorem dX11_init_13 : decode prog_24_method_1_code 13 = .ok (.aload_n 0, 1) := by decide +kernel
theorem dX11_init_14 : decode prog_24_method_1_code 14 = .ok (.bipush 16, 2) := by decide +kernel
theorem dX11_init_16 : decode prog_24_method_1_code 16 = .ok (.anewarray 17, 3) := by decide +kernel
theorem dX11_init_19 : decode prog_24_method_1_code 19 = .ok (.putfield 19, 3) := by decide +kernel
theorem dX11_init_22 : decode prog_24_method_1_code 22 = .ok (.aload_n 0, 1) := by decide +kernel
theorem dX11_init_23 : decode prog_24_method_1_code 23 = .ok (.aload_n 1, 1) := by decide +kernel
theorem dX11_init_24 : decode prog_24_method_1_code 24 = .ok (.putfield 23, 3) := by decide +kernel
theorem dX11_init_27 : decode prog_24_method_1_code 27 = .ok (.return_, 1) := by decide +kernel
theorem dX11_read_0 : decode prog_24_method_2_code 0 = .ok (.aload_n 0, 1) := by decide +kernel
theorem dX11_read_1 : decode prog_24_method_2_code 1 = .ok (.getfield 23, 3) := by decide +kernel
theorem dX11_read_4 : decode prog_24_method_2_code 4 = .ok (.invokevirtual 27, 3) := by decide +kernel
theorem dX11_read_7 : decode prog_24_method_2_code 7 = .ok (.aload_n 0, 1) := by decide +kernel
theorem dX11_read_8 : decode prog_24_method_2_code 8 = .ok (.getfield 23, 3) := by decide +kernel
theorem dX11_read_11 : decode prog_24_method_2_code 11 = .ok (.ldc 32, 2) := by decide +kernel
theorem dX11_read_13 : decode prog_24_method_2_code 13 = .ok (.invokevirtual 34, 3) := by decide +kernel
theorem dX11_read_16 : decode prog_24_method_2_code 16 = .ok (.ifCond .eq 10, 3) := by decide +kernel
theorem dX11_read_19 : decode prog_24_method_2_code 19 = .ok (.aload_n 0, 1) := by decide +kernel
theorem dX11_read_20 : decode prog_24_method_2_code 20 = .ok (.invokevirtual 38, 3) := by decide +kernel
theorem dX11_read_23 : decode prog_24_method_2_code 23 = .ok (.goto (-16), 3) := by decide +kernel
theorem dX11_read_26 : decode prog_24_method_2_code 26 = .ok (.aload_n 0, 1) := by decide +kernel
theorem dX11_read_27 : decode prog_24_method_2_code 27 = .ok (.getfield 23, 3) := by decide +kernel
theorem dX11_read_30 : decode prog_24_method_2_code 30 = .ok (.getfield 41, 3) := by decide +kernel
theorem dX11_read_33 : decode prog_24_method_2_code 33 = .ok (.ifCond .eq 19, 3) := by decide +kernel
theorem dX11_read_36 : decode prog_24_method_2_code 36 = .ok (.aload_n 0, 1) := by decide +kernel
theorem dX11_read_37 : decode prog_24_method_2_code 37 = .ok (.getfield 23, 3) := by decide +kernel
theorem dX11_read_40 : decode prog_24_method_2_code 40 = .ok (.iconst 2, 1) := by decide +kernel
theorem dX11_read_41 : decode prog_24_method_2_code 41 = .ok (.aload_n 0, 1) := by decide +kernel
theorem dX11_read_42 : decode prog_24_method_2_code 42 = .ok (.getfield 23, 3) := by decide +kernel
theorem dX11_read_45 : decode prog_24_method_2_code 45 = .ok (.getfield 45, 3) := by decide +kernel
theorem dX11_read_48 : decode prog_24_method_2_code 48 = .ok (.invokevirtual 48, 3) := by decide +kernel
theorem dX11_read_51 : decode prog_24_method_2_code 51 = .ok (.athrow, 1) := by decide +kernel
theorem dX11_read_52 : decode prog_24_method_2_code 52 = .ok (.iconst 0, 1) := by decide +kernel
theorem dX11_read_53 : decode prog_24_method_2_code 53 = .ok (.istore_n 1, 1) := by decide +kernel
theorem dX11_read_54 : decode prog_24_method_2_code 54 = .ok (.iload_n 1, 1) := by decide +kernel
theorem dX11_read_55 : decode prog_24_method_2_code 55 = .ok (.aload_n 0, 1) := by decide +kernel
theorem dX11_read_56 : decode prog_24_method_2_code 56 = .ok (.getfield 52, 3) := by decide +kernel
theorem dX11_read_59 : decode prog_24_method_2_code 59 = .ok (.if_icmp .ge 19, 3) := by decide +kernel
theorem dX11_read_62 : decode prog_24_method_2_code 62 = .ok (.aload_n 0, 1) := by decide +kernel
theorem dX11_read_63 : decode prog_24_method_2_code 63 = .ok (.aload_n 0, 1) := by decide +kernel
theorem dX11_read_64 : decode prog_24_method_2_code 64 = .ok (.getfield 19, 3) := by decide +kernel
theorem dX11_read_67 : decode prog_24_method_2_code 67 = .ok (.iload_n 1, 1) := by decide +kernel
theorem dX11_read_68 : decode prog_24_method_2_code 68 = .ok (.aaload, 1) := by decide +kernel
theorem dX11_read_69 : decode prog_24_method_2_code 69 = .ok (.invokevirtual 55, 3) := by decide +kernel
theorem dX11_read_72 : decode prog_24_method_2_code 72 = .ok (.iinc 1 1, 3) := by decide +kernel
theorem dX11_read_75 : decode prog_24_method_2_code 75 = .ok (.goto (-21), 3) := by decide +kernel
theorem dX11_read_78 : decode prog_24_method_2_code 78 = .ok (.return_, 1) := by decide +kernel
theorem dX11_function_0 : decode prog_24_method_8_code 0 = .ok (.aload_n 0, 1) := by decide +kernel
theorem dX11_function_1 : decode prog_24_method_8_code 1 = .ok (.getfield 23, 3) := by decide +kernel
theorem dX11_function_4 : decode prog_24_method_8_code 4 = .ok (.invokevirtual 27, 3) := by decide +kernel
theorem dX11_function_7 : decode prog_24_method_8_code 7 = .ok (.aload_n 0, 1) := by decide +kernel
theorem dX11_function_8 : decode prog_24_method_8_code 8 = .ok (.invokevirtual 96, 3) := by decide +kernel
theorem dX11_function_11 : decode prog_24_method_8_code 11 = .ok (.aload_n 0, 1) := by decide +kernel
theorem dX11_function_12 : decode prog_24_method_8_code 12 = .ok (.getfield 59, 3) := by decide +kernel
theorem dX11_function_15 : decode prog_24_method_8_code 15 = .ok (.bipush 12, 2) := by decide +kernel
theorem dX11_function_17 : decode prog_24_method_8_code 17 = .ok (.if_icmp .ne 19, 3) := by decide +kernel
theorem dX11_function_20 : decode prog_24_method_8_code 20 = .ok (.aload_n 0, 1) := by decide +kernel
theorem dX11_function_21 : decode prog_24_method_8_code 21 = .ok (.getfield 23, 3) := by decide +kernel
theorem dX11_function_24 : decode prog_24_method_8_code 24 = .ok (.iconst 3, 1) := by decide +kernel
theorem dX11_function_25 : decode prog_24_method_8_code 25 = .ok (.aload_n 0, 1) := by decide +kernel
theorem dX11_function_26 : decode prog_24_method_8_code 26 = .ok (.getfield 23, 3) := by decide +kernel
theorem dX11_function_29 : decode prog_24_method_8_code 29 = .ok (.getfield 45, 3) := by decide +kernel
theorem dX11_function_32 : decode prog_24_method_8_code 32 = .ok (.invokevirtual 48, 3) := by decide +kernel
theorem dX11_function_35 : decode prog_24_method_8_code 35 = .ok (.athrow, 1) := by decide +kernel
theorem dX11_function_36 : decode prog_24_method_8_code 36 = .ok (.aload_n 0, 1) := by decide +kernel
theorem dX11_function_37 : decode prog_24_method_8_code 37 = .ok (.new 9, 3) := by decide +kernel
theorem dX11_function_40 : decode prog_24_method_8_code 40 = .ok (.dup, 1) := by decide +kernel
theorem dX11_function_41 : decode prog_24_method_8_code 41 = .ok (.invokespecial 99, 3) := by decide +kernel
theorem dX11_function_44 : decode prog_24_method_8_code 44 = .ok (.putfield 100, 3) := by decide +kernel
theorem dX11_function_47 : decode prog_24_method_8_code 47 = .ok (.aload_n 0, 1) := by decide +kernel
theorem dX11_function_48 : decode prog_24_method_8_code 48 = .ok (.getfield 100, 3) := by decide +kernel
theorem dX11_function_51 : decode prog_24_method_8_code 51 = .ok (.aload_n 0, 1) := by decide +kernel
theorem dX11_function_52 : decode prog_24_method_8_code 52 = .ok (.getfield 23, 3) := by decide +kernel
theorem dX11_function_55 : decode prog_24_method_8_code 55 = .ok (.invokevirtual 103, 3) := by decide +kernel
theorem dX11_function_58 : decode prog_24_method_8_code 58 = .ok (.putfield 62, 3) := by decide +kernel
theorem dX11_function_61 : decode prog_24_method_8_code 61 = .ok (.aload_n 0, 1) := by decide +kernel
theorem dX11_function_62 : decode prog_24_method_8_code 62 = .ok (.getfield 100, 3) := by decide +kernel
theorem dX11_function_65 : decode prog_24_method_8_code 65 = .ok (.aload_n 0, 1) := by decide +kernel
theorem dX11_function_66 : decode prog_24_method_8_code 66 = .ok (.getfield 23, 3) := by decide +kernel
theorem dX11_function_69 : decode prog_24_method_8_code 69 = .ok (.getfield 45, 3) := by decide +kernel
theorem dX11_function_72 : decode prog_24_method_8_code 72 = .ok (.putfield 106, 3) := by decide +kernel
theorem dX11_function_75 : decode prog_24_method_8_code 75 = .ok (.aload_n 0, 1) := by decide +kernel
theorem dX11_function_76 : decode prog_24_method_8_code 76 = .ok (.getfield 100, 3) := by decide +kernel
theorem dX11_function_79 : decode prog_24_method_8_code 79 = .ok (.getfield 62, 3) := by decide +kernel
theorem dX11_function_82 : decode prog_24_method_8_code 82 = .ok (.invokestatic 107, 3) := by decide +kernel
theorem dX11_function_85 : decode prog_24_method_8_code 85 = .ok (.istore_n 1, 1) := by decide +kernel
theorem dX11_function_86 : decode prog_24_method_8_code 86 = .ok (.iconst 0, 1) := by decide +kernel
theorem dX11_function_87 : decode prog_24_method_8_code 87 = .ok (.istore_n 2, 1) := by decide +kernel
theorem dX11_function_88 : decode prog_24_method_8_code 88 = .ok (.iload_n 2, 1) := by decide +kernel
theorem dX11_function_89 : decode prog_24_method_8_code 89 = .ok (.aload_n 0, 1) := by decide +kernel
theorem dX11_function_90 : decode prog_24_method_8_code 90 = .ok (.getfield 59, 3) := by decide +kernel
theorem dX11_function_93 : decode prog_24_method_8_code 93 = .ok (.if_icmp .ge 39, 3) := by decide +kernel
theorem dX11_function_96 : decode prog_24_method_8_code 96 = .ok (.iload_n 1, 1) := by decide +kernel
theorem dX11_function_97 : decode prog_24_method_8_code 97 = .ok (.ifCond .ne 23, 3) := by decide +kernel
theorem dX11_function_100 : decode prog_24_method_8_code 100 = .ok (.aload_n 0, 1) := by decide +kernel
theorem dX11_function_101 : decode prog_24_method_8_code 101 = .ok (.getfield 11, 3) := by decide +kernel
theorem dX11_function_104 : decode prog_24_method_8_code 104 = .ok (.iload_n 2, 1) := by decide +kernel
theorem dX11_function_105 : decode prog_24_method_8_code 105 = .ok (.aaload, 1) := by decide +kernel
theorem dX11_function_106 : decode prog_24_method_8_code 106 = .ok (.getfield 62, 3) := by decide +kernel
theorem dX11_function_109 : decode prog_24_method_8_code 109 = .ok (.aload_n 0, 1) := by decide +kernel
theorem dX11_function_110 : decode prog_24_method_8_code 110 = .ok (.getfield 100, 3) := by decide +kernel
theorem dX11_function_113 : decode prog_24_method_8_code 113 = .ok (.getfield 62, 3) := by decide +kernel
theorem dX11_function_116 : decode prog_24_method_8_code 116 = .ok (.lcmp, 1) := by decide +kernel
theorem dX11_function_117 : decode prog_24_method_8_code 117 = .ok (.ifCond .ne 7, 3) := by decide +kernel
theorem dX11_function_120 : decode prog_24_method_8_code 120 = .ok (.iconst 1, 1) := by decide +kernel
theorem dX11_function_121 : decode prog_24_method_8_code 121 = .ok (.goto 4, 3) := by decide +kernel
theorem dX11_function_124 : decode prog_24_method_8_code 124 = .ok (.iconst 0, 1) := by decide +kernel
theorem dX11_function_125 : decode prog_24_method_8_code 125 = .ok (.istore_n 1, 1) := by decide +kernel
theorem dX11_function_126 : decode prog_24_method_8_code 126 = .ok (.iinc 2 1, 3) := by decide +kernel
theorem dX11_function_129 : decode prog_24_method_8_code 129 = .ok (.goto (-41), 3) := by decide +kernel
theorem dX11_function_132 : decode prog_24_method_8_code 132 = .ok (.iload_n 1, 1) := by decide +kernel
theorem dX11_function_133 : decode prog_24_method_8_code 133 = .ok (.ifCond .eq 19, 3) := by decide +kernel
theorem dX11_function_136 : decode prog_24_method_8_code 136 = .ok (.aload_n 0, 1) := by decide +kernel
theorem dX11_function_137 : decode prog_24_method_8_code 137 = .ok (.getfield 23, 3) := by decide +kernel
theorem dX11_function_140 : decode prog_24_method_8_code 140 = .ok (.iconst 4, 1) := by decide +kernel
theorem dX11_function_141 : decode prog_24_method_8_code 141 = .ok (.aload_n 0, 1) := by decide +kernel
theorem dX11_function_142 : decode prog_24_method_8_code 142 = .ok (.getfield 23, 3) := by decide +kernel
theorem dX11_function_145 : decode prog_24_method_8_code 145 = .ok (.getfield 45, 3) := by decide +kernel
theorem dX11_function_148 : decode prog_24_method_8_code 148 = .ok (.invokevirtual 48, 3) := by decide +kernel
theorem dX11_function_151 : decode prog_24_method_8_code 151 = .ok (.athrow, 1) := by decide +kernel
theorem dX11_function_152 : decode prog_24_method_8_code 152 = .ok (.aload_n 0, 1) := by decide +kernel
theorem dX11_function_153 : decode prog_24_method_8_code 153 = .ok (.getfield 11, 3) := by decide +kernel
theorem dX11_function_156 : decode prog_24_method_8_code 156 = .ok (.aload_n 0, 1) := by decide +kernel
theorem dX11_function_157 : decode prog_24_method_8_code 157 = .ok (.getfield 59, 3) := by decide +kernel
theorem dX11_function_160 : decode prog_24_method_8_code 160 = .ok (.aload_n 0, 1) := by decide +kernel
theorem dX11_function_161 : decode prog_24_method_8_code 161 = .ok (.getfield 100, 3) := by decide +kernel
theorem dX11_function_164 : decode prog_24_method_8_code 164 = .ok (.aastore, 1) := by decide +kernel
theorem dX11_function_165 : decode prog_24_method_8_code 165 = .ok (.aload_n 0, 1) := by decide +kernel
theorem dX11_function_166 : decode prog_24_method_8_code 166 = .ok (.dup, 1) := by decide +kernel
theorem dX11_function_167 : decode prog_24_method_8_code 167 = .ok (.getfield 59, 3) := by decide +kernel
theorem dX11_function_170 : decode prog_24_method_8_code 170 = .ok (.iconst 1, 1) := by decide +kernel
theorem dX11_function_171 : decode prog_24_method_8_code 171 = .ok (.iadd, 1) := by decide +kernel
theorem dX11_function_172 : decode prog_24_method_8_code 172 = .ok (.putfield 59, 3) := by decide +kernel
theorem dX11_function_175 : decode prog_24_method_8_code 175 = .ok (.aload_n 0, 1) := by decide +kernel
theorem dX11_function_176 : decode prog_24_method_8_code 176 = .ok (.getfield 23, 3) := by decide +kernel
theorem dX11_function_179 : decode prog_24_method_8_code 179 = .ok (.invokevirtual 27, 3) := by decide +kernel
theorem dX11_function_182 : decode prog_24_method_8_code 182 = .ok (.aload_n 0, 1) := by decide +kernel
theorem dX11_function_183 : decode prog_24_method_8_code 183 = .ok (.getfield 23, 3) := by decide +kernel
theorem dX11_function_186 : decode prog_24_method_8_code 186 = .ok (.bipush 40, 2) := by decide +kernel
theorem dX11_function_188 : decode prog_24_method_8_code 188 = .ok (.invokevirtual 111, 3) := by decide +kernel
theorem dX11_function_191 : decode prog_24_method_8_code 191 = .ok (.aload_n 0, 1) := by decide +kernel
theorem dX11_function_192 : decode prog_24_method_8_code 192 = .ok (.getfield 23, 3) := by decide +kernel
theorem dX11_function_195 : decode prog_24_method_8_code 195 = .ok (.bipush 41, 2) := by decide +kernel
theorem dX11_function_197 : decode prog_24_method_8_code 197 = .ok (.invokevirtual 115, 3) := by decide +kernel
theorem dX11_function_200 : decode prog_24_method_8_code 200 = .ok (.ifCond .ne 7, 3) := by decide +kernel
theorem dX11_function_203 : decode prog_24_method_8_code 203 = .ok (.iconst 1, 1) := by decide +kernel
theorem dX11_function_204 : decode prog_24_method_8_code 204 = .ok (.goto 4, 3) := by decide +kernel
theorem dX11_function_207 : decode prog_24_method_8_code 207 = .ok (.iconst 0, 1) := by decide +kernel
theorem dX11_function_208 : decode prog_24_method_8_code 208 = .ok (.istore_n 2, 1) := by decide +kernel
theorem dX11_function_209 : decode prog_24_method_8_code 209 = .ok (.iload_n 2, 1) := by decide +kernel
theorem dX11_function_210 : decode prog_24_method_8_code 210 = .ok (.ifCond .eq 31, 3) := by decide +kernel
theorem dX11_function_213 : decode prog_24_method_8_code 213 = .ok (.aload_n 0, 1) := by decide +kernel
theorem dX11_function_214 : decode prog_24_method_8_code 214 = .ok (.invokevirtual 119, 3) := by decide +kernel
theorem dX11_function_217 : decode prog_24_method_8_code 217 = .ok (.aload_n 0, 1) := by decide +kernel
theorem dX11_function_218 : decode prog_24_method_8_code 218 = .ok (.getfield 23, 3) := by decide +kernel
theorem dX11_function_221 : decode prog_24_method_8_code 221 = .ok (.bipush 44, 2) := by decide +kernel
theorem dX11_function_223 : decode prog_24_method_8_code 223 = .ok (.invokevirtual 115, 3) := by decide +kernel
theorem dX11_function_226 : decode prog_24_method_8_code 226 = .ok (.istore_n 2, 1) := by decide +kernel
theorem dX11_function_227 : decode prog_24_method_8_code 227 = .ok (.iload_n 2, 1) := by decide +kernel
theorem dX11_function_228 : decode prog_24_method_8_code 228 = .ok (.ifCond .eq (-19), 3) := by decide +kernel
theorem dX11_function_231 : decode prog_24_method_8_code 231 = .ok (.aload_n 0, 1) := by decide +kernel
theorem dX11_function_232 : decode prog_24_method_8_code 232 = .ok (.getfield 23, 3) := by decide +kernel
theorem dX11_function_235 : decode prog_24_method_8_code 235 = .ok (.invokevirtual 27, 3) := by decide +kernel
theorem dX11_function_238 : decode prog_24_method_8_code 238 = .ok (.goto (-29), 3) := by decide +kernel
theorem dX11_function_241 : decode prog_24_method_8_code 241 = .ok (.aload_n 0, 1) := by decide +kernel
theorem dX11_function_242 : decode prog_24_method_8_code 242 = .ok (.getfield 23, 3) := by decide +kernel
theorem dX11_function_245 : decode prog_24_method_8_code 245 = .ok (.bipush 41, 2) := by decide +kernel
theorem dX11_function_247 : decode prog_24_method_8_code 247 = .ok (.invokevirtual 111, 3) := by decide +kernel
theorem dX11_function_250 : decode prog_24_method_8_code 250 = .ok (.aload_n 0, 1) := by decide +kernel
theorem dX11_function_251 : decode prog_24_method_8_code 251 = .ok (.getfield 100, 3) := by decide +kernel
theorem dX11_function_254 : decode prog_24_method_8_code 254 = .ok (.aload_n 0, 1) := by decide +kernel
theorem dX11_function_255 : decode prog_24_method_8_code 255 = .ok (.invokevirtual 122, 3) := by decide +kernel
theorem dX11_function_258 : decode prog_24_method_8_code 258 = .ok (.putfield 126, 3) := by decide +kernel
theorem dX11_function_261 : decode prog_24_method_8_code 261 = .ok (.return_, 1) := by decide +kernel
theorem dX11_wantName_0 : decode prog_24_method_7_code 0 = .ok (.aload_n 0, 1) := by decide +kernel
theorem dX11_wantName_1 : decode prog_24_method_7_code 1 = .ok (.getfield 23, 3) := by decide +kernel
theorem dX11_wantName_4 : decode prog_24_method_7_code 4 = .ok (.getfield 41, 3) := by decide +kernel
theorem dX11_wantName_7 : decode prog_24_method_7_code 7 = .ok (.iconst 1, 1) := by decide +kernel
theorem dX11_wantName_8 : decode prog_24_method_7_code 8 = .ok (.if_icmp .ne 10, 3) := by decide +kernel
theorem dX11_wantName_11 : decode prog_24_method_7_code 11 = .ok (.aload_n 0, 1) := by decide +kernel
theorem dX11_wantName_12 : decode prog_24_method_7_code 12 = .ok (.invokevirtual 92, 3) := by decide +kernel
theorem dX11_wantName_15 : decode prog_24_method_7_code 15 = .ok (.ifCond .eq 19, 3) := by decide +kernel
theorem dX11_wantName_18 : decode prog_24_method_7_code 18 = .ok (.aload_n 0, 1) := by decide +kernel
theorem dX11_wantName_19 : decode prog_24_method_7_code 19 = .ok (.getfield 23, 3) := by decide +kernel
theorem dX11_wantName_22 : decode prog_24_method_7_code 22 = .ok (.iconst 2, 1) := by decide +kernel
theorem dX11_wantName_23 : decode prog_24_method_7_code 23 = .ok (.aload_n 0, 1) := by decide +kernel
theorem dX11_wantName_24 : decode prog_24_method_7_code 24 = .ok (.getfield 23, 3) := by decide +kernel
theorem dX11_wantName_27 : decode prog_24_method_7_code 27 = .ok (.getfield 45, 3) := by decide +kernel
theorem dX11_wantName_30 : decode prog_24_method_7_code 30 = .ok (.invokevirtual 48, 3) := by decide +kernel
theorem dX11_wantName_33 : decode prog_24_method_7_code 33 = .ok (.athrow, 1) := by decide +kernel
theorem dX11_wantName_34 : decode prog_24_method_7_code 34 = .ok (.return_, 1) := by decide +kernel
theorem dX11_isReserved_0 : decode prog_24_method_5_code 0 = .ok (.iconst 0, 1) := by decide +kernel
theorem dX11_isReserved_1 : decode prog_24_method_5_code 1 = .ok (.istore_n 1, 1) := by decide +kernel
theorem dX11_isReserved_2 : decode prog_24_method_5_code 2 = .ok (.iconst 0, 1) := by decide +kernel
theorem dX11_isReserved_3 : decode prog_24_method_5_code 3 = .ok (.istore_n 2, 1) := by decide +kernel
theorem dX11_isReserved_4 : decode prog_24_method_5_code 4 = .ok (.iload_n 2, 1) := by decide +kernel
theorem dX11_isReserved_5 : decode prog_24_method_5_code 5 = .ok (.getstatic 81, 3) := by decide +kernel
theorem dX11_isReserved_8 : decode prog_24_method_5_code 8 = .ok (.arraylength, 1) := by decide +kernel
theorem dX11_isReserved_9 : decode prog_24_method_5_code 9 = .ok (.if_icmp .ge 34, 3) := by decide +kernel
theorem dX11_isReserved_12 : decode prog_24_method_5_code 12 = .ok (.iload_n 1, 1) := by decide +kernel
theorem dX11_isReserved_13 : decode prog_24_method_5_code 13 = .ok (.ifCond .ne 18, 3) := by decide +kernel
theorem dX11_isReserved_16 : decode prog_24_method_5_code 16 = .ok (.aload_n 0, 1) := by decide +kernel
theorem dX11_isReserved_17 : decode prog_24_method_5_code 17 = .ok (.getfield 23, 3) := by decide +kernel
theorem dX11_isReserved_20 : decode prog_24_method_5_code 20 = .ok (.getstatic 81, 3) := by decide +kernel
theorem dX11_isReserved_23 : decode prog_24_method_5_code 23 = .ok (.iload_n 2, 1) := by decide +kernel
theorem dX11_isReserved_24 : decode prog_24_method_5_code 24 = .ok (.aaload, 1) := by decide +kernel
theorem dX11_isReserved_25 : decode prog_24_method_5_code 25 = .ok (.invokevirtual 34, 3) := by decide +kernel
theorem dX11_isReserved_28 : decode prog_24_method_5_code 28 = .ok (.ifCond .eq 7, 3) := by decide +kernel
theorem dX11_isReserved_31 : decode prog_24_method_5_code 31 = .ok (.iconst 1, 1) := by decide +kernel
theorem dX11_isReserved_32 : decode prog_24_method_5_code 32 = .ok (.goto 4, 3) := by decide +kernel
theorem dX11_isReserved_35 : decode prog_24_method_5_code 35 = .ok (.iconst 0, 1) := by decide +kernel
theorem dX11_isReserved_36 : decode prog_24_method_5_code 36 = .ok (.istore_n 1, 1) := by decide +kernel
theorem dX11_isReserved_37 : decode prog_24_method_5_code 37 = .ok (.iinc 2 1, 3) := by decide +kernel
theorem dX11_isReserved_40 : decode prog_24_method_5_code 40 = .ok (.goto (-36), 3) := by decide +kernel
theorem dX11_isReserved_43 : decode prog_24_method_5_code 43 = .ok (.iload_n 1, 1) := by decide +kernel
theorem dX11_isReserved_44 : decode prog_24_method_5_code 44 = .ok (.ifCond .ne 10, 3) := by decide +kernel
theorem dX11_isReserved_47 : decode prog_24_method_5_code 47 = .ok (.aload_n 0, 1) := by decide +kernel
theorem dX11_isReserved_48 : decode prog_24_method_5_code 48 = .ok (.invokevirtual 85, 3) := by decide +kernel
theorem dX11_isReserved_51 : decode prog_24_method_5_code 51 = .ok (.ifCond .lt 7, 3) := by decide +kernel
theorem dX11_isReserved_54 : decode prog_24_method_5_code 54 = .ok (.iconst 1, 1) := by decide +kernel
theorem dX11_isReserved_55 : decode prog_24_method_5_code 55 = .ok (.goto 4, 3) := by decide +kernel
theorem dX11_isReserved_58 : decode prog_24_method_5_code 58 = .ok (.iconst 0, 1) := by decide +kernel
theorem dX11_isReserved_59 : decode prog_24_method_5_code 59 = .ok (.ireturn, 1) := by decide +kernel
theorem dX11_builtIn_0 : decode prog_24_method_6_code 0 = .ok (.iconst (-1), 1) := by decide +kernel
theorem dX11_builtIn_1 : decode prog_24_method_6_code 1 = .ok (.istore_n 1, 1) := by decide +kernel
theorem dX11_builtIn_2 : decode prog_24_method_6_code 2 = .ok (.iconst 0, 1) := by decide +kernel
theorem dX11_builtIn_3 : decode prog_24_method_6_code 3 = .ok (.istore_n 2, 1) := by decide +kernel
theorem dX11_builtIn_4 : decode prog_24_method_6_code 4 = .ok (.iload_n 2, 1) := by decide +kernel
theorem dX11_builtIn_5 : decode prog_24_method_6_code 5 = .ok (.getstatic 89, 3) := by decide +kernel
theorem dX11_builtIn_8 : decode prog_24_method_6_code 8 = .ok (.arraylength, 1) := by decide +kernel
theorem dX11_builtIn_9 : decode prog_24_method_6_code 9 = .ok (.if_icmp .ge 30, 3) := by decide +kernel
theorem dX11_builtIn_12 : decode prog_24_method_6_code 12 = .ok (.aload_n 0, 1) := by decide +kernel
theorem dX11_builtIn_13 : decode prog_24_method_6_code 13 = .ok (.getfield 23, 3) := by decide +kernel
theorem dX11_builtIn_16 : decode prog_24_method_6_code 16 = .ok (.getstatic 89, 3) := by decide +kernel
theorem dX11_builtIn_19 : decode prog_24_method_6_code 19 = .ok (.iload_n 2, 1) := by decide +kernel
theorem dX11_builtIn_20 : decode prog_24_method_6_code 20 = .ok (.aaload, 1) := by decide +kernel
theorem dX11_builtIn_21 : decode prog_24_method_6_code 21 = .ok (.invokevirtual 34, 3) := by decide +kernel
theorem dX11_builtIn_24 : decode prog_24_method_6_code 24 = .ok (.ifCond .eq 7, 3) := by decide +kernel
theorem dX11_builtIn_27 : decode prog_24_method_6_code 27 = .ok (.iload_n 2, 1) := by decide +kernel
theorem dX11_builtIn_28 : decode prog_24_method_6_code 28 = .ok (.goto 4, 3) := by decide +kernel
theorem dX11_builtIn_31 : decode prog_24_method_6_code 31 = .ok (.iload_n 1, 1) := by decide +kernel
theorem dX11_builtIn_32 : decode prog_24_method_6_code 32 = .ok (.istore_n 1, 1) := by decide +kernel
theorem dX11_builtIn_33 : decode prog_24_method_6_code 33 = .ok (.iinc 2 1, 3) := by decide +kernel
theorem dX11_builtIn_36 : decode prog_24_method_6_code 36 = .ok (.goto (-32), 3) := by decide +kernel
theorem dX11_builtIn_39 : decode prog_24_method_6_code 39 = .ok (.iload_n 1, 1) := by decide +kernel
theorem dX11_builtIn_40 : decode prog_24_method_6_code 40 = .ok (.ireturn, 1) := by decide +kernel
theorem dX11_isShelf_0 : decode prog_24_method_4_code 0 = .ok (.lload_n 0, 1) := by decide +kernel
theorem dX11_isShelf_1 : decode prog_24_method_4_code 1 = .ok (.lconst 1, 1) := by decide +kernel
theorem dX11_isShelf_2 : decode prog_24_method_4_code 2 = .ok (.lcmp, 1) := by decide +kernel
theorem dX11_isShelf_3 : decode prog_24_method_4_code 3 = .ok (.ifCond .lt 15, 3) := by decide +kernel
theorem dX11_isShelf_6 : decode prog_24_method_4_code 6 = .ok (.lload_n 0, 1) := by decide +kernel
theorem dX11_isShelf_7 : decode prog_24_method_4_code 7 = .ok (.ldc2_w 79, 3) := by decide +kernel
theorem dX11_isShelf_10 : decode prog_24_method_4_code 10 = .ok (.lcmp, 1) := by decide +kernel
theorem dX11_isShelf_11 : decode prog_24_method_4_code 11 = .ok (.ifCond .gt 7, 3) := by decide +kernel
theorem dX11_isShelf_14 : decode prog_24_method_4_code 14 = .ok (.iconst 1, 1) := by decide +kernel
theorem dX11_isShelf_15 : decode prog_24_method_4_code 15 = .ok (.goto 4, 3) := by decide +kernel
theorem dX11_isShelf_18 : decode prog_24_method_4_code 18 = .ok (.iconst 0, 1) := by decide +kernel
theorem dX11_isShelf_19 : decode prog_24_method_4_code 19 = .ok (.ireturn, 1) := by decide +kernel
theorem dX11_parameter_0 : decode prog_24_method_9_code 0 = .ok (.aload_n 0, 1) := by decide +kernel
theorem dX11_parameter_1 : decode prog_24_method_9_code 1 = .ok (.invokevirtual 96, 3) := by decide +kernel
theorem dX11_parameter_4 : decode prog_24_method_9_code 4 = .ok (.aload_n 0, 1) := by decide +kernel
theorem dX11_parameter_5 : decode prog_24_method_9_code 5 = .ok (.getfield 100, 3) := by decide +kernel
theorem dX11_parameter_8 : decode prog_24_method_9_code 8 = .ok (.getfield 70, 3) := by decide +kernel
theorem dX11_parameter_11 : decode prog_24_method_9_code 11 = .ok (.iconst 4, 1) := by decide +kernel
theorem dX11_parameter_12 : decode prog_24_method_9_code 12 = .ok (.if_icmp .ne 19, 3) := by decide +kernel
theorem dX11_parameter_15 : decode prog_24_method_9_code 15 = .ok (.aload_n 0, 1) := by decide +kernel
theorem dX11_parameter_16 : decode prog_24_method_9_code 16 = .ok (.getfield 23, 3) := by decide +kernel
theorem dX11_parameter_19 : decode prog_24_method_9_code 19 = .ok (.iconst 3, 1) := by decide +kernel
theorem dX11_parameter_20 : decode prog_24_method_9_code 20 = .ok (.aload_n 0, 1) := by decide +kernel
theorem dX11_parameter_21 : decode prog_24_method_9_code 21 = .ok (.getfield 23, 3) := by decide +kernel
theorem dX11_parameter_24 : decode prog_24_method_9_code 24 = .ok (.getfield 45, 3) := by decide +kernel
theorem dX11_parameter_27 : decode prog_24_method_9_code 27 = .ok (.invokevirtual 48, 3) := by decide +kernel
theorem dX11_parameter_30 : decode prog_24_method_9_code 30 = .ok (.athrow, 1) := by decide +kernel
theorem dX11_parameter_31 : decode prog_24_method_9_code 31 = .ok (.aload_n 0, 1) := by decide +kernel
theorem dX11_parameter_32 : decode prog_24_method_9_code 32 = .ok (.getfield 23, 3) := by decide +kernel
theorem dX11_parameter_35 : decode prog_24_method_9_code 35 = .ok (.invokevirtual 103, 3) := by decide +kernel
theorem dX11_parameter_38 : decode prog_24_method_9_code 38 = .ok (.invokestatic 107, 3) := by decide +kernel
theorem dX11_parameter_41 : decode prog_24_method_9_code 41 = .ok (.istore_n 1, 1) := by decide +kernel
theorem dX11_parameter_42 : decode prog_24_method_9_code 42 = .ok (.iconst 0, 1) := by decide +kernel
theorem dX11_parameter_43 : decode prog_24_method_9_code 43 = .ok (.istore_n 2, 1) := by decide +kernel
theorem dX11_parameter_44 : decode prog_24_method_9_code 44 = .ok (.iload_n 2, 1) := by decide +kernel
theorem dX11_parameter_45 : decode prog_24_method_9_code 45 = .ok (.aload_n 0, 1) := by decide +kernel
theorem dX11_parameter_46 : decode prog_24_method_9_code 46 = .ok (.getfield 100, 3) := by decide +kernel
theorem dX11_parameter_49 : decode prog_24_method_9_code 49 = .ok (.getfield 70, 3) := by decide +kernel
theorem dX11_parameter_52 : decode prog_24_method_9_code 52 = .ok (.if_icmp .ge 39, 3) := by decide +kernel
theorem dX11_parameter_55 : decode prog_24_method_9_code 55 = .ok (.iload_n 1, 1) := by decide +kernel
theorem dX11_parameter_56 : decode prog_24_method_9_code 56 = .ok (.ifCond .ne 23, 3) := by decide +kernel
theorem dX11_parameter_59 : decode prog_24_method_9_code 59 = .ok (.aload_n 0, 1) := by decide +kernel
theorem dX11_parameter_60 : decode prog_24_method_9_code 60 = .ok (.getfield 100, 3) := by decide +kernel
theorem dX11_parameter_63 : decode prog_24_method_9_code 63 = .ok (.getfield 130, 3) := by decide +kernel
theorem dX11_parameter_66 : decode prog_24_method_9_code 66 = .ok (.iload_n 2, 1) := by decide +kernel
theorem dX11_parameter_67 : decode prog_24_method_9_code 67 = .ok (.laload, 1) := by decide +kernel
theorem dX11_parameter_68 : decode prog_24_method_9_code 68 = .ok (.aload_n 0, 1) := by decide +kernel
theorem dX11_parameter_69 : decode prog_24_method_9_code 69 = .ok (.getfield 23, 3) := by decide +kernel
theorem dX11_parameter_72 : decode prog_24_method_9_code 72 = .ok (.invokevirtual 103, 3) := by decide +kernel
theorem dX11_parameter_75 : decode prog_24_method_9_code 75 = .ok (.lcmp, 1) := by decide +kernel
theorem dX11_parameter_76 : decode prog_24_method_9_code 76 = .ok (.ifCond .ne 7, 3) := by decide +kernel
theorem dX11_parameter_79 : decode prog_24_method_9_code 79 = .ok (.iconst 1, 1) := by decide +kernel
theorem dX11_parameter_80 : decode prog_24_method_9_code 80 = .ok (.goto 4, 3) := by decide +kernel
theorem dX11_parameter_83 : decode prog_24_method_9_code 83 = .ok (.iconst 0, 1) := by decide +kernel
theorem dX11_parameter_84 : decode prog_24_method_9_code 84 = .ok (.istore_n 1, 1) := by decide +kernel
theorem dX11_parameter_85 : decode prog_24_method_9_code 85 = .ok (.iinc 2 1, 3) := by decide +kernel
theorem dX11_parameter_88 : decode prog_24_method_9_code 88 = .ok (.goto (-44), 3) := by decide +kernel
theorem dX11_parameter_91 : decode prog_24_method_9_code 91 = .ok (.iload_n 1, 1) := by decide +kernel
theorem dX11_parameter_92 : decode prog_24_method_9_code 92 = .ok (.ifCond .eq 19, 3) := by decide +kernel
theorem dX11_parameter_95 : decode prog_24_method_9_code 95 = .ok (.aload_n 0, 1) := by decide +kernel
theorem dX11_parameter_96 : decode prog_24_method_9_code 96 = .ok (.getfield 23, 3) := by decide +kernel
theorem dX11_parameter_99 : decode prog_24_method_9_code 99 = .ok (.iconst 4, 1) := by decide +kernel
theorem dX11_parameter_100 : decode prog_24_method_9_code 100 = .ok (.aload_n 0, 1) := by decide +kernel
theorem dX11_parameter_101 : decode prog_24_method_9_code 101 = .ok (.getfield 23, 3) := by decide +kernel
theorem dX11_parameter_104 : decode prog_24_method_9_code 104 = .ok (.getfield 45, 3) := by decide +kernel
theorem dX11_parameter_107 : decode prog_24_method_9_code 107 = .ok (.invokevirtual 48, 3) := by decide +kernel
theorem dX11_parameter_110 : decode prog_24_method_9_code 110 = .ok (.athrow, 1) := by decide +kernel
theorem dX11_parameter_111 : decode prog_24_method_9_code 111 = .ok (.aload_n 0, 1) := by decide +kernel
theorem dX11_parameter_112 : decode prog_24_method_9_code 112 = .ok (.getfield 100, 3) := by decide +kernel
theorem dX11_parameter_115 : decode prog_24_method_9_code 115 = .ok (.getfield 130, 3) := by decide +kernel
theorem dX11_parameter_118 : decode prog_24_method_9_code 118 = .ok (.aload_n 0, 1) := by decide +kernel
theorem dX11_parameter_119 : decode prog_24_method_9_code 119 = .ok (.getfield 100, 3) := by decide +kernel
theorem dX11_parameter_122 : decode prog_24_method_9_code 122 = .ok (.getfield 70, 3) := by decide +kernel
theorem dX11_parameter_125 : decode prog_24_method_9_code 125 = .ok (.aload_n 0, 1) := by decide +kernel
theorem dX11_parameter_126 : decode prog_24_method_9_code 126 = .ok (.getfield 23, 3) := by decide +kernel
theorem dX11_parameter_129 : decode prog_24_method_9_code 129 = .ok (.invokevirtual 103, 3) := by decide +kernel
theorem dX11_parameter_132 : decode prog_24_method_9_code 132 = .ok (.lastore, 1) := by decide +kernel
theorem dX11_parameter_133 : decode prog_24_method_9_code 133 = .ok (.aload_n 0, 1) := by decide +kernel
theorem dX11_parameter_134 : decode prog_24_method_9_code 134 = .ok (.getfield 100, 3) := by decide +kernel
theorem dX11_parameter_137 : decode prog_24_method_9_code 137 = .ok (.dup, 1) := by decide +kernel
theorem dX11_parameter_138 : decode prog_24_method_9_code 138 = .ok (.getfield 70, 3) := by decide +kernel
theorem dX11_parameter_141 : decode prog_24_method_9_code 141 = .ok (.iconst 1, 1) := by decide +kernel
theorem dX11_parameter_142 : decode prog_24_method_9_code 142 = .ok (.iadd, 1) := by decide +kernel
theorem dX11_parameter_143 : decode prog_24_method_9_code 143 = .ok (.putfield 70, 3) := by decide +kernel
theorem dX11_parameter_146 : decode prog_24_method_9_code 146 = .ok (.aload_n 0, 1) := by decide +kernel
theorem dX11_parameter_147 : decode prog_24_method_9_code 147 = .ok (.getfield 100, 3) := by decide +kernel
theorem dX11_parameter_150 : decode prog_24_method_9_code 150 = .ok (.dup, 1) := by decide +kernel
theorem dX11_parameter_151 : decode prog_24_method_9_code 151 = .ok (.getfield 134, 3) := by decide +kernel
theorem dX11_parameter_154 : decode prog_24_method_9_code 154 = .ok (.iconst 1, 1) := by decide +kernel
theorem dX11_parameter_155 : decode prog_24_method_9_code 155 = .ok (.iadd, 1) := by decide +kernel
theorem dX11_parameter_156 : decode prog_24_method_9_code 156 = .ok (.putfield 134, 3) := by decide +kernel
theorem dX11_parameter_159 : decode prog_24_method_9_code 159 = .ok (.aload_n 0, 1) := by decide +kernel
theorem dX11_parameter_160 : decode prog_24_method_9_code 160 = .ok (.getfield 23, 3) := by decide +kernel
theorem dX11_parameter_163 : decode prog_24_method_9_code 163 = .ok (.invokevirtual 27, 3) := by decide +kernel
theorem dX11_parameter_166 : decode prog_24_method_9_code 166 = .ok (.return_, 1) := by decide +kernel
theorem dX11_block_0 : decode prog_24_method_12_code 0 = .ok (.new 143, 3) := by decide +kernel
theorem dX11_block_3 : decode prog_24_method_12_code 3 = .ok (.dup, 1) := by decide +kernel
theorem dX11_block_4 : decode prog_24_method_12_code 4 = .ok (.invokespecial 145, 3) := by decide +kernel
theorem dX11_block_7 : decode prog_24_method_12_code 7 = .ok (.astore_n 1, 1) := by decide +kernel
theorem dX11_block_8 : decode prog_24_method_12_code 8 = .ok (.aload_n 0, 1) := by decide +kernel
theorem dX11_block_9 : decode prog_24_method_12_code 9 = .ok (.getfield 23, 3) := by decide +kernel
theorem dX11_block_12 : decode prog_24_method_12_code 12 = .ok (.bipush 123, 2) := by decide +kernel
theorem dX11_block_14 : decode prog_24_method_12_code 14 = .ok (.invokevirtual 111, 3) := by decide +kernel
theorem dX11_block_17 : decode prog_24_method_12_code 17 = .ok (.aload_n 0, 1) := by decide +kernel
theorem dX11_block_18 : decode prog_24_method_12_code 18 = .ok (.getfield 23, 3) := by decide +kernel
theorem dX11_block_21 : decode prog_24_method_12_code 21 = .ok (.bipush 125, 2) := by decide +kernel
theorem dX11_block_23 : decode prog_24_method_12_code 23 = .ok (.invokevirtual 115, 3) := by decide +kernel
theorem dX11_block_26 : decode prog_24_method_12_code 26 = .ok (.ifCond .ne 14, 3) := by decide +kernel
theorem dX11_block_29 : decode prog_24_method_12_code 29 = .ok (.aload_n 1, 1) := by decide +kernel
theorem dX11_block_30 : decode prog_24_method_12_code 30 = .ok (.aload_n 0, 1) := by decide +kernel
theorem dX11_block_31 : decode prog_24_method_12_code 31 = .ok (.invokevirtual 146, 3) := by decide +kernel
theorem dX11_block_34 : decode prog_24_method_12_code 34 = .ok (.invokevirtual 150, 3) := by decide +kernel
theorem dX11_block_37 : decode prog_24_method_12_code 37 = .ok (.goto (-20), 3) := by decide +kernel
theorem dX11_block_40 : decode prog_24_method_12_code 40 = .ok (.aload_n 0, 1) := by decide +kernel
theorem dX11_block_41 : decode prog_24_method_12_code 41 = .ok (.getfield 23, 3) := by decide +kernel
theorem dX11_block_44 : decode prog_24_method_12_code 44 = .ok (.bipush 125, 2) := by decide +kernel
theorem dX11_block_46 : decode prog_24_method_12_code 46 = .ok (.invokevirtual 111, 3) := by decide +kernel
theorem dX11_block_49 : decode prog_24_method_12_code 49 = .ok (.aload_n 1, 1) := by decide +kernel
theorem dX11_block_50 : decode prog_24_method_12_code 50 = .ok (.areturn, 1) := by decide +kernel
theorem dX11_deed_0 : decode prog_24_method_13_code 0 = .ok (.aload_n 0, 1) := by decide +kernel
theorem dX11_deed_1 : decode prog_24_method_13_code 1 = .ok (.getfield 23, 3) := by decide +kernel
theorem dX11_deed_4 : decode prog_24_method_13_code 4 = .ok (.getfield 45, 3) := by decide +kernel
theorem dX11_deed_7 : decode prog_24_method_13_code 7 = .ok (.istore_n 1, 1) := by decide +kernel
theorem dX11_deed_8 : decode prog_24_method_13_code 8 = .ok (.aload_n 0, 1) := by decide +kernel
theorem dX11_deed_9 : decode prog_24_method_13_code 9 = .ok (.getfield 23, 3) := by decide +kernel
theorem dX11_deed_12 : decode prog_24_method_13_code 12 = .ok (.ldc 154, 2) := by decide +kernel
theorem dX11_deed_14 : decode prog_24_method_13_code 14 = .ok (.invokevirtual 34, 3) := by decide +kernel
theorem dX11_deed_17 : decode prog_24_method_13_code 17 = .ok (.ifCond .eq 11, 3) := by decide +kernel
theorem dX11_deed_20 : decode prog_24_method_13_code 20 = .ok (.aload_n 0, 1) := by decide +kernel
theorem dX11_deed_21 : decode prog_24_method_13_code 21 = .ok (.invokevirtual 156, 3) := by decide +kernel
theorem dX11_deed_24 : decode prog_24_method_13_code 24 = .ok (.astore_n 2, 1) := by decide +kernel
theorem dX11_deed_25 : decode prog_24_method_13_code 25 = .ok (.goto 174, 3) := by decide +kernel
theorem dX11_deed_28 : decode prog_24_method_13_code 28 = .ok (.aload_n 0, 1) := by decide +kernel
theorem dX11_deed_29 : decode prog_24_method_13_code 29 = .ok (.getfield 23, 3) := by decide +kernel
theorem dX11_deed_32 : decode prog_24_method_13_code 32 = .ok (.ldc 159, 2) := by decide +kernel
theorem dX11_deed_34 : decode prog_24_method_13_code 34 = .ok (.invokevirtual 34, 3) := by decide +kernel
theorem dX11_deed_37 : decode prog_24_method_13_code 37 = .ok (.ifCond .eq 11, 3) := by decide +kernel
theorem dX11_deed_40 : decode prog_24_method_13_code 40 = .ok (.aload_n 0, 1) := by decide +kernel
theorem dX11_deed_41 : decode prog_24_method_13_code 41 = .ok (.invokevirtual 161, 3) := by decide +kernel
theorem dX11_deed_44 : decode prog_24_method_13_code 44 = .ok (.astore_n 2, 1) := by decide +kernel
theorem dX11_deed_45 : decode prog_24_method_13_code 45 = .ok (.goto 154, 3) := by decide +kernel
theorem dX11_deed_48 : decode prog_24_method_13_code 48 = .ok (.aload_n 0, 1) := by decide +kernel
theorem dX11_deed_49 : decode prog_24_method_13_code 49 = .ok (.getfield 23, 3) := by decide +kernel
theorem dX11_deed_52 : decode prog_24_method_13_code 52 = .ok (.ldc 164, 2) := by decide +kernel
theorem dX11_deed_54 : decode prog_24_method_13_code 54 = .ok (.invokevirtual 34, 3) := by decide +kernel
theorem dX11_deed_57 : decode prog_24_method_13_code 57 = .ok (.ifCond .eq 11, 3) := by decide +kernel
theorem dX11_deed_60 : decode prog_24_method_13_code 60 = .ok (.aload_n 0, 1) := by decide +kernel
theorem dX11_deed_61 : decode prog_24_method_13_code 61 = .ok (.invokevirtual 166, 3) := by decide +kernel
theorem dX11_deed_64 : decode prog_24_method_13_code 64 = .ok (.astore_n 2, 1) := by decide +kernel
theorem dX11_deed_65 : decode prog_24_method_13_code 65 = .ok (.goto 134, 3) := by decide +kernel
theorem dX11_deed_68 : decode prog_24_method_13_code 68 = .ok (.aload_n 0, 1) := by decide +kernel
theorem dX11_deed_69 : decode prog_24_method_13_code 69 = .ok (.getfield 23, 3) := by decide +kernel
theorem dX11_deed_72 : decode prog_24_method_13_code 72 = .ok (.ldc 169, 2) := by decide +kernel
theorem dX11_deed_74 : decode prog_24_method_13_code 74 = .ok (.invokevirtual 34, 3) := by decide +kernel
theorem dX11_deed_77 : decode prog_24_method_13_code 77 = .ok (.ifCond .eq 12, 3) := by decide +kernel
theorem dX11_deed_80 : decode prog_24_method_13_code 80 = .ok (.aload_n 0, 1) := by decide +kernel
theorem dX11_deed_81 : decode prog_24_method_13_code 81 = .ok (.iconst 1, 1) := by decide +kernel
theorem dX11_deed_82 : decode prog_24_method_13_code 82 = .ok (.invokevirtual 171, 3) := by decide +kernel
theorem dX11_deed_85 : decode prog_24_method_13_code 85 = .ok (.astore_n 2, 1) := by decide +kernel
theorem dX11_deed_86 : decode prog_24_method_13_code 86 = .ok (.goto 113, 3) := by decide +kernel
theorem dX11_deed_89 : decode prog_24_method_13_code 89 = .ok (.aload_n 0, 1) := by decide +kernel
theorem dX11_deed_90 : decode prog_24_method_13_code 90 = .ok (.getfield 23, 3) := by decide +kernel
theorem dX11_deed_93 : decode prog_24_method_13_code 93 = .ok (.ldc 175, 2) := by decide +kernel
theorem dX11_deed_95 : decode prog_24_method_13_code 95 = .ok (.invokevirtual 34, 3) := by decide +kernel
theorem dX11_deed_98 : decode prog_24_method_13_code 98 = .ok (.ifCond .eq 12, 3) := by decide +kernel
theorem dX11_deed_101 : decode prog_24_method_13_code 101 = .ok (.aload_n 0, 1) := by decide +kernel
theorem dX11_deed_102 : decode prog_24_method_13_code 102 = .ok (.iconst 2, 1) := by decide +kernel
theorem dX11_deed_103 : decode prog_24_method_13_code 103 = .ok (.invokevirtual 171, 3) := by decide +kernel
theorem dX11_deed_106 : decode prog_24_method_13_code 106 = .ok (.astore_n 2, 1) := by decide +kernel
theorem dX11_deed_107 : decode prog_24_method_13_code 107 = .ok (.goto 92, 3) := by decide +kernel
theorem dX11_deed_110 : decode prog_24_method_13_code 110 = .ok (.aload_n 0, 1) := by decide +kernel
theorem dX11_deed_111 : decode prog_24_method_13_code 111 = .ok (.getfield 23, 3) := by decide +kernel
theorem dX11_deed_114 : decode prog_24_method_13_code 114 = .ok (.ldc 177, 2) := by decide +kernel
theorem dX11_deed_116 : decode prog_24_method_13_code 116 = .ok (.invokevirtual 34, 3) := by decide +kernel
theorem dX11_deed_119 : decode prog_24_method_13_code 119 = .ok (.ifCond .eq 12, 3) := by decide +kernel
theorem dX11_deed_122 : decode prog_24_method_13_code 122 = .ok (.aload_n 0, 1) := by decide +kernel
theorem dX11_deed_123 : decode prog_24_method_13_code 123 = .ok (.iconst 3, 1) := by decide +kernel
theorem dX11_deed_124 : decode prog_24_method_13_code 124 = .ok (.invokevirtual 171, 3) := by decide +kernel
theorem dX11_deed_127 : decode prog_24_method_13_code 127 = .ok (.astore_n 2, 1) := by decide +kernel
theorem dX11_deed_128 : decode prog_24_method_13_code 128 = .ok (.goto 71, 3) := by decide +kernel
theorem dX11_deed_131 : decode prog_24_method_13_code 131 = .ok (.aload_n 0, 1) := by decide +kernel
theorem dX11_deed_132 : decode prog_24_method_13_code 132 = .ok (.getfield 23, 3) := by decide +kernel
theorem dX11_deed_135 : decode prog_24_method_13_code 135 = .ok (.ldc 179, 2) := by decide +kernel
theorem dX11_deed_137 : decode prog_24_method_13_code 137 = .ok (.invokevirtual 34, 3) := by decide +kernel
theorem dX11_deed_140 : decode prog_24_method_13_code 140 = .ok (.ifCond .eq 11, 3) := by decide +kernel
theorem dX11_deed_143 : decode prog_24_method_13_code 143 = .ok (.aload_n 0, 1) := by decide +kernel
theorem dX11_deed_144 : decode prog_24_method_13_code 144 = .ok (.invokevirtual 181, 3) := by decide +kernel
theorem dX11_deed_147 : decode prog_24_method_13_code 147 = .ok (.astore_n 2, 1) := by decide +kernel
theorem dX11_deed_148 : decode prog_24_method_13_code 148 = .ok (.goto 51, 3) := by decide +kernel
theorem dX11_deed_151 : decode prog_24_method_13_code 151 = .ok (.aload_n 0, 1) := by decide +kernel
theorem dX11_deed_152 : decode prog_24_method_13_code 152 = .ok (.getfield 23, 3) := by decide +kernel
theorem dX11_deed_155 : decode prog_24_method_13_code 155 = .ok (.getfield 41, 3) := by decide +kernel
theorem dX11_deed_158 : decode prog_24_method_13_code 158 = .ok (.iconst 1, 1) := by decide +kernel
theorem dX11_deed_159 : decode prog_24_method_13_code 159 = .ok (.if_icmp .ne 35, 3) := by decide +kernel
theorem dX11_deed_162 : decode prog_24_method_13_code 162 = .ok (.aload_n 0, 1) := by decide +kernel
theorem dX11_deed_163 : decode prog_24_method_13_code 163 = .ok (.invokevirtual 85, 3) := by decide +kernel
theorem dX11_deed_166 : decode prog_24_method_13_code 166 = .ok (.ifCond .ge 20, 3) := by decide +kernel
theorem dX11_deed_169 : decode prog_24_method_13_code 169 = .ok (.aload_n 0, 1) := by decide +kernel
theorem dX11_deed_170 : decode prog_24_method_13_code 170 = .ok (.invokevirtual 92, 3) := by decide +kernel
theorem dX11_deed_173 : decode prog_24_method_13_code 173 = .ok (.ifCond .ne 21, 3) := by decide +kernel
theorem dX11_deed_176 : decode prog_24_method_13_code 176 = .ok (.aload_n 0, 1) := by decide +kernel
theorem dX11_deed_177 : decode prog_24_method_13_code 177 = .ok (.getfield 23, 3) := by decide +kernel
theorem dX11_deed_180 : decode prog_24_method_13_code 180 = .ok (.invokevirtual 184, 3) := by decide +kernel
theorem dX11_deed_183 : decode prog_24_method_13_code 183 = .ok (.ifCond .eq 11, 3) := by decide +kernel
theorem dX11_deed_186 : decode prog_24_method_13_code 186 = .ok (.aload_n 0, 1) := by decide +kernel
theorem dX11_deed_187 : decode prog_24_method_13_code 187 = .ok (.invokevirtual 187, 3) := by decide +kernel
theorem dX11_deed_190 : decode prog_24_method_13_code 190 = .ok (.astore_n 2, 1) := by decide +kernel
theorem dX11_deed_191 : decode prog_24_method_13_code 191 = .ok (.goto 8, 3) := by decide +kernel
theorem dX11_deed_194 : decode prog_24_method_13_code 194 = .ok (.aload_n 0, 1) := by decide +kernel
theorem dX11_deed_195 : decode prog_24_method_13_code 195 = .ok (.invokevirtual 190, 3) := by decide +kernel
theorem dX11_deed_198 : decode prog_24_method_13_code 198 = .ok (.astore_n 2, 1) := by decide +kernel
theorem dX11_deed_199 : decode prog_24_method_13_code 199 = .ok (.aload_n 2, 1) := by decide +kernel
theorem dX11_deed_200 : decode prog_24_method_13_code 200 = .ok (.iload_n 1, 1) := by decide +kernel
theorem dX11_deed_201 : decode prog_24_method_13_code 201 = .ok (.putfield 193, 3) := by decide +kernel
theorem dX11_deed_204 : decode prog_24_method_13_code 204 = .ok (.aload_n 2, 1) := by decide +kernel
theorem dX11_deed_205 : decode prog_24_method_13_code 205 = .ok (.areturn, 1) := by decide +kernel
theorem dX11_choice_0 : decode prog_24_method_16_code 0 = .ok (.new 211, 3) := by decide +kernel
theorem dX11_choice_3 : decode prog_24_method_16_code 3 = .ok (.dup, 1) := by decide +kernel
theorem dX11_choice_4 : decode prog_24_method_16_code 4 = .ok (.invokespecial 213, 3) := by decide +kernel
theorem dX11_choice_7 : decode prog_24_method_16_code 7 = .ok (.astore_n 1, 1) := by decide +kernel
theorem dX11_choice_8 : decode prog_24_method_16_code 8 = .ok (.aload_n 0, 1) := by decide +kernel
theorem dX11_choice_9 : decode prog_24_method_16_code 9 = .ok (.getfield 23, 3) := by decide +kernel
theorem dX11_choice_12 : decode prog_24_method_16_code 12 = .ok (.invokevirtual 27, 3) := by decide +kernel
theorem dX11_choice_15 : decode prog_24_method_16_code 15 = .ok (.aload_n 0, 1) := by decide +kernel
theorem dX11_choice_16 : decode prog_24_method_16_code 16 = .ok (.getfield 23, 3) := by decide +kernel
theorem dX11_choice_19 : decode prog_24_method_16_code 19 = .ok (.bipush 40, 2) := by decide +kernel
theorem dX11_choice_21 : decode prog_24_method_16_code 21 = .ok (.invokevirtual 111, 3) := by decide +kernel
theorem dX11_choice_24 : decode prog_24_method_16_code 24 = .ok (.aload_n 1, 1) := by decide +kernel
theorem dX11_choice_25 : decode prog_24_method_16_code 25 = .ok (.aload_n 0, 1) := by decide +kernel
theorem dX11_choice_26 : decode prog_24_method_16_code 26 = .ok (.invokevirtual 208, 3) := by decide +kernel
theorem dX11_choice_29 : decode prog_24_method_16_code 29 = .ok (.putfield 214, 3) := by decide +kernel
theorem dX11_choice_32 : decode prog_24_method_16_code 32 = .ok (.aload_n 0, 1) := by decide +kernel
theorem dX11_choice_33 : decode prog_24_method_16_code 33 = .ok (.getfield 23, 3) := by decide +kernel
theorem dX11_choice_36 : decode prog_24_method_16_code 36 = .ok (.bipush 41, 2) := by decide +kernel
theorem dX11_choice_38 : decode prog_24_method_16_code 38 = .ok (.invokevirtual 111, 3) := by decide +kernel
theorem dX11_choice_41 : decode prog_24_method_16_code 41 = .ok (.aload_n 1, 1) := by decide +kernel
theorem dX11_choice_42 : decode prog_24_method_16_code 42 = .ok (.aload_n 0, 1) := by decide +kernel
theorem dX11_choice_43 : decode prog_24_method_16_code 43 = .ok (.invokevirtual 122, 3) := by decide +kernel
theorem dX11_choice_46 : decode prog_24_method_16_code 46 = .ok (.putfield 217, 3) := by decide +kernel
theorem dX11_choice_49 : decode prog_24_method_16_code 49 = .ok (.aload_n 0, 1) := by decide +kernel
theorem dX11_choice_50 : decode prog_24_method_16_code 50 = .ok (.getfield 23, 3) := by decide +kernel
theorem dX11_choice_53 : decode prog_24_method_16_code 53 = .ok (.ldc 220, 2) := by decide +kernel
theorem dX11_choice_55 : decode prog_24_method_16_code 55 = .ok (.invokevirtual 34, 3) := by decide +kernel
theorem dX11_choice_58 : decode prog_24_method_16_code 58 = .ok (.ifCond .ne 5, 3) := by decide +kernel
theorem dX11_choice_61 : decode prog_24_method_16_code 61 = .ok (.aload_n 1, 1) := by decide +kernel
theorem dX11_choice_62 : decode prog_24_method_16_code 62 = .ok (.areturn, 1) := by decide +kernel
theorem dX11_choice_63 : decode prog_24_method_16_code 63 = .ok (.aload_n 0, 1) := by decide +kernel
theorem dX11_choice_64 : decode prog_24_method_16_code 64 = .ok (.getfield 23, 3) := by decide +kernel
theorem dX11_choice_67 : decode prog_24_method_16_code 67 = .ok (.invokevirtual 27, 3) := by decide +kernel
theorem dX11_choice_70 : decode prog_24_method_16_code 70 = .ok (.aload_n 1, 1) := by decide +kernel
theorem dX11_choice_71 : decode prog_24_method_16_code 71 = .ok (.aload_n 0, 1) := by decide +kernel
theorem dX11_choice_72 : decode prog_24_method_16_code 72 = .ok (.invokevirtual 122, 3) := by decide +kernel
theorem dX11_choice_75 : decode prog_24_method_16_code 75 = .ok (.putfield 222, 3) := by decide +kernel
theorem dX11_choice_78 : decode prog_24_method_16_code 78 = .ok (.aload_n 1, 1) := by decide +kernel
theorem dX11_choice_79 : decode prog_24_method_16_code 79 = .ok (.areturn, 1) := by decide +kernel
theorem dX11_expression_0 : decode prog_24_method_22_code 0 = .ok (.aload_n 0, 1) := by decide +kernel
theorem dX11_expression_1 : decode prog_24_method_22_code 1 = .ok (.iconst 0, 1) := by decide +kernel
theorem dX11_expression_2 : decode prog_24_method_22_code 2 = .ok (.invokevirtual 279, 3) := by decide +kernel
theorem dX11_expression_5 : decode prog_24_method_22_code 5 = .ok (.areturn, 1) := by decide +kernel
theorem dX11_level_0 : decode prog_24_method_23_code 0 = .ok (.iload_n 1, 1) := by decide +kernel
theorem dX11_level_1 : decode prog_24_method_23_code 1 = .ok (.iconst 4, 1) := by decide +kernel
theorem dX11_level_2 : decode prog_24_method_23_code 2 = .ok (.if_icmp .ne 8, 3) := by decide +kernel
theorem dX11_level_5 : decode prog_24_method_23_code 5 = .ok (.aload_n 0, 1) := by decide +kernel
theorem dX11_level_6 : decode prog_24_method_23_code 6 = .ok (.invokevirtual 283, 3) := by decide +kernel
theorem dX11_level_9 : decode prog_24_method_23_code 9 = .ok (.areturn, 1) := by decide +kernel
theorem dX11_level_10 : decode prog_24_method_23_code 10 = .ok (.aload_n 0, 1) := by decide +kernel
theorem dX11_level_11 : decode prog_24_method_23_code 11 = .ok (.iload_n 1, 1) := by decide +kernel
theorem dX11_level_12 : decode prog_24_method_23_code 12 = .ok (.iconst 1, 1) := by decide +kernel
theorem dX11_level_13 : decode prog_24_method_23_code 13 = .ok (.iadd, 1) := by decide +kernel
theorem dX11_level_14 : decode prog_24_method_23_code 14 = .ok (.invokevirtual 279, 3) := by decide +kernel
theorem dX11_level_17 : decode prog_24_method_23_code 17 = .ok (.astore_n 2, 1) := by decide +kernel
theorem dX11_level_18 : decode prog_24_method_23_code 18 = .ok (.aload_n 0, 1) := by decide +kernel
theorem dX11_level_19 : decode prog_24_method_23_code 19 = .ok (.iload_n 1, 1) := by decide +kernel
theorem dX11_level_20 : decode prog_24_method_23_code 20 = .ok (.invokevirtual 286, 3) := by decide +kernel
theorem dX11_level_23 : decode prog_24_method_23_code 23 = .ok (.ifCond .ne 5, 3) := by decide +kernel
theorem dX11_level_26 : decode prog_24_method_23_code 26 = .ok (.aload_n 2, 1) := by decide +kernel
theorem dX11_level_27 : decode prog_24_method_23_code 27 = .ok (.areturn, 1) := by decide +kernel
theorem dX11_level_28 : decode prog_24_method_23_code 28 = .ok (.new 289, 3) := by decide +kernel
theorem dX11_level_31 : decode prog_24_method_23_code 31 = .ok (.dup, 1) := by decide +kernel
theorem dX11_level_32 : decode prog_24_method_23_code 32 = .ok (.invokespecial 291, 3) := by decide +kernel
theorem dX11_level_35 : decode prog_24_method_23_code 35 = .ok (.astore_n 3, 1) := by decide +kernel
theorem dX11_level_36 : decode prog_24_method_23_code 36 = .ok (.aload_n 3, 1) := by decide +kernel
theorem dX11_level_37 : decode prog_24_method_23_code 37 = .ok (.getfield 292, 3) := by decide +kernel
theorem dX11_level_40 : decode prog_24_method_23_code 40 = .ok (.aload_n 2, 1) := by decide +kernel
theorem dX11_level_41 : decode prog_24_method_23_code 41 = .ok (.iconst 0, 1) := by decide +kernel
theorem dX11_level_42 : decode prog_24_method_23_code 42 = .ok (.iconst 0, 1) := by decide +kernel
theorem dX11_level_43 : decode prog_24_method_23_code 43 = .ok (.invokevirtual 296, 3) := by decide +kernel
theorem dX11_level_46 : decode prog_24_method_23_code 46 = .ok (.iconst 1, 1) := by decide +kernel
theorem dX11_level_47 : decode prog_24_method_23_code 47 = .ok (.istore 4, 2) := by decide +kernel
theorem dX11_level_49 : decode prog_24_method_23_code 49 = .ok (.iload 4, 2) := by decide +kernel
theorem dX11_level_51 : decode prog_24_method_23_code 51 = .ok (.ifCond .eq 69, 3) := by decide +kernel
theorem dX11_level_54 : decode prog_24_method_23_code 54 = .ok (.aload_n 0, 1) := by decide +kernel
theorem dX11_level_55 : decode prog_24_method_23_code 55 = .ok (.getfield 23, 3) := by decide +kernel
theorem dX11_level_58 : decode prog_24_method_23_code 58 = .ok (.getfield 276, 3) := by decide +kernel
theorem dX11_level_61 : decode prog_24_method_23_code 61 = .ok (.istore 5, 2) := by decide +kernel
theorem dX11_level_63 : decode prog_24_method_23_code 63 = .ok (.aload_n 0, 1) := by decide +kernel
theorem dX11_level_64 : decode prog_24_method_23_code 64 = .ok (.getfield 23, 3) := by decide +kernel
theorem dX11_level_67 : decode prog_24_method_23_code 67 = .ok (.getfield 45, 3) := by decide +kernel
theorem dX11_level_70 : decode prog_24_method_23_code 70 = .ok (.istore 6, 2) := by decide +kernel
theorem dX11_level_72 : decode prog_24_method_23_code 72 = .ok (.aload_n 0, 1) := by decide +kernel
theorem dX11_level_73 : decode prog_24_method_23_code 73 = .ok (.getfield 23, 3) := by decide +kernel
theorem dX11_level_76 : decode prog_24_method_23_code 76 = .ok (.invokevirtual 27, 3) := by decide +kernel
theorem dX11_level_79 : decode prog_24_method_23_code 79 = .ok (.aload_n 3, 1) := by decide +kernel
theorem dX11_level_80 : decode prog_24_method_23_code 80 = .ok (.getfield 292, 3) := by decide +kernel
theorem dX11_level_83 : decode prog_24_method_23_code 83 = .ok (.aload_n 0, 1) := by decide +kernel
theorem dX11_level_84 : decode prog_24_method_23_code 84 = .ok (.iload_n 1, 1) := by decide +kernel
theorem dX11_level_85 : decode prog_24_method_23_code 85 = .ok (.iconst 1, 1) := by decide +kernel
theorem dX11_level_86 : decode prog_24_method_23_code 86 = .ok (.iadd, 1) := by decide +kernel
theorem dX11_level_87 : decode prog_24_method_23_code 87 = .ok (.invokevirtual 279, 3) := by decide +kernel
theorem dX11_level_90 : decode prog_24_method_23_code 90 = .ok (.iload 5, 2) := by decide +kernel
theorem dX11_level_92 : decode prog_24_method_23_code 92 = .ok (.iload 6, 2) := by decide +kernel
theorem dX11_level_94 : decode prog_24_method_23_code 94 = .ok (.invokevirtual 296, 3) := by decide +kernel
theorem dX11_level_97 : decode prog_24_method_23_code 97 = .ok (.iload_n 1, 1) := by decide +kernel
theorem dX11_level_98 : decode prog_24_method_23_code 98 = .ok (.iconst 1, 1) := by decide +kernel
theorem dX11_level_99 : decode prog_24_method_23_code 99 = .ok (.if_icmp .eq 15, 3) := by decide +kernel
theorem dX11_level_102 : decode prog_24_method_23_code 102 = .ok (.aload_n 0, 1) := by decide +kernel
theorem dX11_level_103 : decode prog_24_method_23_code 103 = .ok (.iload_n 1, 1) := by decide +kernel
theorem dX11_level_104 : decode prog_24_method_23_code 104 = .ok (.invokevirtual 286, 3) := by decide +kernel
theorem dX11_level_107 : decode prog_24_method_23_code 107 = .ok (.ifCond .eq 7, 3) := by decide +kernel
theorem dX11_level_110 : decode prog_24_method_23_code 110 = .ok (.iconst 1, 1) := by decide +kernel
theorem dX11_level_111 : decode prog_24_method_23_code 111 = .ok (.goto 4, 3) := by decide +kernel
theorem dX11_level_114 : decode prog_24_method_23_code 114 = .ok (.iconst 0, 1) := by decide +kernel
theorem dX11_level_115 : decode prog_24_method_23_code 115 = .ok (.istore 4, 2) := by decide +kernel
theorem dX11_level_117 : decode prog_24_method_23_code 117 = .ok (.goto (-68), 3) := by decide +kernel
theorem dX11_level_120 : decode prog_24_method_23_code 120 = .ok (.aload_n 3, 1) := by decide +kernel
theorem dX11_level_121 : decode prog_24_method_23_code 121 = .ok (.areturn, 1) := by decide +kernel
theorem dX11_prefix_0 : decode prog_24_method_24_code 0 = .ok (.aload_n 0, 1) := by decide +kernel
theorem dX11_prefix_1 : decode prog_24_method_24_code 1 = .ok (.getfield 23, 3) := by decide +kernel
theorem dX11_prefix_4 : decode prog_24_method_24_code 4 = .ok (.bipush 45, 2) := by decide +kernel
theorem dX11_prefix_6 : decode prog_24_method_24_code 6 = .ok (.invokevirtual 115, 3) := by decide +kernel
theorem dX11_prefix_9 : decode prog_24_method_24_code 9 = .ok (.ifCond .ne 20, 3) := by decide +kernel
theorem dX11_prefix_12 : decode prog_24_method_24_code 12 = .ok (.aload_n 0, 1) := by decide +kernel
theorem dX11_prefix_13 : decode prog_24_method_24_code 13 = .ok (.getfield 23, 3) := by decide +kernel
theorem dX11_prefix_16 : decode prog_24_method_24_code 16 = .ok (.bipush 33, 2) := by decide +kernel
theorem dX11_prefix_18 : decode prog_24_method_24_code 18 = .ok (.invokevirtual 115, 3) := by decide +kernel
theorem dX11_prefix_21 : decode prog_24_method_24_code 21 = .ok (.ifCond .ne 8, 3) := by decide +kernel
theorem dX11_prefix_24 : decode prog_24_method_24_code 24 = .ok (.aload_n 0, 1) := by decide +kernel
theorem dX11_prefix_25 : decode prog_24_method_24_code 25 = .ok (.invokevirtual 301, 3) := by decide +kernel
theorem dX11_prefix_28 : decode prog_24_method_24_code 28 = .ok (.areturn, 1) := by decide +kernel
theorem dX11_prefix_29 : decode prog_24_method_24_code 29 = .ok (.aload_n 0, 1) := by decide +kernel
theorem dX11_prefix_30 : decode prog_24_method_24_code 30 = .ok (.getfield 23, 3) := by decide +kernel
theorem dX11_prefix_33 : decode prog_24_method_24_code 33 = .ok (.getfield 45, 3) := by decide +kernel
theorem dX11_prefix_36 : decode prog_24_method_24_code 36 = .ok (.istore_n 1, 1) := by decide +kernel
theorem dX11_prefix_37 : decode prog_24_method_24_code 37 = .ok (.aload_n 0, 1) := by decide +kernel
theorem dX11_prefix_38 : decode prog_24_method_24_code 38 = .ok (.getfield 23, 3) := by decide +kernel
theorem dX11_prefix_41 : decode prog_24_method_24_code 41 = .ok (.bipush 33, 2) := by decide +kernel
theorem dX11_prefix_43 : decode prog_24_method_24_code 43 = .ok (.invokevirtual 115, 3) := by decide +kernel
theorem dX11_prefix_46 : decode prog_24_method_24_code 46 = .ok (.istore_n 2, 1) := by decide +kernel
theorem dX11_prefix_47 : decode prog_24_method_24_code 47 = .ok (.aload_n 0, 1) := by decide +kernel
theorem dX11_prefix_48 : decode prog_24_method_24_code 48 = .ok (.getfield 23, 3) := by decide +kernel
theorem dX11_prefix_51 : decode prog_24_method_24_code 51 = .ok (.invokevirtual 27, 3) := by decide +kernel
theorem dX11_prefix_54 : decode prog_24_method_24_code 54 = .ok (.new 304, 3) := by decide +kernel
theorem dX11_prefix_57 : decode prog_24_method_24_code 57 = .ok (.dup, 1) := by decide +kernel
theorem dX11_prefix_58 : decode prog_24_method_24_code 58 = .ok (.aload_n 0, 1) := by decide +kernel
theorem dX11_prefix_59 : decode prog_24_method_24_code 59 = .ok (.invokevirtual 301, 3) := by decide +kernel
theorem dX11_prefix_62 : decode prog_24_method_24_code 62 = .ok (.iload_n 2, 1) := by decide +kernel
theorem dX11_prefix_63 : decode prog_24_method_24_code 63 = .ok (.invokespecial 306, 3) := by decide +kernel
theorem dX11_prefix_66 : decode prog_24_method_24_code 66 = .ok (.astore_n 3, 1) := by decide +kernel
theorem dX11_prefix_67 : decode prog_24_method_24_code 67 = .ok (.aload_n 3, 1) := by decide +kernel
theorem dX11_prefix_68 : decode prog_24_method_24_code 68 = .ok (.iload_n 1, 1) := by decide +kernel
theorem dX11_prefix_69 : decode prog_24_method_24_code 69 = .ok (.putfield 309, 3) := by decide +kernel
theorem dX11_prefix_72 : decode prog_24_method_24_code 72 = .ok (.aload_n 3, 1) := by decide +kernel
theorem dX11_prefix_73 : decode prog_24_method_24_code 73 = .ok (.areturn, 1) := by decide +kernel
theorem dX11_places_0 : decode prog_24_method_25_code 0 = .ok (.aload_n 0, 1) := by decide +kernel
theorem dX11_places_1 : decode prog_24_method_25_code 1 = .ok (.invokevirtual 310, 3) := by decide +kernel
theorem dX11_places_4 : decode prog_24_method_25_code 4 = .ok (.astore_n 1, 1) := by decide +kernel
theorem dX11_places_5 : decode prog_24_method_25_code 5 = .ok (.aload_n 0, 1) := by decide +kernel
theorem dX11_places_6 : decode prog_24_method_25_code 6 = .ok (.getfield 23, 3) := by decide +kernel
theorem dX11_places_9 : decode prog_24_method_25_code 9 = .ok (.bipush 91, 2) := by decide +kernel
theorem dX11_places_11 : decode prog_24_method_25_code 11 = .ok (.invokevirtual 115, 3) := by decide +kernel
theorem dX11_places_14 : decode prog_24_method_25_code 14 = .ok (.ifCond .ne 5, 3) := by decide +kernel
theorem dX11_places_17 : decode prog_24_method_25_code 17 = .ok (.aload_n 1, 1) := by decide +kernel
theorem dX11_places_18 : decode prog_24_method_25_code 18 = .ok (.areturn, 1) := by decide +kernel
theorem dX11_places_19 : decode prog_24_method_25_code 19 = .ok (.new 313, 3) := by decide +kernel
theorem dX11_places_22 : decode prog_24_method_25_code 22 = .ok (.dup, 1) := by decide +kernel
theorem dX11_places_23 : decode prog_24_method_25_code 23 = .ok (.invokespecial 315, 3) := by decide +kernel
theorem dX11_places_26 : decode prog_24_method_25_code 26 = .ok (.astore_n 2, 1) := by decide +kernel
theorem dX11_places_27 : decode prog_24_method_25_code 27 = .ok (.aload_n 2, 1) := by decide +kernel
theorem dX11_places_28 : decode prog_24_method_25_code 28 = .ok (.getfield 316, 3) := by decide +kernel
theorem dX11_places_31 : decode prog_24_method_25_code 31 = .ok (.aload_n 1, 1) := by decide +kernel
theorem dX11_places_32 : decode prog_24_method_25_code 32 = .ok (.iconst 0, 1) := by decide +kernel
theorem dX11_places_33 : decode prog_24_method_25_code 33 = .ok (.iconst 0, 1) := by decide +kernel
theorem dX11_places_34 : decode prog_24_method_25_code 34 = .ok (.invokevirtual 296, 3) := by decide +kernel
theorem dX11_places_37 : decode prog_24_method_25_code 37 = .ok (.aload_n 0, 1) := by decide +kernel
theorem dX11_places_38 : decode prog_24_method_25_code 38 = .ok (.getfield 23, 3) := by decide +kernel
theorem dX11_places_41 : decode prog_24_method_25_code 41 = .ok (.bipush 91, 2) := by decide +kernel
theorem dX11_places_43 : decode prog_24_method_25_code 43 = .ok (.invokevirtual 115, 3) := by decide +kernel
theorem dX11_places_46 : decode prog_24_method_25_code 46 = .ok (.ifCond .eq 45, 3) := by decide +kernel
theorem dX11_places_49 : decode prog_24_method_25_code 49 = .ok (.aload_n 0, 1) := by decide +kernel
theorem dX11_places_50 : decode prog_24_method_25_code 50 = .ok (.getfield 23, 3) := by decide +kernel
theorem dX11_places_53 : decode prog_24_method_25_code 53 = .ok (.getfield 45, 3) := by decide +kernel
theorem dX11_places_56 : decode prog_24_method_25_code 56 = .ok (.istore_n 3, 1) := by decide +kernel
theorem dX11_places_57 : decode prog_24_method_25_code 57 = .ok (.aload_n 0, 1) := by decide +kernel
theorem dX11_places_58 : decode prog_24_method_25_code 58 = .ok (.getfield 23, 3) := by decide +kernel
theorem dX11_places_61 : decode prog_24_method_25_code 61 = .ok (.bipush 91, 2) := by decide +kernel
theorem dX11_places_63 : decode prog_24_method_25_code 63 = .ok (.invokevirtual 111, 3) := by decide +kernel
theorem dX11_places_66 : decode prog_24_method_25_code 66 = .ok (.aload_n 2, 1) := by decide +kernel
theorem dX11_places_67 : decode prog_24_method_25_code 67 = .ok (.getfield 316, 3) := by decide +kernel
theorem dX11_places_70 : decode prog_24_method_25_code 70 = .ok (.aload_n 0, 1) := by decide +kernel
theorem dX11_places_71 : decode prog_24_method_25_code 71 = .ok (.invokevirtual 208, 3) := by decide +kernel
theorem dX11_places_74 : decode prog_24_method_25_code 74 = .ok (.iconst 0, 1) := by decide +kernel
theorem dX11_places_75 : decode prog_24_method_25_code 75 = .ok (.iload_n 3, 1) := by decide +kernel
theorem dX11_places_76 : decode prog_24_method_25_code 76 = .ok (.invokevirtual 296, 3) := by decide +kernel
theorem dX11_places_79 : decode prog_24_method_25_code 79 = .ok (.aload_n 0, 1) := by decide +kernel
theorem dX11_places_80 : decode prog_24_method_25_code 80 = .ok (.getfield 23, 3) := by decide +kernel
theorem dX11_places_83 : decode prog_24_method_25_code 83 = .ok (.bipush 93, 2) := by decide +kernel
theorem dX11_places_85 : decode prog_24_method_25_code 85 = .ok (.invokevirtual 111, 3) := by decide +kernel
theorem dX11_places_88 : decode prog_24_method_25_code 88 = .ok (.goto (-51), 3) := by decide +kernel
theorem dX11_places_91 : decode prog_24_method_25_code 91 = .ok (.aload_n 2, 1) := by decide +kernel
theorem dX11_places_92 : decode prog_24_method_25_code 92 = .ok (.areturn, 1) := by decide +kernel
theorem dX11_atom_0 : decode prog_24_method_26_code 0 = .ok (.aload_n 0, 1) := by decide +kernel
theorem dX11_atom_1 : decode prog_24_method_26_code 1 = .ok (.getfield 23, 3) := by decide +kernel
theorem dX11_atom_4 : decode prog_24_method_26_code 4 = .ok (.getfield 45, 3) := by decide +kernel
theorem dX11_atom_7 : decode prog_24_method_26_code 7 = .ok (.istore_n 1, 1) := by decide +kernel
theorem dX11_atom_8 : decode prog_24_method_26_code 8 = .ok (.aload_n 0, 1) := by decide +kernel
theorem dX11_atom_9 : decode prog_24_method_26_code 9 = .ok (.getfield 23, 3) := by decide +kernel
theorem dX11_atom_12 : decode prog_24_method_26_code 12 = .ok (.getfield 41, 3) := by decide +kernel
theorem dX11_atom_15 : decode prog_24_method_26_code 15 = .ok (.iconst 2, 1) := by decide +kernel
theorem dX11_atom_16 : decode prog_24_method_26_code 16 = .ok (.if_icmp .ne 28, 3) := by decide +kernel
theorem dX11_atom_19 : decode prog_24_method_26_code 19 = .ok (.new 317, 3) := by decide +kernel
theorem dX11_atom_22 : decode prog_24_method_26_code 22 = .ok (.dup, 1) := by decide +kernel
theorem dX11_atom_23 : decode prog_24_method_26_code 23 = .ok (.aload_n 0, 1) := by decide +kernel
theorem dX11_atom_24 : decode prog_24_method_26_code 24 = .ok (.getfield 23, 3) := by decide +kernel
theorem dX11_atom_27 : decode prog_24_method_26_code 27 = .ok (.getfield 276, 3) := by decide +kernel
theorem dX11_atom_30 : decode prog_24_method_26_code 30 = .ok (.invokespecial 319, 3) := by decide +kernel
theorem dX11_atom_33 : decode prog_24_method_26_code 33 = .ok (.astore_n 2, 1) := by decide +kernel
theorem dX11_atom_34 : decode prog_24_method_26_code 34 = .ok (.aload_n 0, 1) := by decide +kernel
theorem dX11_atom_35 : decode prog_24_method_26_code 35 = .ok (.getfield 23, 3) := by decide +kernel
theorem dX11_atom_38 : decode prog_24_method_26_code 38 = .ok (.invokevirtual 27, 3) := by decide +kernel
theorem dX11_atom_41 : decode prog_24_method_26_code 41 = .ok (.goto 112, 3) := by decide +kernel
theorem dX11_atom_44 : decode prog_24_method_26_code 44 = .ok (.aload_n 0, 1) := by decide +kernel
theorem dX11_atom_45 : decode prog_24_method_26_code 45 = .ok (.getfield 23, 3) := by decide +kernel
theorem dX11_atom_48 : decode prog_24_method_26_code 48 = .ok (.bipush 40, 2) := by decide +kernel
theorem dX11_atom_50 : decode prog_24_method_26_code 50 = .ok (.invokevirtual 115, 3) := by decide +kernel
theorem dX11_atom_53 : decode prog_24_method_26_code 53 = .ok (.ifCond .eq 28, 3) := by decide +kernel
theorem dX11_atom_56 : decode prog_24_method_26_code 56 = .ok (.aload_n 0, 1) := by decide +kernel
theorem dX11_atom_57 : decode prog_24_method_26_code 57 = .ok (.getfield 23, 3) := by decide +kernel
theorem dX11_atom_60 : decode prog_24_method_26_code 60 = .ok (.bipush 40, 2) := by decide +kernel
theorem dX11_atom_62 : decode prog_24_method_26_code 62 = .ok (.invokevirtual 111, 3) := by decide +kernel
theorem dX11_atom_65 : decode prog_24_method_26_code 65 = .ok (.aload_n 0, 1) := by decide +kernel
theorem dX11_atom_66 : decode prog_24_method_26_code 66 = .ok (.invokevirtual 208, 3) := by decide +kernel
theorem dX11_atom_69 : decode prog_24_method_26_code 69 = .ok (.astore_n 2, 1) := by decide +kernel
theorem dX11_atom_70 : decode prog_24_method_26_code 70 = .ok (.aload_n 0, 1) := by decide +kernel
theorem dX11_atom_71 : decode prog_24_method_26_code 71 = .ok (.getfield 23, 3) := by decide +kernel
theorem dX11_atom_74 : decode prog_24_method_26_code 74 = .ok (.bipush 41, 2) := by decide +kernel
theorem dX11_atom_76 : decode prog_24_method_26_code 76 = .ok (.invokevirtual 111, 3) := by decide +kernel
theorem dX11_atom_79 : decode prog_24_method_26_code 79 = .ok (.aload_n 2, 1) := by decide +kernel
theorem dX11_atom_80 : decode prog_24_method_26_code 80 = .ok (.areturn, 1) := by decide +kernel
theorem dX11_atom_81 : decode prog_24_method_26_code 81 = .ok (.aload_n 0, 1) := by decide +kernel
theorem dX11_atom_82 : decode prog_24_method_26_code 82 = .ok (.getfield 23, 3) := by decide +kernel
theorem dX11_atom_85 : decode prog_24_method_26_code 85 = .ok (.bipush 91, 2) := by decide +kernel
theorem dX11_atom_87 : decode prog_24_method_26_code 87 = .ok (.invokevirtual 115, 3) := by decide +kernel
theorem dX11_atom_90 : decode prog_24_method_26_code 90 = .ok (.ifCond .eq 11, 3) := by decide +kernel
theorem dX11_atom_93 : decode prog_24_method_26_code 93 = .ok (.aload_n 0, 1) := by decide +kernel
theorem dX11_atom_94 : decode prog_24_method_26_code 94 = .ok (.invokevirtual 320, 3) := by decide +kernel
theorem dX11_atom_97 : decode prog_24_method_26_code 97 = .ok (.astore_n 2, 1) := by decide +kernel
theorem dX11_atom_98 : decode prog_24_method_26_code 98 = .ok (.goto 55, 3) := by decide +kernel
theorem dX11_atom_101 : decode prog_24_method_26_code 101 = .ok (.aload_n 0, 1) := by decide +kernel
theorem dX11_atom_102 : decode prog_24_method_26_code 102 = .ok (.getfield 23, 3) := by decide +kernel
theorem dX11_atom_105 : decode prog_24_method_26_code 105 = .ok (.getfield 41, 3) := by decide +kernel
theorem dX11_atom_108 : decode prog_24_method_26_code 108 = .ok (.iconst 1, 1) := by decide +kernel
theorem dX11_atom_109 : decode prog_24_method_26_code 109 = .ok (.if_icmp .ne 32, 3) := by decide +kernel
theorem dX11_atom_112 : decode prog_24_method_26_code 112 = .ok (.aload_n 0, 1) := by decide +kernel
theorem dX11_atom_113 : decode prog_24_method_26_code 113 = .ok (.invokevirtual 85, 3) := by decide +kernel
theorem dX11_atom_116 : decode prog_24_method_26_code 116 = .ok (.ifCond .ge 20, 3) := by decide +kernel
theorem dX11_atom_119 : decode prog_24_method_26_code 119 = .ok (.aload_n 0, 1) := by decide +kernel
theorem dX11_atom_120 : decode prog_24_method_26_code 120 = .ok (.invokevirtual 92, 3) := by decide +kernel
theorem dX11_atom_123 : decode prog_24_method_26_code 123 = .ok (.ifCond .ne 18, 3) := by decide +kernel
theorem dX11_atom_126 : decode prog_24_method_26_code 126 = .ok (.aload_n 0, 1) := by decide +kernel
theorem dX11_atom_127 : decode prog_24_method_26_code 127 = .ok (.getfield 23, 3) := by decide +kernel
theorem dX11_atom_130 : decode prog_24_method_26_code 130 = .ok (.invokevirtual 184, 3) := by decide +kernel
theorem dX11_atom_133 : decode prog_24_method_26_code 133 = .ok (.ifCond .eq 8, 3) := by decide +kernel
theorem dX11_atom_136 : decode prog_24_method_26_code 136 = .ok (.aload_n 0, 1) := by decide +kernel
theorem dX11_atom_137 : decode prog_24_method_26_code 137 = .ok (.invokevirtual 200, 3) := by decide +kernel
theorem dX11_atom_140 : decode prog_24_method_26_code 140 = .ok (.areturn, 1) := by decide +kernel
theorem dX11_atom_141 : decode prog_24_method_26_code 141 = .ok (.new 323, 3) := by decide +kernel
theorem dX11_atom_144 : decode prog_24_method_26_code 144 = .ok (.dup, 1) := by decide +kernel
theorem dX11_atom_145 : decode prog_24_method_26_code 145 = .ok (.aload_n 0, 1) := by decide +kernel
theorem dX11_atom_146 : decode prog_24_method_26_code 146 = .ok (.invokevirtual 233, 3) := by decide +kernel
theorem dX11_atom_149 : decode prog_24_method_26_code 149 = .ok (.invokespecial 325, 3) := by decide +kernel
theorem dX11_atom_152 : decode prog_24_method_26_code 152 = .ok (.astore_n 2, 1) := by decide +kernel
theorem dX11_atom_153 : decode prog_24_method_26_code 153 = .ok (.aload_n 2, 1) := by decide +kernel
theorem dX11_atom_154 : decode prog_24_method_26_code 154 = .ok (.iload_n 1, 1) := by decide +kernel
theorem dX11_atom_155 : decode prog_24_method_26_code 155 = .ok (.putfield 326, 3) := by decide +kernel
theorem dX11_atom_158 : decode prog_24_method_26_code 158 = .ok (.aload_n 2, 1) := by decide +kernel
theorem dX11_atom_159 : decode prog_24_method_26_code 159 = .ok (.areturn, 1) := by decide +kernel
theorem dX11_literal_0 : decode prog_24_method_27_code 0 = .ok (.new 329, 3) := by decide +kernel
theorem dX11_literal_3 : decode prog_24_method_27_code 3 = .ok (.dup, 1) := by decide +kernel
theorem dX11_literal_4 : decode prog_24_method_27_code 4 = .ok (.invokespecial 331, 3) := by decide +kernel
theorem dX11_literal_7 : decode prog_24_method_27_code 7 = .ok (.astore_n 1, 1) := by decide +kernel
theorem dX11_literal_8 : decode prog_24_method_27_code 8 = .ok (.aload_n 0, 1) := by decide +kernel
theorem dX11_literal_9 : decode prog_24_method_27_code 9 = .ok (.getfield 23, 3) := by decide +kernel
theorem dX11_literal_12 : decode prog_24_method_27_code 12 = .ok (.bipush 91, 2) := by decide +kernel
theorem dX11_literal_14 : decode prog_24_method_27_code 14 = .ok (.invokevirtual 111, 3) := by decide +kernel
theorem dX11_literal_17 : decode prog_24_method_27_code 17 = .ok (.aload_n 0, 1) := by decide +kernel
theorem dX11_literal_18 : decode prog_24_method_27_code 18 = .ok (.getfield 23, 3) := by decide +kernel
theorem dX11_literal_21 : decode prog_24_method_27_code 21 = .ok (.bipush 93, 2) := by decide +kernel
theorem dX11_literal_23 : decode prog_24_method_27_code 23 = .ok (.invokevirtual 115, 3) := by decide +kernel
theorem dX11_literal_26 : decode prog_24_method_27_code 26 = .ok (.ifCond .ne 7, 3) := by decide +kernel
theorem dX11_literal_29 : decode prog_24_method_27_code 29 = .ok (.iconst 1, 1) := by decide +kernel
theorem dX11_literal_30 : decode prog_24_method_27_code 30 = .ok (.goto 4, 3) := by decide +kernel
theorem dX11_literal_33 : decode prog_24_method_27_code 33 = .ok (.iconst 0, 1) := by decide +kernel
theorem dX11_literal_34 : decode prog_24_method_27_code 34 = .ok (.istore_n 2, 1) := by decide +kernel
theorem dX11_literal_35 : decode prog_24_method_27_code 35 = .ok (.iload_n 2, 1) := by decide +kernel
theorem dX11_literal_36 : decode prog_24_method_27_code 36 = .ok (.ifCond .eq 40, 3) := by decide +kernel
theorem dX11_literal_39 : decode prog_24_method_27_code 39 = .ok (.aload_n 1, 1) := by decide +kernel
theorem dX11_literal_40 : decode prog_24_method_27_code 40 = .ok (.getfield 332, 3) := by decide +kernel
theorem dX11_literal_43 : decode prog_24_method_27_code 43 = .ok (.aload_n 0, 1) := by decide +kernel
theorem dX11_literal_44 : decode prog_24_method_27_code 44 = .ok (.invokevirtual 208, 3) := by decide +kernel
theorem dX11_literal_47 : decode prog_24_method_27_code 47 = .ok (.iconst 0, 1) := by decide +kernel
theorem dX11_literal_48 : decode prog_24_method_27_code 48 = .ok (.iconst 0, 1) := by decide +kernel
theorem dX11_literal_49 : decode prog_24_method_27_code 49 = .ok (.invokevirtual 296, 3) := by decide +kernel
theorem dX11_literal_52 : decode prog_24_method_27_code 52 = .ok (.aload_n 0, 1) := by decide +kernel
theorem dX11_literal_53 : decode prog_24_method_27_code 53 = .ok (.getfield 23, 3) := by decide +kernel
theorem dX11_literal_56 : decode prog_24_method_27_code 56 = .ok (.bipush 44, 2) := by decide +kernel
theorem dX11_literal_58 : decode prog_24_method_27_code 58 = .ok (.invokevirtual 115, 3) := by decide +kernel
theorem dX11_literal_61 : decode prog_24_method_27_code 61 = .ok (.istore_n 2, 1) := by decide +kernel
theorem dX11_literal_62 : decode prog_24_method_27_code 62 = .ok (.iload_n 2, 1) := by decide +kernel
theorem dX11_literal_63 : decode prog_24_method_27_code 63 = .ok (.ifCond .eq (-28), 3) := by decide +kernel
theorem dX11_literal_66 : decode prog_24_method_27_code 66 = .ok (.aload_n 0, 1) := by decide +kernel
theorem dX11_literal_67 : decode prog_24_method_27_code 67 = .ok (.getfield 23, 3) := by decide +kernel
theorem dX11_literal_70 : decode prog_24_method_27_code 70 = .ok (.invokevirtual 27, 3) := by decide +kernel
theorem dX11_literal_73 : decode prog_24_method_27_code 73 = .ok (.goto (-38), 3) := by decide +kernel
theorem dX11_literal_76 : decode prog_24_method_27_code 76 = .ok (.aload_n 0, 1) := by decide +kernel
theorem dX11_literal_77 : decode prog_24_method_27_code 77 = .ok (.getfield 23, 3) := by decide +kernel
theorem dX11_literal_80 : decode prog_24_method_27_code 80 = .ok (.bipush 93, 2) := by decide +kernel
theorem dX11_literal_82 : decode prog_24_method_27_code 82 = .ok (.invokevirtual 111, 3) := by decide +kernel
theorem dX11_literal_85 : decode prog_24_method_27_code 85 = .ok (.aload_n 1, 1) := by decide +kernel
theorem dX11_literal_86 : decode prog_24_method_27_code 86 = .ok (.areturn, 1) := by decide +kernel
theorem dX11_call_0 : decode prog_24_method_29_code 0 = .ok (.aload_n 0, 1) := by decide +kernel
theorem dX11_call_1 : decode prog_24_method_29_code 1 = .ok (.getfield 23, 3) := by decide +kernel
theorem dX11_call_4 : decode prog_24_method_29_code 4 = .ok (.getfield 45, 3) := by decide +kernel
theorem dX11_call_7 : decode prog_24_method_29_code 7 = .ok (.istore_n 1, 1) := by decide +kernel
theorem dX11_call_8 : decode prog_24_method_29_code 8 = .ok (.aload_n 0, 1) := by decide +kernel
theorem dX11_call_9 : decode prog_24_method_29_code 9 = .ok (.invokevirtual 85, 3) := by decide +kernel
theorem dX11_call_12 : decode prog_24_method_29_code 12 = .ok (.istore_n 2, 1) := by decide +kernel
theorem dX11_call_13 : decode prog_24_method_29_code 13 = .ok (.iload_n 2, 1) := by decide +kernel
theorem dX11_call_14 : decode prog_24_method_29_code 14 = .ok (.ifCond .lt 16, 3) := by decide +kernel
theorem dX11_call_17 : decode prog_24_method_29_code 17 = .ok (.iload_n 2, 1) := by decide +kernel
theorem dX11_call_18 : decode prog_24_method_29_code 18 = .ok (.bipush 28, 2) := by decide +kernel
theorem dX11_call_20 : decode prog_24_method_29_code 20 = .ok (.if_icmp .ge 10, 3) := by decide +kernel
theorem dX11_call_23 : decode prog_24_method_29_code 23 = .ok (.aload_n 0, 1) := by decide +kernel
theorem dX11_call_24 : decode prog_24_method_29_code 24 = .ok (.iload_n 2, 1) := by decide +kernel
theorem dX11_call_25 : decode prog_24_method_29_code 25 = .ok (.iload_n 1, 1) := by decide +kernel
theorem dX11_call_26 : decode prog_24_method_29_code 26 = .ok (.invokevirtual 333, 3) := by decide +kernel
theorem dX11_call_29 : decode prog_24_method_29_code 29 = .ok (.areturn, 1) := by decide +kernel
theorem dX11_call_30 : decode prog_24_method_29_code 30 = .ok (.new 17, 3) := by decide +kernel
theorem dX11_call_33 : decode prog_24_method_29_code 33 = .ok (.dup, 1) := by decide +kernel
theorem dX11_call_34 : decode prog_24_method_29_code 34 = .ok (.iload_n 2, 1) := by decide +kernel
theorem dX11_call_35 : decode prog_24_method_29_code 35 = .ok (.ifCond .ge 7, 3) := by decide +kernel
theorem dX11_call_38 : decode prog_24_method_29_code 38 = .ok (.iconst 0, 1) := by decide +kernel
theorem dX11_call_39 : decode prog_24_method_29_code 39 = .ok (.goto 4, 3) := by decide +kernel
theorem dX11_call_42 : decode prog_24_method_29_code 42 = .ok (.iload_n 2, 1) := by decide +kernel
theorem dX11_call_43 : decode prog_24_method_29_code 43 = .ok (.invokespecial 336, 3) := by decide +kernel
theorem dX11_call_46 : decode prog_24_method_29_code 46 = .ok (.astore_n 3, 1) := by decide +kernel
theorem dX11_call_47 : decode prog_24_method_29_code 47 = .ok (.aload_n 3, 1) := by decide +kernel
theorem dX11_call_48 : decode prog_24_method_29_code 48 = .ok (.iload_n 1, 1) := by decide +kernel
theorem dX11_call_49 : decode prog_24_method_29_code 49 = .ok (.putfield 337, 3) := by decide +kernel
theorem dX11_call_52 : decode prog_24_method_29_code 52 = .ok (.iload_n 2, 1) := by decide +kernel
theorem dX11_call_53 : decode prog_24_method_29_code 53 = .ok (.ifCond .ge 8, 3) := by decide +kernel
theorem dX11_call_56 : decode prog_24_method_29_code 56 = .ok (.aload_n 0, 1) := by decide +kernel
theorem dX11_call_57 : decode prog_24_method_29_code 57 = .ok (.aload_n 3, 1) := by decide +kernel
theorem dX11_call_58 : decode prog_24_method_29_code 58 = .ok (.invokevirtual 338, 3) := by decide +kernel
theorem dX11_call_61 : decode prog_24_method_29_code 61 = .ok (.aload_n 0, 1) := by decide +kernel
theorem dX11_call_62 : decode prog_24_method_29_code 62 = .ok (.getfield 23, 3) := by decide +kernel
theorem dX11_call_65 : decode prog_24_method_29_code 65 = .ok (.invokevirtual 27, 3) := by decide +kernel
theorem dX11_call_68 : decode prog_24_method_29_code 68 = .ok (.aload_n 0, 1) := by decide +kernel
theorem dX11_call_69 : decode prog_24_method_29_code 69 = .ok (.getfield 23, 3) := by decide +kernel
theorem dX11_call_72 : decode prog_24_method_29_code 72 = .ok (.bipush 40, 2) := by decide +kernel
theorem dX11_call_74 : decode prog_24_method_29_code 74 = .ok (.invokevirtual 111, 3) := by decide +kernel
theorem dX11_call_77 : decode prog_24_method_29_code 77 = .ok (.iload_n 2, 1) := by decide +kernel
theorem dX11_call_78 : decode prog_24_method_29_code 78 = .ok (.ifCond .lt 85, 3) := by decide +kernel
theorem dX11_call_81 : decode prog_24_method_29_code 81 = .ok (.aload_n 0, 1) := by decide +kernel
theorem dX11_call_82 : decode prog_24_method_29_code 82 = .ok (.invokevirtual 96, 3) := by decide +kernel
theorem dX11_call_85 : decode prog_24_method_29_code 85 = .ok (.aload_n 0, 1) := by decide +kernel
theorem dX11_call_86 : decode prog_24_method_29_code 86 = .ok (.aload_n 3, 1) := by decide +kernel
theorem dX11_call_87 : decode prog_24_method_29_code 87 = .ok (.invokevirtual 338, 3) := by decide +kernel
theorem dX11_call_90 : decode prog_24_method_29_code 90 = .ok (.aload_n 3, 1) := by decide +kernel
theorem dX11_call_91 : decode prog_24_method_29_code 91 = .ok (.iload_n 2, 1) := by decide +kernel
theorem dX11_call_92 : decode prog_24_method_29_code 92 = .ok (.bipush 28, 2) := by decide +kernel
theorem dX11_call_94 : decode prog_24_method_29_code 94 = .ok (.if_icmp .ne 7, 3) := by decide +kernel
theorem dX11_call_97 : decode prog_24_method_29_code 97 = .ok (.iconst 1, 1) := by decide +kernel
theorem dX11_call_98 : decode prog_24_method_29_code 98 = .ok (.goto 4, 3) := by decide +kernel
theorem dX11_call_101 : decode prog_24_method_29_code 101 = .ok (.iconst 2, 1) := by decide +kernel
theorem dX11_call_102 : decode prog_24_method_29_code 102 = .ok (.putfield 73, 3) := by decide +kernel
theorem dX11_call_105 : decode prog_24_method_29_code 105 = .ok (.aload_n 0, 1) := by decide +kernel
theorem dX11_call_106 : decode prog_24_method_29_code 106 = .ok (.getfield 23, 3) := by decide +kernel
theorem dX11_call_109 : decode prog_24_method_29_code 109 = .ok (.invokevirtual 27, 3) := by decide +kernel
theorem dX11_call_112 : decode prog_24_method_29_code 112 = .ok (.iconst 0, 1) := by decide +kernel
theorem dX11_call_113 : decode prog_24_method_29_code 113 = .ok (.istore 4, 2) := by decide +kernel
theorem dX11_call_115 : decode prog_24_method_29_code 115 = .ok (.iload 4, 2) := by decide +kernel
theorem dX11_call_117 : decode prog_24_method_29_code 117 = .ok (.aload_n 3, 1) := by decide +kernel
theorem dX11_call_118 : decode prog_24_method_29_code 118 = .ok (.getfield 73, 3) := by decide +kernel
theorem dX11_call_121 : decode prog_24_method_29_code 121 = .ok (.if_icmp .ge 31, 3) := by decide +kernel
theorem dX11_call_124 : decode prog_24_method_29_code 124 = .ok (.aload_n 0, 1) := by decide +kernel
theorem dX11_call_125 : decode prog_24_method_29_code 125 = .ok (.getfield 23, 3) := by decide +kernel
theorem dX11_call_128 : decode prog_24_method_29_code 128 = .ok (.bipush 44, 2) := by decide +kernel
theorem dX11_call_130 : decode prog_24_method_29_code 130 = .ok (.invokevirtual 111, 3) := by decide +kernel
theorem dX11_call_133 : decode prog_24_method_29_code 133 = .ok (.aload_n 3, 1) := by decide +kernel
theorem dX11_call_134 : decode prog_24_method_29_code 134 = .ok (.getfield 341, 3) := by decide +kernel
theorem dX11_call_137 : decode prog_24_method_29_code 137 = .ok (.aload_n 0, 1) := by decide +kernel
theorem dX11_call_138 : decode prog_24_method_29_code 138 = .ok (.invokevirtual 208, 3) := by decide +kernel
theorem dX11_call_141 : decode prog_24_method_29_code 141 = .ok (.iconst 0, 1) := by decide +kernel
theorem dX11_call_142 : decode prog_24_method_29_code 142 = .ok (.iconst 0, 1) := by decide +kernel
theorem dX11_call_143 : decode prog_24_method_29_code 143 = .ok (.invokevirtual 296, 3) := by decide +kernel
theorem dX11_call_146 : decode prog_24_method_29_code 146 = .ok (.iinc 4 1, 3) := by decide +kernel
theorem dX11_call_149 : decode prog_24_method_29_code 149 = .ok (.goto (-34), 3) := by decide +kernel
theorem dX11_call_152 : decode prog_24_method_29_code 152 = .ok (.aload_n 0, 1) := by decide +kernel
theorem dX11_call_153 : decode prog_24_method_29_code 153 = .ok (.getfield 23, 3) := by decide +kernel
theorem dX11_call_156 : decode prog_24_method_29_code 156 = .ok (.bipush 41, 2) := by decide +kernel
theorem dX11_call_158 : decode prog_24_method_29_code 158 = .ok (.invokevirtual 111, 3) := by decide +kernel
theorem dX11_call_161 : decode prog_24_method_29_code 161 = .ok (.aload_n 3, 1) := by decide +kernel
theorem dX11_call_162 : decode prog_24_method_29_code 162 = .ok (.areturn, 1) := by decide +kernel
theorem dX11_call_163 : decode prog_24_method_29_code 163 = .ok (.aload_n 0, 1) := by decide +kernel
theorem dX11_call_164 : decode prog_24_method_29_code 164 = .ok (.getfield 23, 3) := by decide +kernel
theorem dX11_call_167 : decode prog_24_method_29_code 167 = .ok (.bipush 41, 2) := by decide +kernel
theorem dX11_call_169 : decode prog_24_method_29_code 169 = .ok (.invokevirtual 115, 3) := by decide +kernel
theorem dX11_call_172 : decode prog_24_method_29_code 172 = .ok (.ifCond .ne 7, 3) := by decide +kernel
theorem dX11_call_175 : decode prog_24_method_29_code 175 = .ok (.iconst 1, 1) := by decide +kernel
theorem dX11_call_176 : decode prog_24_method_29_code 176 = .ok (.goto 4, 3) := by decide +kernel
theorem dX11_call_179 : decode prog_24_method_29_code 179 = .ok (.iconst 0, 1) := by decide +kernel
theorem dX11_call_180 : decode prog_24_method_29_code 180 = .ok (.istore 4, 2) := by decide +kernel
theorem dX11_call_182 : decode prog_24_method_29_code 182 = .ok (.iload 4, 2) := by decide +kernel
theorem dX11_call_184 : decode prog_24_method_29_code 184 = .ok (.ifCond .eq 42, 3) := by decide +kernel
theorem dX11_call_187 : decode prog_24_method_29_code 187 = .ok (.aload_n 3, 1) := by decide +kernel
theorem dX11_call_188 : decode prog_24_method_29_code 188 = .ok (.getfield 341, 3) := by decide +kernel
theorem dX11_call_191 : decode prog_24_method_29_code 191 = .ok (.aload_n 0, 1) := by decide +kernel
theorem dX11_call_192 : decode prog_24_method_29_code 192 = .ok (.invokevirtual 208, 3) := by decide +kernel
theorem dX11_call_195 : decode prog_24_method_29_code 195 = .ok (.iconst 0, 1) := by decide +kernel
theorem dX11_call_196 : decode prog_24_method_29_code 196 = .ok (.iconst 0, 1) := by decide +kernel
theorem dX11_call_197 : decode prog_24_method_29_code 197 = .ok (.invokevirtual 296, 3) := by decide +kernel
theorem dX11_call_200 : decode prog_24_method_29_code 200 = .ok (.aload_n 0, 1) := by decide +kernel
theorem dX11_call_201 : decode prog_24_method_29_code 201 = .ok (.getfield 23, 3) := by decide +kernel
theorem dX11_call_204 : decode prog_24_method_29_code 204 = .ok (.bipush 44, 2) := by decide +kernel
theorem dX11_call_206 : decode prog_24_method_29_code 206 = .ok (.invokevirtual 115, 3) := by decide +kernel
theorem dX11_call_209 : decode prog_24_method_29_code 209 = .ok (.istore 4, 2) := by decide +kernel
theorem dX11_call_211 : decode prog_24_method_29_code 211 = .ok (.iload 4, 2) := by decide +kernel
theorem dX11_call_213 : decode prog_24_method_29_code 213 = .ok (.ifCond .eq (-31), 3) := by decide +kernel
theorem dX11_call_216 : decode prog_24_method_29_code 216 = .ok (.aload_n 0, 1) := by decide +kernel
theorem dX11_call_217 : decode prog_24_method_29_code 217 = .ok (.getfield 23, 3) := by decide +kernel
theorem dX11_call_220 : decode prog_24_method_29_code 220 = .ok (.invokevirtual 27, 3) := by decide +kernel
theorem dX11_call_223 : decode prog_24_method_29_code 223 = .ok (.goto (-41), 3) := by decide +kernel
theorem dX11_call_226 : decode prog_24_method_29_code 226 = .ok (.aload_n 0, 1) := by decide +kernel
theorem dX11_call_227 : decode prog_24_method_29_code 227 = .ok (.getfield 23, 3) := by decide +kernel
theorem dX11_call_230 : decode prog_24_method_29_code 230 = .ok (.bipush 41, 2) := by decide +kernel
theorem dX11_call_232 : decode prog_24_method_29_code 232 = .ok (.invokevirtual 111, 3) := by decide +kernel
theorem dX11_call_235 : decode prog_24_method_29_code 235 = .ok (.aload_n 3, 1) := by decide +kernel
theorem dX11_call_236 : decode prog_24_method_29_code 236 = .ok (.aload_n 3, 1) := by decide +kernel
theorem dX11_call_237 : decode prog_24_method_29_code 237 = .ok (.getfield 341, 3) := by decide +kernel
theorem dX11_call_240 : decode prog_24_method_29_code 240 = .ok (.getfield 342, 3) := by decide +kernel
theorem dX11_call_243 : decode prog_24_method_29_code 243 = .ok (.putfield 73, 3) := by decide +kernel
theorem dX11_call_246 : decode prog_24_method_29_code 246 = .ok (.aload_n 3, 1) := by decide +kernel
theorem dX11_call_247 : decode prog_24_method_29_code 247 = .ok (.areturn, 1) := by decide +kernel
theorem dX11_builtIn_2_0 : decode prog_24_method_30_code 0 = .ok (.new 343, 3) := by decide +kernel
theorem dX11_builtIn_2_3 : decode prog_24_method_30_code 3 = .ok (.dup, 1) := by decide +kernel
theorem dX11_builtIn_2_4 : decode prog_24_method_30_code 4 = .ok (.iload_n 1, 1) := by decide +kernel
theorem dX11_builtIn_2_5 : decode prog_24_method_30_code 5 = .ok (.invokespecial 345, 3) := by decide +kernel
theorem dX11_builtIn_2_8 : decode prog_24_method_30_code 8 = .ok (.astore_n 3, 1) := by decide +kernel
theorem dX11_builtIn_2_9 : decode prog_24_method_30_code 9 = .ok (.aload_n 3, 1) := by decide +kernel
theorem dX11_builtIn_2_10 : decode prog_24_method_30_code 10 = .ok (.iload_n 2, 1) := by decide +kernel
theorem dX11_builtIn_2_11 : decode prog_24_method_30_code 11 = .ok (.putfield 346, 3) := by decide +kernel
theorem dX11_builtIn_2_14 : decode prog_24_method_30_code 14 = .ok (.aload_n 0, 1) := by decide +kernel
theorem dX11_builtIn_2_15 : decode prog_24_method_30_code 15 = .ok (.getfield 23, 3) := by decide +kernel
theorem dX11_builtIn_2_18 : decode prog_24_method_30_code 18 = .ok (.invokevirtual 27, 3) := by decide +kernel
theorem dX11_builtIn_2_21 : decode prog_24_method_30_code 21 = .ok (.aload_n 0, 1) := by decide +kernel
theorem dX11_builtIn_2_22 : decode prog_24_method_30_code 22 = .ok (.getfield 23, 3) := by decide +kernel
theorem dX11_builtIn_2_25 : decode prog_24_method_30_code 25 = .ok (.bipush 40, 2) := by decide +kernel
theorem dX11_builtIn_2_27 : decode prog_24_method_30_code 27 = .ok (.invokevirtual 111, 3) := by decide +kernel
theorem dX11_builtIn_2_30 : decode prog_24_method_30_code 30 = .ok (.aload_n 0, 1) := by decide +kernel
theorem dX11_builtIn_2_31 : decode prog_24_method_30_code 31 = .ok (.aload_n 3, 1) := by decide +kernel
theorem dX11_builtIn_2_32 : decode prog_24_method_30_code 32 = .ok (.getfield 347, 3) := by decide +kernel
theorem dX11_builtIn_2_35 : decode prog_24_method_30_code 35 = .ok (.iload_n 1, 1) := by decide +kernel
theorem dX11_builtIn_2_36 : decode prog_24_method_30_code 36 = .ok (.iconst 5, 1) := by decide +kernel
theorem dX11_builtIn_2_37 : decode prog_24_method_30_code 37 = .ok (.if_icmp .ne 7, 3) := by decide +kernel
theorem dX11_builtIn_2_40 : decode prog_24_method_30_code 40 = .ok (.iconst 0, 1) := by decide +kernel
theorem dX11_builtIn_2_41 : decode prog_24_method_30_code 41 = .ok (.goto 8, 3) := by decide +kernel
theorem dX11_builtIn_2_44 : decode prog_24_method_30_code 44 = .ok (.getstatic 348, 3) := by decide +kernel
theorem dX11_builtIn_2_47 : decode prog_24_method_30_code 47 = .ok (.iload_n 1, 1) := by decide +kernel
theorem dX11_builtIn_2_48 : decode prog_24_method_30_code 48 = .ok (.iaload, 1) := by decide +kernel
theorem dX11_builtIn_2_49 : decode prog_24_method_30_code 49 = .ok (.getstatic 348, 3) := by decide +kernel
theorem dX11_builtIn_2_52 : decode prog_24_method_30_code 52 = .ok (.iload_n 1, 1) := by decide +kernel
theorem dX11_builtIn_2_53 : decode prog_24_method_30_code 53 = .ok (.iaload, 1) := by decide +kernel
theorem dX11_builtIn_2_54 : decode prog_24_method_30_code 54 = .ok (.invokevirtual 352, 3) := by decide +kernel
theorem dX11_builtIn_2_57 : decode prog_24_method_30_code 57 = .ok (.aload_n 3, 1) := by decide +kernel
theorem dX11_builtIn_2_58 : decode prog_24_method_30_code 58 = .ok (.areturn, 1) := by decide +kernel
theorem dX11_parts_0 : decode prog_24_method_31_code 0 = .ok (.aload_n 0, 1) := by decide +kernel
theorem dX11_parts_1 : decode prog_24_method_31_code 1 = .ok (.getfield 23, 3) := by decide +kernel
theorem dX11_parts_4 : decode prog_24_method_31_code 4 = .ok (.bipush 41, 2) := by decide +kernel
theorem dX11_parts_6 : decode prog_24_method_31_code 6 = .ok (.invokevirtual 115, 3) := by decide +kernel
theorem dX11_parts_9 : decode prog_24_method_31_code 9 = .ok (.ifCond .ne 7, 3) := by decide +kernel
theorem dX11_parts_12 : decode prog_24_method_31_code 12 = .ok (.iconst 1, 1) := by decide +kernel
theorem dX11_parts_13 : decode prog_24_method_31_code 13 = .ok (.goto 4, 3) := by decide +kernel
theorem dX11_parts_16 : decode prog_24_method_31_code 16 = .ok (.iconst 0, 1) := by decide +kernel
theorem dX11_parts_17 : decode prog_24_method_31_code 17 = .ok (.istore 4, 2) := by decide +kernel
theorem dX11_parts_19 : decode prog_24_method_31_code 19 = .ok (.iload 4, 2) := by decide +kernel
theorem dX11_parts_21 : decode prog_24_method_31_code 21 = .ok (.ifCond .eq 68, 3) := by decide +kernel
theorem dX11_parts_24 : decode prog_24_method_31_code 24 = .ok (.aload_n 1, 1) := by decide +kernel
theorem dX11_parts_25 : decode prog_24_method_31_code 25 = .ok (.aload_n 0, 1) := by decide +kernel
theorem dX11_parts_26 : decode prog_24_method_31_code 26 = .ok (.invokevirtual 208, 3) := by decide +kernel
theorem dX11_parts_29 : decode prog_24_method_31_code 29 = .ok (.iconst 0, 1) := by decide +kernel
theorem dX11_parts_30 : decode prog_24_method_31_code 30 = .ok (.iconst 0, 1) := by decide +kernel
theorem dX11_parts_31 : decode prog_24_method_31_code 31 = .ok (.invokevirtual 296, 3) := by decide +kernel
theorem dX11_parts_34 : decode prog_24_method_31_code 34 = .ok (.aload_n 0, 1) := by decide +kernel
theorem dX11_parts_35 : decode prog_24_method_31_code 35 = .ok (.getfield 23, 3) := by decide +kernel
theorem dX11_parts_38 : decode prog_24_method_31_code 38 = .ok (.bipush 44, 2) := by decide +kernel
theorem dX11_parts_40 : decode prog_24_method_31_code 40 = .ok (.invokevirtual 115, 3) := by decide +kernel
theorem dX11_parts_43 : decode prog_24_method_31_code 43 = .ok (.istore 4, 2) := by decide +kernel
theorem dX11_parts_45 : decode prog_24_method_31_code 45 = .ok (.iload 4, 2) := by decide +kernel
theorem dX11_parts_47 : decode prog_24_method_31_code 47 = .ok (.ifCond .eq 27, 3) := by decide +kernel
theorem dX11_parts_50 : decode prog_24_method_31_code 50 = .ok (.aload_n 1, 1) := by decide +kernel
theorem dX11_parts_51 : decode prog_24_method_31_code 51 = .ok (.getfield 342, 3) := by decide +kernel
theorem dX11_parts_54 : decode prog_24_method_31_code 54 = .ok (.iload_n 3, 1) := by decide +kernel
theorem dX11_parts_55 : decode prog_24_method_31_code 55 = .ok (.if_icmp .ne 19, 3) := by decide +kernel
theorem dX11_parts_58 : decode prog_24_method_31_code 58 = .ok (.aload_n 0, 1) := by decide +kernel
theorem dX11_parts_59 : decode prog_24_method_31_code 59 = .ok (.getfield 23, 3) := by decide +kernel
theorem dX11_parts_62 : decode prog_24_method_31_code 62 = .ok (.iconst 5, 1) := by decide +kernel
theorem dX11_parts_63 : decode prog_24_method_31_code 63 = .ok (.aload_n 0, 1) := by decide +kernel
theorem dX11_parts_64 : decode prog_24_method_31_code 64 = .ok (.getfield 23, 3) := by decide +kernel
theorem dX11_parts_67 : decode prog_24_method_31_code 67 = .ok (.getfield 45, 3) := by decide +kernel
theorem dX11_parts_70 : decode prog_24_method_31_code 70 = .ok (.invokevirtual 48, 3) := by decide +kernel
theorem dX11_parts_73 : decode prog_24_method_31_code 73 = .ok (.athrow, 1) := by decide +kernel
theorem dX11_parts_74 : decode prog_24_method_31_code 74 = .ok (.iload 4, 2) := by decide +kernel
theorem dX11_parts_76 : decode prog_24_method_31_code 76 = .ok (.ifCond .eq (-57), 3) := by decide +kernel
theorem dX11_parts_79 : decode prog_24_method_31_code 79 = .ok (.aload_n 0, 1) := by decide +kernel
theorem dX11_parts_80 : decode prog_24_method_31_code 80 = .ok (.getfield 23, 3) := by decide +kernel
theorem dX11_parts_83 : decode prog_24_method_31_code 83 = .ok (.invokevirtual 27, 3) := by decide +kernel
theorem dX11_parts_86 : decode prog_24_method_31_code 86 = .ok (.goto (-67), 3) := by decide +kernel
theorem dX11_parts_89 : decode prog_24_method_31_code 89 = .ok (.aload_n 0, 1) := by decide +kernel
theorem dX11_parts_90 : decode prog_24_method_31_code 90 = .ok (.getfield 23, 3) := by decide +kernel
theorem dX11_parts_93 : decode prog_24_method_31_code 93 = .ok (.bipush 41, 2) := by decide +kernel
theorem dX11_parts_95 : decode prog_24_method_31_code 95 = .ok (.invokevirtual 115, 3) := by decide +kernel
theorem dX11_parts_98 : decode prog_24_method_31_code 98 = .ok (.ifCond .eq 27, 3) := by decide +kernel
theorem dX11_parts_101 : decode prog_24_method_31_code 101 = .ok (.aload_n 1, 1) := by decide +kernel
theorem dX11_parts_102 : decode prog_24_method_31_code 102 = .ok (.getfield 342, 3) := by decide +kernel
theorem dX11_parts_105 : decode prog_24_method_31_code 105 = .ok (.iload_n 2, 1) := by decide +kernel
theorem dX11_parts_106 : decode prog_24_method_31_code 106 = .ok (.if_icmp .ge 19, 3) := by decide +kernel
theorem dX11_parts_109 : decode prog_24_method_31_code 109 = .ok (.aload_n 0, 1) := by decide +kernel
theorem dX11_parts_110 : decode prog_24_method_31_code 110 = .ok (.getfield 23, 3) := by decide +kernel
theorem dX11_parts_113 : decode prog_24_method_31_code 113 = .ok (.iconst 5, 1) := by decide +kernel
theorem dX11_parts_114 : decode prog_24_method_31_code 114 = .ok (.aload_n 0, 1) := by decide +kernel
theorem dX11_parts_115 : decode prog_24_method_31_code 115 = .ok (.getfield 23, 3) := by decide +kernel
theorem dX11_parts_118 : decode prog_24_method_31_code 118 = .ok (.getfield 45, 3) := by decide +kernel
theorem dX11_parts_121 : decode prog_24_method_31_code 121 = .ok (.invokevirtual 48, 3) := by decide +kernel
theorem dX11_parts_124 : decode prog_24_method_31_code 124 = .ok (.athrow, 1) := by decide +kernel
theorem dX11_parts_125 : decode prog_24_method_31_code 125 = .ok (.aload_n 0, 1) := by decide +kernel
theorem dX11_parts_126 : decode prog_24_method_31_code 126 = .ok (.getfield 23, 3) := by decide +kernel
theorem dX11_parts_129 : decode prog_24_method_31_code 129 = .ok (.bipush 41, 2) := by decide +kernel
theorem dX11_parts_131 : decode prog_24_method_31_code 131 = .ok (.invokevirtual 111, 3) := by decide +kernel
theorem dX11_parts_134 : decode prog_24_method_31_code 134 = .ok (.return_, 1) := by decide +kernel
theorem dX11_remember_0 : decode prog_24_method_28_code 0 = .ok (.aload_n 1, 1) := by decide +kernel
theorem dX11_remember_1 : decode prog_24_method_28_code 1 = .ok (.aload_n 0, 1) := by decide +kernel
theorem dX11_remember_2 : decode prog_24_method_28_code 2 = .ok (.getfield 23, 3) := by decide +kernel
theorem dX11_remember_5 : decode prog_24_method_28_code 5 = .ok (.invokevirtual 103, 3) := by decide +kernel
theorem dX11_remember_8 : decode prog_24_method_28_code 8 = .ok (.putfield 66, 3) := by decide +kernel
theorem dX11_remember_11 : decode prog_24_method_28_code 11 = .ok (.aload_n 1, 1) := by decide +kernel
theorem dX11_remember_12 : decode prog_24_method_28_code 12 = .ok (.aload_n 0, 1) := by decide +kernel
theorem dX11_remember_13 : decode prog_24_method_28_code 13 = .ok (.getfield 23, 3) := by decide +kernel
theorem dX11_remember_16 : decode prog_24_method_28_code 16 = .ok (.getfield 45, 3) := by decide +kernel
theorem dX11_remember_19 : decode prog_24_method_28_code 19 = .ok (.putfield 76, 3) := by decide +kernel
theorem dX11_remember_22 : decode prog_24_method_28_code 22 = .ok (.aload_n 0, 1) := by decide +kernel
theorem dX11_remember_23 : decode prog_24_method_28_code 23 = .ok (.getfield 52, 3) := by decide +kernel
theorem dX11_remember_26 : decode prog_24_method_28_code 26 = .ok (.aload_n 0, 1) := by decide +kernel
theorem dX11_remember_27 : decode prog_24_method_28_code 27 = .ok (.getfield 19, 3) := by decide +kernel
theorem dX11_remember_30 : decode prog_24_method_28_code 30 = .ok (.arraylength, 1) := by decide +kernel
theorem dX11_remember_31 : decode prog_24_method_28_code 31 = .ok (.if_icmp .ne 43, 3) := by decide +kernel
theorem dX11_remember_34 : decode prog_24_method_28_code 34 = .ok (.iconst 4, 1) := by decide +kernel
theorem dX11_remember_35 : decode prog_24_method_28_code 35 = .ok (.aload_n 0, 1) := by decide +kernel
theorem dX11_remember_36 : decode prog_24_method_28_code 36 = .ok (.getfield 52, 3) := by decide +kernel
theorem dX11_remember_39 : decode prog_24_method_28_code 39 = .ok (.imul, 1) := by decide +kernel
theorem dX11_remember_40 : decode prog_24_method_28_code 40 = .ok (.anewarray 17, 3) := by decide +kernel
theorem dX11_remember_43 : decode prog_24_method_28_code 43 = .ok (.astore_n 2, 1) := by decide +kernel
theorem dX11_remember_44 : decode prog_24_method_28_code 44 = .ok (.iconst 0, 1) := by decide +kernel
theorem dX11_remember_45 : decode prog_24_method_28_code 45 = .ok (.istore_n 3, 1) := by decide +kernel
theorem dX11_remember_46 : decode prog_24_method_28_code 46 = .ok (.iload_n 3, 1) := by decide +kernel
theorem dX11_remember_47 : decode prog_24_method_28_code 47 = .ok (.aload_n 0, 1) := by decide +kernel
theorem dX11_remember_48 : decode prog_24_method_28_code 48 = .ok (.getfield 52, 3) := by decide +kernel
theorem dX11_remember_51 : decode prog_24_method_28_code 51 = .ok (.if_icmp .ge 18, 3) := by decide +kernel
theorem dX11_remember_54 : decode prog_24_method_28_code 54 = .ok (.aload_n 2, 1) := by decide +kernel
theorem dX11_remember_55 : decode prog_24_method_28_code 55 = .ok (.iload_n 3, 1) := by decide +kernel
theorem dX11_remember_56 : decode prog_24_method_28_code 56 = .ok (.aload_n 0, 1) := by decide +kernel
theorem dX11_remember_57 : decode prog_24_method_28_code 57 = .ok (.getfield 19, 3) := by decide +kernel
theorem dX11_remember_60 : decode prog_24_method_28_code 60 = .ok (.iload_n 3, 1) := by decide +kernel
theorem dX11_remember_61 : decode prog_24_method_28_code 61 = .ok (.aaload, 1) := by decide +kernel
theorem dX11_remember_62 : decode prog_24_method_28_code 62 = .ok (.aastore, 1) := by decide +kernel
theorem dX11_remember_63 : decode prog_24_method_28_code 63 = .ok (.iinc 3 1, 3) := by decide +kernel
theorem dX11_remember_66 : decode prog_24_method_28_code 66 = .ok (.goto (-20), 3) := by decide +kernel
theorem dX11_remember_69 : decode prog_24_method_28_code 69 = .ok (.aload_n 0, 1) := by decide +kernel
theorem dX11_remember_70 : decode prog_24_method_28_code 70 = .ok (.aload_n 2, 1) := by decide +kernel
theorem dX11_remember_71 : decode prog_24_method_28_code 71 = .ok (.putfield 19, 3) := by decide +kernel
theorem dX11_remember_74 : decode prog_24_method_28_code 74 = .ok (.aload_n 0, 1) := by decide +kernel
theorem dX11_remember_75 : decode prog_24_method_28_code 75 = .ok (.getfield 19, 3) := by decide +kernel
theorem dX11_remember_78 : decode prog_24_method_28_code 78 = .ok (.aload_n 0, 1) := by decide +kernel
theorem dX11_remember_79 : decode prog_24_method_28_code 79 = .ok (.getfield 52, 3) := by decide +kernel
theorem dX11_remember_82 : decode prog_24_method_28_code 82 = .ok (.aload_n 1, 1) := by decide +kernel
theorem dX11_remember_83 : decode prog_24_method_28_code 83 = .ok (.aastore, 1) := by decide +kernel
theorem dX11_remember_84 : decode prog_24_method_28_code 84 = .ok (.aload_n 0, 1) := by decide +kernel
theorem dX11_remember_85 : decode prog_24_method_28_code 85 = .ok (.dup, 1) := by decide +kernel
theorem dX11_remember_86 : decode prog_24_method_28_code 86 = .ok (.getfield 52, 3) := by decide +kernel
theorem dX11_remember_89 : decode prog_24_method_28_code 89 = .ok (.iconst 1, 1) := by decide +kernel
theorem dX11_remember_90 : decode prog_24_method_28_code 90 = .ok (.iadd, 1) := by decide +kernel
theorem dX11_remember_91 : decode prog_24_method_28_code 91 = .ok (.putfield 52, 3) := by decide +kernel
theorem dX11_remember_94 : decode prog_24_method_28_code 94 = .ok (.return_, 1) := by decide +kernel
theorem dX11_name_0 : decode prog_24_method_10_code 0 = .ok (.aload_n 0, 1) := by decide +kernel
theorem dX11_name_1 : decode prog_24_method_10_code 1 = .ok (.invokevirtual 96, 3) := by decide +kernel
theorem dX11_name_4 : decode prog_24_method_10_code 4 = .ok (.aload_n 0, 1) := by decide +kernel
theorem dX11_name_5 : decode prog_24_method_10_code 5 = .ok (.getfield 23, 3) := by decide +kernel
theorem dX11_name_8 : decode prog_24_method_10_code 8 = .ok (.invokevirtual 103, 3) := by decide +kernel
theorem dX11_name_11 : decode prog_24_method_10_code 11 = .ok (.lstore_n 1, 1) := by decide +kernel
theorem dX11_name_12 : decode prog_24_method_10_code 12 = .ok (.lload_n 1, 1) := by decide +kernel
theorem dX11_name_13 : decode prog_24_method_10_code 13 = .ok (.invokestatic 107, 3) := by decide +kernel
theorem dX11_name_16 : decode prog_24_method_10_code 16 = .ok (.ifCond .eq 15, 3) := by decide +kernel
theorem dX11_name_19 : decode prog_24_method_10_code 19 = .ok (.aload_n 0, 1) := by decide +kernel
theorem dX11_name_20 : decode prog_24_method_10_code 20 = .ok (.getfield 23, 3) := by decide +kernel
theorem dX11_name_23 : decode prog_24_method_10_code 23 = .ok (.invokevirtual 27, 3) := by decide +kernel
theorem dX11_name_26 : decode prog_24_method_10_code 26 = .ok (.lload_n 1, 1) := by decide +kernel
theorem dX11_name_27 : decode prog_24_method_10_code 27 = .ok (.l2i, 1) := by decide +kernel
theorem dX11_name_28 : decode prog_24_method_10_code 28 = .ok (.iconst 1, 1) := by decide +kernel
theorem dX11_name_29 : decode prog_24_method_10_code 29 = .ok (.isub, 1) := by decide +kernel
theorem dX11_name_30 : decode prog_24_method_10_code 30 = .ok (.ireturn, 1) := by decide +kernel
theorem dX11_name_31 : decode prog_24_method_10_code 31 = .ok (.iconst 0, 1) := by decide +kernel
theorem dX11_name_32 : decode prog_24_method_10_code 32 = .ok (.istore_n 3, 1) := by decide +kernel
theorem dX11_name_33 : decode prog_24_method_10_code 33 = .ok (.iload_n 3, 1) := by decide +kernel
theorem dX11_name_34 : decode prog_24_method_10_code 34 = .ok (.aload_n 0, 1) := by decide +kernel
theorem dX11_name_35 : decode prog_24_method_10_code 35 = .ok (.getfield 100, 3) := by decide +kernel
theorem dX11_name_38 : decode prog_24_method_10_code 38 = .ok (.getfield 134, 3) := by decide +kernel
theorem dX11_name_41 : decode prog_24_method_10_code 41 = .ok (.if_icmp .ge 23, 3) := by decide +kernel
theorem dX11_name_44 : decode prog_24_method_10_code 44 = .ok (.aload_n 0, 1) := by decide +kernel
theorem dX11_name_45 : decode prog_24_method_10_code 45 = .ok (.getfield 100, 3) := by decide +kernel
theorem dX11_name_48 : decode prog_24_method_10_code 48 = .ok (.getfield 130, 3) := by decide +kernel
theorem dX11_name_51 : decode prog_24_method_10_code 51 = .ok (.iload_n 3, 1) := by decide +kernel
theorem dX11_name_52 : decode prog_24_method_10_code 52 = .ok (.laload, 1) := by decide +kernel
theorem dX11_name_53 : decode prog_24_method_10_code 53 = .ok (.lload_n 1, 1) := by decide +kernel
theorem dX11_name_54 : decode prog_24_method_10_code 54 = .ok (.lcmp, 1) := by decide +kernel
theorem dX11_name_55 : decode prog_24_method_10_code 55 = .ok (.ifCond .eq 9, 3) := by decide +kernel
theorem dX11_name_58 : decode prog_24_method_10_code 58 = .ok (.iinc 3 1, 3) := by decide +kernel
theorem dX11_name_61 : decode prog_24_method_10_code 61 = .ok (.goto (-28), 3) := by decide +kernel
theorem dX11_name_64 : decode prog_24_method_10_code 64 = .ok (.iload_n 3, 1) := by decide +kernel
theorem dX11_name_65 : decode prog_24_method_10_code 65 = .ok (.bipush 14, 2) := by decide +kernel
theorem dX11_name_67 : decode prog_24_method_10_code 67 = .ok (.if_icmp .ne 19, 3) := by decide +kernel
theorem dX11_name_70 : decode prog_24_method_10_code 70 = .ok (.aload_n 0, 1) := by decide +kernel
theorem dX11_name_71 : decode prog_24_method_10_code 71 = .ok (.getfield 23, 3) := by decide +kernel
theorem dX11_name_74 : decode prog_24_method_10_code 74 = .ok (.iconst 3, 1) := by decide +kernel
theorem dX11_name_75 : decode prog_24_method_10_code 75 = .ok (.aload_n 0, 1) := by decide +kernel
theorem dX11_name_76 : decode prog_24_method_10_code 76 = .ok (.getfield 23, 3) := by decide +kernel
theorem dX11_name_79 : decode prog_24_method_10_code 79 = .ok (.getfield 45, 3) := by decide +kernel
theorem dX11_name_82 : decode prog_24_method_10_code 82 = .ok (.invokevirtual 48, 3) := by decide +kernel
theorem dX11_name_85 : decode prog_24_method_10_code 85 = .ok (.athrow, 1) := by decide +kernel
theorem dX11_name_86 : decode prog_24_method_10_code 86 = .ok (.aload_n 0, 1) := by decide +kernel
theorem dX11_name_87 : decode prog_24_method_10_code 87 = .ok (.getfield 100, 3) := by decide +kernel
theorem dX11_name_90 : decode prog_24_method_10_code 90 = .ok (.getfield 130, 3) := by decide +kernel
theorem dX11_name_93 : decode prog_24_method_10_code 93 = .ok (.iload_n 3, 1) := by decide +kernel
theorem dX11_name_94 : decode prog_24_method_10_code 94 = .ok (.lload_n 1, 1) := by decide +kernel
theorem dX11_name_95 : decode prog_24_method_10_code 95 = .ok (.lastore, 1) := by decide +kernel
theorem dX11_name_96 : decode prog_24_method_10_code 96 = .ok (.aload_n 0, 1) := by decide +kernel
theorem dX11_name_97 : decode prog_24_method_10_code 97 = .ok (.getfield 100, 3) := by decide +kernel
theorem dX11_name_100 : decode prog_24_method_10_code 100 = .ok (.aload_n 0, 1) := by decide +kernel
theorem dX11_name_101 : decode prog_24_method_10_code 101 = .ok (.getfield 100, 3) := by decide +kernel
theorem dX11_name_104 : decode prog_24_method_10_code 104 = .ok (.getfield 134, 3) := by decide +kernel
theorem dX11_name_107 : decode prog_24_method_10_code 107 = .ok (.iload_n 3, 1) := by decide +kernel
theorem dX11_name_108 : decode prog_24_method_10_code 108 = .ok (.iconst 1, 1) := by decide +kernel
theorem dX11_name_109 : decode prog_24_method_10_code 109 = .ok (.iadd, 1) := by decide +kernel
theorem dX11_name_110 : decode prog_24_method_10_code 110 = .ok (.invokestatic 137, 3) := by decide +kernel
theorem dX11_name_113 : decode prog_24_method_10_code 113 = .ok (.putfield 134, 3) := by decide +kernel
theorem dX11_name_116 : decode prog_24_method_10_code 116 = .ok (.aload_n 0, 1) := by decide +kernel
theorem dX11_name_117 : decode prog_24_method_10_code 117 = .ok (.getfield 23, 3) := by decide +kernel
theorem dX11_name_120 : decode prog_24_method_10_code 120 = .ok (.invokevirtual 27, 3) := by decide +kernel
theorem dX11_name_123 : decode prog_24_method_10_code 123 = .ok (.bipush 8, 2) := by decide +kernel
theorem dX11_name_125 : decode prog_24_method_10_code 125 = .ok (.iload_n 3, 1) := by decide +kernel
theorem dX11_name_126 : decode prog_24_method_10_code 126 = .ok (.iadd, 1) := by decide +kernel
theorem dX11_name_127 : decode prog_24_method_10_code 127 = .ok (.ireturn, 1) := by decide +kernel
theorem dX11_isOf_0 : decode prog_24_method_21_code 0 = .ok (.aload_n 0, 1) := by decide +kernel
theorem dX11_isOf_1 : decode prog_24_method_21_code 1 = .ok (.getfield 23, 3) := by decide +kernel
theorem dX11_isOf_4 : decode prog_24_method_21_code 4 = .ok (.getfield 41, 3) := by decide +kernel
theorem dX11_isOf_7 : decode prog_24_method_21_code 7 = .ok (.iconst 3, 1) := by decide +kernel
theorem dX11_isOf_8 : decode prog_24_method_21_code 8 = .ok (.if_icmp .eq 5, 3) := by decide +kernel
theorem dX11_isOf_11 : decode prog_24_method_21_code 11 = .ok (.iconst 0, 1) := by decide +kernel
theorem dX11_isOf_12 : decode prog_24_method_21_code 12 = .ok (.ireturn, 1) := by decide +kernel
theorem dX11_isOf_13 : decode prog_24_method_21_code 13 = .ok (.iload_n 1, 1) := by decide +kernel
theorem dX11_isOf_14 : decode prog_24_method_21_code 14 = .ok (.tableswitch 168 0 2 #[26, 56, 138], 26) := by decide +kernel
theorem dX11_isOf_40 : decode prog_24_method_21_code 40 = .ok (.aload_n 0, 1) := by decide +kernel
theorem dX11_isOf_41 : decode prog_24_method_21_code 41 = .ok (.getfield 23, 3) := by decide +kernel
theorem dX11_isOf_44 : decode prog_24_method_21_code 44 = .ok (.getfield 276, 3) := by decide +kernel
theorem dX11_isOf_47 : decode prog_24_method_21_code 47 = .ok (.bipush 38, 2) := by decide +kernel
theorem dX11_isOf_49 : decode prog_24_method_21_code 49 = .ok (.if_icmp .eq 15, 3) := by decide +kernel
theorem dX11_isOf_52 : decode prog_24_method_21_code 52 = .ok (.aload_n 0, 1) := by decide +kernel
theorem dX11_isOf_53 : decode prog_24_method_21_code 53 = .ok (.getfield 23, 3) := by decide +kernel
theorem dX11_isOf_56 : decode prog_24_method_21_code 56 = .ok (.getfield 276, 3) := by decide +kernel
theorem dX11_isOf_59 : decode prog_24_method_21_code 59 = .ok (.bipush 124, 2) := by decide +kernel
theorem dX11_isOf_61 : decode prog_24_method_21_code 61 = .ok (.if_icmp .ne 7, 3) := by decide +kernel
theorem dX11_isOf_64 : decode prog_24_method_21_code 64 = .ok (.iconst 1, 1) := by decide +kernel
theorem dX11_isOf_65 : decode prog_24_method_21_code 65 = .ok (.goto 4, 3) := by decide +kernel
theorem dX11_isOf_68 : decode prog_24_method_21_code 68 = .ok (.iconst 0, 1) := by decide +kernel
theorem dX11_isOf_69 : decode prog_24_method_21_code 69 = .ok (.ireturn, 1) := by decide +kernel
theorem dX11_isOf_70 : decode prog_24_method_21_code 70 = .ok (.aload_n 0, 1) := by decide +kernel
theorem dX11_isOf_71 : decode prog_24_method_21_code 71 = .ok (.getfield 23, 3) := by decide +kernel
theorem dX11_isOf_74 : decode prog_24_method_21_code 74 = .ok (.getfield 276, 3) := by decide +kernel
theorem dX11_isOf_77 : decode prog_24_method_21_code 77 = .ok (.sipush 317, 3) := by decide +kernel
theorem dX11_isOf_80 : decode prog_24_method_21_code 80 = .ok (.if_icmp .eq 66, 3) := by decide +kernel
theorem dX11_isOf_83 : decode prog_24_method_21_code 83 = .ok (.aload_n 0, 1) := by decide +kernel
theorem dX11_isOf_84 : decode prog_24_method_21_code 84 = .ok (.getfield 23, 3) := by decide +kernel
theorem dX11_isOf_87 : decode prog_24_method_21_code 87 = .ok (.getfield 276, 3) := by decide +kernel
theorem dX11_isOf_90 : decode prog_24_method_21_code 90 = .ok (.sipush 289, 3) := by decide +kernel
theorem dX11_isOf_93 : decode prog_24_method_21_code 93 = .ok (.if_icmp .eq 53, 3) := by decide +kernel
theorem dX11_isOf_96 : decode prog_24_method_21_code 96 = .ok (.aload_n 0, 1) := by decide +kernel
theorem dX11_isOf_97 : decode prog_24_method_21_code 97 = .ok (.getfield 23, 3) := by decide +kernel
theorem dX11_isOf_100 : decode prog_24_method_21_code 100 = .ok (.getfield 276, 3) := by decide +kernel
theorem dX11_isOf_103 : decode prog_24_method_21_code 103 = .ok (.sipush 316, 3) := by decide +kernel
theorem dX11_isOf_106 : decode prog_24_method_21_code 106 = .ok (.if_icmp .eq 40, 3) := by decide +kernel
theorem dX11_isOf_109 : decode prog_24_method_21_code 109 = .ok (.aload_n 0, 1) := by decide +kernel
theorem dX11_isOf_110 : decode prog_24_method_21_code 110 = .ok (.getfield 23, 3) := by decide +kernel
theorem dX11_isOf_113 : decode prog_24_method_21_code 113 = .ok (.getfield 276, 3) := by decide +kernel
theorem dX11_isOf_116 : decode prog_24_method_21_code 116 = .ok (.sipush 318, 3) := by decide +kernel
theorem dX11_isOf_119 : decode prog_24_method_21_code 119 = .ok (.if_icmp .eq 27, 3) := by decide +kernel
theorem dX11_isOf_122 : decode prog_24_method_21_code 122 = .ok (.aload_n 0, 1) := by decide +kernel
theorem dX11_isOf_123 : decode prog_24_method_21_code 123 = .ok (.getfield 23, 3) := by decide +kernel
theorem dX11_isOf_126 : decode prog_24_method_21_code 126 = .ok (.getfield 276, 3) := by decide +kernel
theorem dX11_isOf_129 : decode prog_24_method_21_code 129 = .ok (.bipush 60, 2) := by decide +kernel
theorem dX11_isOf_131 : decode prog_24_method_21_code 131 = .ok (.if_icmp .eq 15, 3) := by decide +kernel
theorem dX11_isOf_134 : decode prog_24_method_21_code 134 = .ok (.aload_n 0, 1) := by decide +kernel
theorem dX11_isOf_135 : decode prog_24_method_21_code 135 = .ok (.getfield 23, 3) := by decide +kernel
