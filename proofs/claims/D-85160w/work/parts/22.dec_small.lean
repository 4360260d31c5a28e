/-! decode rows: printed by gen_dec.py -/
theorem dX19_init_0 : decode prog_17_method_1_code 0 = .ok (.aload_n 0, 1) := by decide +kernel
theorem dX19_init_1 : decode prog_17_method_1_code 1 = .ok (.invokespecial 1, 3) := by decide +kernel
theorem dX19_init_4 : decode prog_17_method_1_code 4 = .ok (.aload_n 0, 1) := by decide +kernel
theorem dX19_init_5 : decode prog_17_method_1_code 5 = .ok (.iconst 2, 1) := by decide +kernel
theorem dX19_init_6 : decode prog_17_method_1_code 6 = .ok (.anewarray 7, 3) := by decide +kernel
theorem dX19_init_9 : decode prog_17_method_1_code 9 = .ok (.putfield 9, 3) := by decide +kernel
theorem dX19_init_12 : decode prog_17_method_1_code 12 = .ok (.aload_n 0, 1) := by decide +kernel
theorem dX19_init_13 : decode prog_17_method_1_code 13 = .ok (.iconst 2, 1) := by decide +kernel
theorem dX19_init_14 : decode prog_17_method_1_code 14 = .ok (.newarray .int, 2) := by decide +kernel
theorem dX19_init_16 : decode prog_17_method_1_code 16 = .ok (.putfield 15, 3) := by decide +kernel
theorem dX19_init_19 : decode prog_17_method_1_code 19 = .ok (.aload_n 0, 1) := by decide +kernel
theorem dX19_init_20 : decode prog_17_method_1_code 20 = .ok (.iconst 2, 1) := by decide +kernel
theorem dX19_init_21 : decode prog_17_method_1_code 21 = .ok (.newarray .int, 2) := by decide +kernel
theorem dX19_init_23 : decode prog_17_method_1_code 23 = .ok (.putfield 19, 3) := by decide +kernel
theorem dX19_init_26 : decode prog_17_method_1_code 26 = .ok (.return_, 1) := by decide +kernel
theorem dX19_add_0 : decode prog_17_method_2_code 0 = .ok (.aload_n 0, 1) := by decide +kernel
theorem dX19_add_1 : decode prog_17_method_2_code 1 = .ok (.getfield 22, 3) := by decide +kernel
theorem dX19_add_4 : decode prog_17_method_2_code 4 = .ok (.aload_n 0, 1) := by decide +kernel
theorem dX19_add_5 : decode prog_17_method_2_code 5 = .ok (.getfield 9, 3) := by decide +kernel
theorem dX19_add_8 : decode prog_17_method_2_code 8 = .ok (.arraylength, 1) := by decide +kernel
theorem dX19_add_9 : decode prog_17_method_2_code 9 = .ok (.if_icmp .ne 7, 3) := by decide +kernel
theorem dX19_add_12 : decode prog_17_method_2_code 12 = .ok (.aload_n 0, 1) := by decide +kernel
theorem dX19_add_13 : decode prog_17_method_2_code 13 = .ok (.invokevirtual 26, 3) := by decide +kernel
theorem dX19_add_16 : decode prog_17_method_2_code 16 = .ok (.aload_n 0, 1) := by decide +kernel
theorem dX19_add_17 : decode prog_17_method_2_code 17 = .ok (.getfield 9, 3) := by decide +kernel
theorem dX19_add_20 : decode prog_17_method_2_code 20 = .ok (.aload_n 0, 1) := by decide +kernel
theorem dX19_add_21 : decode prog_17_method_2_code 21 = .ok (.getfield 22, 3) := by decide +kernel
theorem dX19_add_24 : decode prog_17_method_2_code 24 = .ok (.aload_n 1, 1) := by decide +kernel
theorem dX19_add_25 : decode prog_17_method_2_code 25 = .ok (.aastore, 1) := by decide +kernel
theorem dX19_add_26 : decode prog_17_method_2_code 26 = .ok (.aload_n 0, 1) := by decide +kernel
theorem dX19_add_27 : decode prog_17_method_2_code 27 = .ok (.getfield 15, 3) := by decide +kernel
theorem dX19_add_30 : decode prog_17_method_2_code 30 = .ok (.aload_n 0, 1) := by decide +kernel
theorem dX19_add_31 : decode prog_17_method_2_code 31 = .ok (.getfield 22, 3) := by decide +kernel
theorem dX19_add_34 : decode prog_17_method_2_code 34 = .ok (.iload_n 2, 1) := by decide +kernel
theorem dX19_add_35 : decode prog_17_method_2_code 35 = .ok (.iastore, 1) := by decide +kernel
theorem dX19_add_36 : decode prog_17_method_2_code 36 = .ok (.aload_n 0, 1) := by decide +kernel
theorem dX19_add_37 : decode prog_17_method_2_code 37 = .ok (.getfield 19, 3) := by decide +kernel
theorem dX19_add_40 : decode prog_17_method_2_code 40 = .ok (.aload_n 0, 1) := by decide +kernel
theorem dX19_add_41 : decode prog_17_method_2_code 41 = .ok (.getfield 22, 3) := by decide +kernel
theorem dX19_add_44 : decode prog_17_method_2_code 44 = .ok (.iload_n 3, 1) := by decide +kernel
theorem dX19_add_45 : decode prog_17_method_2_code 45 = .ok (.iastore, 1) := by decide +kernel
theorem dX19_add_46 : decode prog_17_method_2_code 46 = .ok (.aload_n 0, 1) := by decide +kernel
theorem dX19_add_47 : decode prog_17_method_2_code 47 = .ok (.dup, 1) := by decide +kernel
theorem dX19_add_48 : decode prog_17_method_2_code 48 = .ok (.getfield 22, 3) := by decide +kernel
theorem dX19_add_51 : decode prog_17_method_2_code 51 = .ok (.iconst 1, 1) := by decide +kernel
theorem dX19_add_52 : decode prog_17_method_2_code 52 = .ok (.iadd, 1) := by decide +kernel
theorem dX19_add_53 : decode prog_17_method_2_code 53 = .ok (.putfield 22, 3) := by decide +kernel
theorem dX19_add_56 : decode prog_17_method_2_code 56 = .ok (.return_, 1) := by decide +kernel
theorem dX19_grow_0 : decode prog_17_method_3_code 0 = .ok (.iconst 4, 1) := by decide +kernel
theorem dX19_grow_1 : decode prog_17_method_3_code 1 = .ok (.aload_n 0, 1) := by decide +kernel
theorem dX19_grow_2 : decode prog_17_method_3_code 2 = .ok (.getfield 22, 3) := by decide +kernel
theorem dX19_grow_5 : decode prog_17_method_3_code 5 = .ok (.imul, 1) := by decide +kernel
theorem dX19_grow_6 : decode prog_17_method_3_code 6 = .ok (.anewarray 7, 3) := by decide +kernel
theorem dX19_grow_9 : decode prog_17_method_3_code 9 = .ok (.astore_n 1, 1) := by decide +kernel
theorem dX19_grow_10 : decode prog_17_method_3_code 10 = .ok (.iconst 4, 1) := by decide +kernel
theorem dX19_grow_11 : decode prog_17_method_3_code 11 = .ok (.aload_n 0, 1) := by decide +kernel
theorem dX19_grow_12 : decode prog_17_method_3_code 12 = .ok (.getfield 22, 3) := by decide +kernel
theorem dX19_grow_15 : decode prog_17_method_3_code 15 = .ok (.imul, 1) := by decide +kernel
theorem dX19_grow_16 : decode prog_17_method_3_code 16 = .ok (.newarray .int, 2) := by decide +kernel
theorem dX19_grow_18 : decode prog_17_method_3_code 18 = .ok (.astore_n 2, 1) := by decide +kernel
theorem dX19_grow_19 : decode prog_17_method_3_code 19 = .ok (.iconst 4, 1) := by decide +kernel
theorem dX19_grow_20 : decode prog_17_method_3_code 20 = .ok (.aload_n 0, 1) := by decide +kernel
theorem dX19_grow_21 : decode prog_17_method_3_code 21 = .ok (.getfield 22, 3) := by decide +kernel
theorem dX19_grow_24 : decode prog_17_method_3_code 24 = .ok (.imul, 1) := by decide +kernel
theorem dX19_grow_25 : decode prog_17_method_3_code 25 = .ok (.newarray .int, 2) := by decide +kernel
theorem dX19_grow_27 : decode prog_17_method_3_code 27 = .ok (.astore_n 3, 1) := by decide +kernel
theorem dX19_grow_28 : decode prog_17_method_3_code 28 = .ok (.iconst 0, 1) := by decide +kernel
theorem dX19_grow_29 : decode prog_17_method_3_code 29 = .ok (.istore 4, 2) := by decide +kernel
theorem dX19_grow_31 : decode prog_17_method_3_code 31 = .ok (.iload 4, 2) := by decide +kernel
theorem dX19_grow_33 : decode prog_17_method_3_code 33 = .ok (.aload_n 0, 1) := by decide +kernel
theorem dX19_grow_34 : decode prog_17_method_3_code 34 = .ok (.getfield 22, 3) := by decide +kernel
theorem dX19_grow_37 : decode prog_17_method_3_code 37 = .ok (.if_icmp .ge 42, 3) := by decide +kernel
theorem dX19_grow_40 : decode prog_17_method_3_code 40 = .ok (.aload_n 1, 1) := by decide +kernel
theorem dX19_grow_41 : decode prog_17_method_3_code 41 = .ok (.iload 4, 2) := by decide +kernel
theorem dX19_grow_43 : decode prog_17_method_3_code 43 = .ok (.aload_n 0, 1) := by decide +kernel
theorem dX19_grow_44 : decode prog_17_method_3_code 44 = .ok (.getfield 9, 3) := by decide +kernel
theorem dX19_grow_47 : decode prog_17_method_3_code 47 = .ok (.iload 4, 2) := by decide +kernel
theorem dX19_grow_49 : decode prog_17_method_3_code 49 = .ok (.aaload, 1) := by decide +kernel
theorem dX19_grow_50 : decode prog_17_method_3_code 50 = .ok (.aastore, 1) := by decide +kernel
theorem dX19_grow_51 : decode prog_17_method_3_code 51 = .ok (.aload_n 2, 1) := by decide +kernel
theorem dX19_grow_52 : decode prog_17_method_3_code 52 = .ok (.iload 4, 2) := by decide +kernel
theorem dX19_grow_54 : decode prog_17_method_3_code 54 = .ok (.aload_n 0, 1) := by decide +kernel
theorem dX19_grow_55 : decode prog_17_method_3_code 55 = .ok (.getfield 15, 3) := by decide +kernel
theorem dX19_grow_58 : decode prog_17_method_3_code 58 = .ok (.iload 4, 2) := by decide +kernel
theorem dX19_grow_60 : decode prog_17_method_3_code 60 = .ok (.iaload, 1) := by decide +kernel
theorem dX19_grow_61 : decode prog_17_method_3_code 61 = .ok (.iastore, 1) := by decide +kernel
theorem dX19_grow_62 : decode prog_17_method_3_code 62 = .ok (.aload_n 3, 1) := by decide +kernel
theorem dX19_grow_63 : decode prog_17_method_3_code 63 = .ok (.iload 4, 2) := by decide +kernel
theorem dX19_grow_65 : decode prog_17_method_3_code 65 = .ok (.aload_n 0, 1) := by decide +kernel
theorem dX19_grow_66 : decode prog_17_method_3_code 66 = .ok (.getfield 19, 3) := by decide +kernel
theorem dX19_grow_69 : decode prog_17_method_3_code 69 = .ok (.iload 4, 2) := by decide +kernel
theorem dX19_grow_71 : decode prog_17_method_3_code 71 = .ok (.iaload, 1) := by decide +kernel
theorem dX19_grow_72 : decode prog_17_method_3_code 72 = .ok (.iastore, 1) := by decide +kernel
theorem dX19_grow_73 : decode prog_17_method_3_code 73 = .ok (.iinc 4 1, 3) := by decide +kernel
theorem dX19_grow_76 : decode prog_17_method_3_code 76 = .ok (.goto (-45), 3) := by decide +kernel
theorem dX19_grow_79 : decode prog_17_method_3_code 79 = .ok (.aload_n 0, 1) := by decide +kernel
theorem dX19_grow_80 : decode prog_17_method_3_code 80 = .ok (.aload_n 1, 1) := by decide +kernel
theorem dX19_grow_81 : decode prog_17_method_3_code 81 = .ok (.putfield 9, 3) := by decide +kernel
theorem dX19_grow_84 : decode prog_17_method_3_code 84 = .ok (.aload_n 0, 1) := by decide +kernel
theorem dX19_grow_85 : decode prog_17_method_3_code 85 = .ok (.aload_n 2, 1) := by decide +kernel
theorem dX19_grow_86 : decode prog_17_method_3_code 86 = .ok (.putfield 15, 3) := by decide +kernel
theorem dX19_grow_89 : decode prog_17_method_3_code 89 = .ok (.aload_n 0, 1) := by decide +kernel
theorem dX19_grow_90 : decode prog_17_method_3_code 90 = .ok (.aload_n 3, 1) := by decide +kernel
theorem dX19_grow_91 : decode prog_17_method_3_code 91 = .ok (.putfield 19, 3) := by decide +kernel
theorem dX19_grow_94 : decode prog_17_method_3_code 94 = .ok (.return_, 1) := by decide +kernel
theorem dX32_init_0 : decode prog_25_method_1_code 0 = .ok (.aload_n 0, 1) := by decide +kernel
theorem dX32_init_1 : decode prog_25_method_1_code 1 = .ok (.invokespecial 3, 3) := by decide +kernel
theorem dX32_init_4 : decode prog_25_method_1_code 4 = .ok (.aload_n 0, 1) := by decide +kernel
theorem dX32_init_5 : decode prog_25_method_1_code 5 = .ok (.aload_n 1, 1) := by decide +kernel
theorem dX32_init_6 : decode prog_25_method_1_code 6 = .ok (.putfield 9, 3) := by decide +kernel
theorem dX32_init_9 : decode prog_25_method_1_code 9 = .ok (.return_, 1) := by decide +kernel
theorem dX32_made_0 : decode prog_25_method_5_code 0 = .ok (.iconst 4, 1) := by decide +kernel
theorem dX32_made_1 : decode prog_25_method_5_code 1 = .ok (.aload_n 0, 1) := by decide +kernel
theorem dX32_made_2 : decode prog_25_method_5_code 2 = .ok (.getfield 9, 3) := by decide +kernel
theorem dX32_made_5 : decode prog_25_method_5_code 5 = .ok (.arraylength, 1) := by decide +kernel
theorem dX32_made_6 : decode prog_25_method_5_code 6 = .ok (.iadd, 1) := by decide +kernel
theorem dX32_made_7 : decode prog_25_method_5_code 7 = .ok (.ireturn, 1) := by decide +kernel
theorem dX32_size_0 : decode prog_25_method_3_code 0 = .ok (.aload_n 0, 1) := by decide +kernel
theorem dX32_size_1 : decode prog_25_method_3_code 1 = .ok (.getfield 9, 3) := by decide +kernel
theorem dX32_size_4 : decode prog_25_method_3_code 4 = .ok (.arraylength, 1) := by decide +kernel
theorem dX32_size_5 : decode prog_25_method_3_code 5 = .ok (.ireturn, 1) := by decide +kernel
theorem dX32_bulk_0 : decode prog_25_method_4_code 0 = .ok (.iconst 1, 1) := by decide +kernel
theorem dX32_bulk_1 : decode prog_25_method_4_code 1 = .ok (.aload_n 0, 1) := by decide +kernel
theorem dX32_bulk_2 : decode prog_25_method_4_code 2 = .ok (.getfield 9, 3) := by decide +kernel
theorem dX32_bulk_5 : decode prog_25_method_4_code 5 = .ok (.arraylength, 1) := by decide +kernel
theorem dX32_bulk_6 : decode prog_25_method_4_code 6 = .ok (.iadd, 1) := by decide +kernel
theorem dX32_bulk_7 : decode prog_25_method_4_code 7 = .ok (.ireturn, 1) := by decide +kernel
theorem dX32_kind_0 : decode prog_25_method_2_code 0 = .ok (.iconst 1, 1) := by decide +kernel
theorem dX32_kind_1 : decode prog_25_method_2_code 1 = .ok (.ireturn, 1) := by decide +kernel
theorem dX32_same_0 : decode prog_25_method_7_code 0 = .ok (.aload_n 1, 1) := by decide +kernel
theorem dX32_same_1 : decode prog_25_method_7_code 1 = .ok (.instanceof 10, 3) := by decide +kernel
theorem dX32_same_4 : decode prog_25_method_7_code 4 = .ok (.ifCond .eq 26, 3) := by decide +kernel
theorem dX32_same_7 : decode prog_25_method_7_code 7 = .ok (.aload_n 1, 1) := by decide +kernel
theorem dX32_same_8 : decode prog_25_method_7_code 8 = .ok (.checkcast 10, 3) := by decide +kernel
theorem dX32_same_11 : decode prog_25_method_7_code 11 = .ok (.astore_n 2, 1) := by decide +kernel
theorem dX32_same_12 : decode prog_25_method_7_code 12 = .ok (.aload_n 0, 1) := by decide +kernel
theorem dX32_same_13 : decode prog_25_method_7_code 13 = .ok (.getfield 9, 3) := by decide +kernel
theorem dX32_same_16 : decode prog_25_method_7_code 16 = .ok (.aload_n 2, 1) := by decide +kernel
theorem dX32_same_17 : decode prog_25_method_7_code 17 = .ok (.getfield 9, 3) := by decide +kernel
theorem dX32_same_20 : decode prog_25_method_7_code 20 = .ok (.invokestatic 15, 3) := by decide +kernel
theorem dX32_same_23 : decode prog_25_method_7_code 23 = .ok (.ifCond .eq 7, 3) := by decide +kernel
theorem dX32_same_26 : decode prog_25_method_7_code 26 = .ok (.iconst 1, 1) := by decide +kernel
theorem dX32_same_27 : decode prog_25_method_7_code 27 = .ok (.goto 4, 3) := by decide +kernel
theorem dX32_same_30 : decode prog_25_method_7_code 30 = .ok (.iconst 0, 1) := by decide +kernel
theorem dX32_same_31 : decode prog_25_method_7_code 31 = .ok (.ireturn, 1) := by decide +kernel
theorem dX32_alike_0 : decode prog_25_method_6_code 0 = .ok (.aload_n 0, 1) := by decide +kernel
theorem dX32_alike_1 : decode prog_25_method_6_code 1 = .ok (.arraylength, 1) := by decide +kernel
theorem dX32_alike_2 : decode prog_25_method_6_code 2 = .ok (.aload_n 1, 1) := by decide +kernel
theorem dX32_alike_3 : decode prog_25_method_6_code 3 = .ok (.arraylength, 1) := by decide +kernel
theorem dX32_alike_4 : decode prog_25_method_6_code 4 = .ok (.if_icmp .ne 7, 3) := by decide +kernel
theorem dX32_alike_7 : decode prog_25_method_6_code 7 = .ok (.iconst 1, 1) := by decide +kernel
theorem dX32_alike_8 : decode prog_25_method_6_code 8 = .ok (.goto 4, 3) := by decide +kernel
theorem dX32_alike_11 : decode prog_25_method_6_code 11 = .ok (.iconst 0, 1) := by decide +kernel
theorem dX32_alike_12 : decode prog_25_method_6_code 12 = .ok (.istore_n 2, 1) := by decide +kernel
theorem dX32_alike_13 : decode prog_25_method_6_code 13 = .ok (.iconst 0, 1) := by decide +kernel
theorem dX32_alike_14 : decode prog_25_method_6_code 14 = .ok (.istore_n 3, 1) := by decide +kernel
theorem dX32_alike_15 : decode prog_25_method_6_code 15 = .ok (.iload_n 2, 1) := by decide +kernel
theorem dX32_alike_16 : decode prog_25_method_6_code 16 = .ok (.ifCond .eq 30, 3) := by decide +kernel
theorem dX32_alike_19 : decode prog_25_method_6_code 19 = .ok (.iload_n 3, 1) := by decide +kernel
theorem dX32_alike_20 : decode prog_25_method_6_code 20 = .ok (.aload_n 0, 1) := by decide +kernel
theorem dX32_alike_21 : decode prog_25_method_6_code 21 = .ok (.arraylength, 1) := by decide +kernel
theorem dX32_alike_22 : decode prog_25_method_6_code 22 = .ok (.if_icmp .ge 24, 3) := by decide +kernel
theorem dX32_alike_25 : decode prog_25_method_6_code 25 = .ok (.aload_n 0, 1) := by decide +kernel
theorem dX32_alike_26 : decode prog_25_method_6_code 26 = .ok (.iload_n 3, 1) := by decide +kernel
theorem dX32_alike_27 : decode prog_25_method_6_code 27 = .ok (.iaload, 1) := by decide +kernel
theorem dX32_alike_28 : decode prog_25_method_6_code 28 = .ok (.aload_n 1, 1) := by decide +kernel
theorem dX32_alike_29 : decode prog_25_method_6_code 29 = .ok (.iload_n 3, 1) := by decide +kernel
theorem dX32_alike_30 : decode prog_25_method_6_code 30 = .ok (.iaload, 1) := by decide +kernel
theorem dX32_alike_31 : decode prog_25_method_6_code 31 = .ok (.if_icmp .ne 7, 3) := by decide +kernel
theorem dX32_alike_34 : decode prog_25_method_6_code 34 = .ok (.iconst 1, 1) := by decide +kernel
theorem dX32_alike_35 : decode prog_25_method_6_code 35 = .ok (.goto 4, 3) := by decide +kernel
theorem dX32_alike_38 : decode prog_25_method_6_code 38 = .ok (.iconst 0, 1) := by decide +kernel
theorem dX32_alike_39 : decode prog_25_method_6_code 39 = .ok (.istore_n 2, 1) := by decide +kernel
theorem dX32_alike_40 : decode prog_25_method_6_code 40 = .ok (.iinc 3 1, 3) := by decide +kernel
theorem dX32_alike_43 : decode prog_25_method_6_code 43 = .ok (.goto (-28), 3) := by decide +kernel
theorem dX32_alike_46 : decode prog_25_method_6_code 46 = .ok (.iload_n 2, 1) := by decide +kernel
theorem dX32_alike_47 : decode prog_25_method_6_code 47 = .ok (.ireturn, 1) := by decide +kernel
theorem dX32_form_0 : decode prog_25_method_9_code 0 = .ok (.aload_n 0, 1) := by decide +kernel
theorem dX32_form_1 : decode prog_25_method_9_code 1 = .ok (.getfield 9, 3) := by decide +kernel
theorem dX32_form_4 : decode prog_25_method_9_code 4 = .ok (.aload_n 1, 1) := by decide +kernel
theorem dX32_form_5 : decode prog_25_method_9_code 5 = .ok (.invokestatic 28, 3) := by decide +kernel
theorem dX32_form_8 : decode prog_25_method_9_code 8 = .ok (.return_, 1) := by decide +kernel
theorem dX32_form_2_0 : decode prog_25_method_8_code 0 = .ok (.aload_n 1, 1) := by decide +kernel
theorem dX32_form_2_1 : decode prog_25_method_8_code 1 = .ok (.bipush 91, 2) := by decide +kernel
theorem dX32_form_2_3 : decode prog_25_method_8_code 3 = .ok (.invokevirtual 19, 3) := by decide +kernel
theorem dX32_form_2_6 : decode prog_25_method_8_code 6 = .ok (.iconst 0, 1) := by decide +kernel
theorem dX32_form_2_7 : decode prog_25_method_8_code 7 = .ok (.istore_n 2, 1) := by decide +kernel
theorem dX32_form_2_8 : decode prog_25_method_8_code 8 = .ok (.iload_n 2, 1) := by decide +kernel
theorem dX32_form_2_9 : decode prog_25_method_8_code 9 = .ok (.aload_n 0, 1) := by decide +kernel
theorem dX32_form_2_10 : decode prog_25_method_8_code 10 = .ok (.arraylength, 1) := by decide +kernel
theorem dX32_form_2_11 : decode prog_25_method_8_code 11 = .ok (.if_icmp .ge 26, 3) := by decide +kernel
theorem dX32_form_2_14 : decode prog_25_method_8_code 14 = .ok (.iload_n 2, 1) := by decide +kernel
theorem dX32_form_2_15 : decode prog_25_method_8_code 15 = .ok (.ifCond .le 9, 3) := by decide +kernel
theorem dX32_form_2_18 : decode prog_25_method_8_code 18 = .ok (.aload_n 1, 1) := by decide +kernel
theorem dX32_form_2_19 : decode prog_25_method_8_code 19 = .ok (.bipush 32, 2) := by decide +kernel
theorem dX32_form_2_21 : decode prog_25_method_8_code 21 = .ok (.invokevirtual 19, 3) := by decide +kernel
theorem dX32_form_2_24 : decode prog_25_method_8_code 24 = .ok (.aload_n 1, 1) := by decide +kernel
theorem dX32_form_2_25 : decode prog_25_method_8_code 25 = .ok (.aload_n 0, 1) := by decide +kernel
theorem dX32_form_2_26 : decode prog_25_method_8_code 26 = .ok (.iload_n 2, 1) := by decide +kernel
theorem dX32_form_2_27 : decode prog_25_method_8_code 27 = .ok (.iaload, 1) := by decide +kernel
theorem dX32_form_2_28 : decode prog_25_method_8_code 28 = .ok (.invokevirtual 25, 3) := by decide +kernel
theorem dX32_form_2_31 : decode prog_25_method_8_code 31 = .ok (.iinc 2 1, 3) := by decide +kernel
theorem dX32_form_2_34 : decode prog_25_method_8_code 34 = .ok (.goto (-26), 3) := by decide +kernel
theorem dX32_form_2_37 : decode prog_25_method_8_code 37 = .ok (.aload_n 1, 1) := by decide +kernel
theorem dX32_form_2_38 : decode prog_25_method_8_code 38 = .ok (.bipush 93, 2) := by decide +kernel
theorem dX32_form_2_40 : decode prog_25_method_8_code 40 = .ok (.invokevirtual 19, 3) := by decide +kernel
theorem dX32_form_2_43 : decode prog_25_method_8_code 43 = .ok (.return_, 1) := by decide +kernel
theorem dX32_sum_0 : decode prog_25_method_11_code 0 = .ok (.aload_n 0, 1) := by decide +kernel
theorem dX32_sum_1 : decode prog_25_method_11_code 1 = .ok (.getfield 9, 3) := by decide +kernel
theorem dX32_sum_4 : decode prog_25_method_11_code 4 = .ok (.lload_n 1, 1) := by decide +kernel
theorem dX32_sum_5 : decode prog_25_method_11_code 5 = .ok (.lconst 1, 1) := by decide +kernel
theorem dX32_sum_6 : decode prog_25_method_11_code 6 = .ok (.invokestatic 32, 3) := by decide +kernel
theorem dX32_sum_9 : decode prog_25_method_11_code 9 = .ok (.invokestatic 36, 3) := by decide +kernel
theorem dX32_sum_12 : decode prog_25_method_11_code 12 = .ok (.lreturn, 1) := by decide +kernel
theorem dX32_sum_2_0 : decode prog_25_method_10_code 0 = .ok (.lload_n 1, 1) := by decide +kernel
theorem dX32_sum_2_1 : decode prog_25_method_10_code 1 = .ok (.aload_n 0, 1) := by decide +kernel
theorem dX32_sum_2_2 : decode prog_25_method_10_code 2 = .ok (.arraylength, 1) := by decide +kernel
theorem dX32_sum_2_3 : decode prog_25_method_10_code 3 = .ok (.i2l, 1) := by decide +kernel
theorem dX32_sum_2_4 : decode prog_25_method_10_code 4 = .ok (.invokestatic 32, 3) := by decide +kernel
theorem dX32_sum_2_7 : decode prog_25_method_10_code 7 = .ok (.lstore_n 3, 1) := by decide +kernel
theorem dX32_sum_2_8 : decode prog_25_method_10_code 8 = .ok (.iconst 0, 1) := by decide +kernel
theorem dX32_sum_2_9 : decode prog_25_method_10_code 9 = .ok (.istore 5, 2) := by decide +kernel
theorem dX32_sum_2_11 : decode prog_25_method_10_code 11 = .ok (.iload 5, 2) := by decide +kernel
theorem dX32_sum_2_13 : decode prog_25_method_10_code 13 = .ok (.aload_n 0, 1) := by decide +kernel
theorem dX32_sum_2_14 : decode prog_25_method_10_code 14 = .ok (.arraylength, 1) := by decide +kernel
theorem dX32_sum_2_15 : decode prog_25_method_10_code 15 = .ok (.if_icmp .ge 19, 3) := by decide +kernel
theorem dX32_sum_2_18 : decode prog_25_method_10_code 18 = .ok (.lload_n 3, 1) := by decide +kernel
theorem dX32_sum_2_19 : decode prog_25_method_10_code 19 = .ok (.aload_n 0, 1) := by decide +kernel
theorem dX32_sum_2_20 : decode prog_25_method_10_code 20 = .ok (.iload 5, 2) := by decide +kernel
theorem dX32_sum_2_22 : decode prog_25_method_10_code 22 = .ok (.iaload, 1) := by decide +kernel
theorem dX32_sum_2_23 : decode prog_25_method_10_code 23 = .ok (.i2l, 1) := by decide +kernel
theorem dX32_sum_2_24 : decode prog_25_method_10_code 24 = .ok (.invokestatic 32, 3) := by decide +kernel
theorem dX32_sum_2_27 : decode prog_25_method_10_code 27 = .ok (.lstore_n 3, 1) := by decide +kernel
theorem dX32_sum_2_28 : decode prog_25_method_10_code 28 = .ok (.iinc 5 1, 3) := by decide +kernel
theorem dX32_sum_2_31 : decode prog_25_method_10_code 31 = .ok (.goto (-20), 3) := by decide +kernel
theorem dX32_sum_2_34 : decode prog_25_method_10_code 34 = .ok (.lload_n 3, 1) := by decide +kernel
theorem dX32_sum_2_35 : decode prog_25_method_10_code 35 = .ok (.lreturn, 1) := by decide +kernel
theorem dX35_made_0 : decode prog_34_method_5_code 0 = .ok (.iconst 0, 1) := by decide +kernel
theorem dX35_made_1 : decode prog_34_method_5_code 1 = .ok (.ireturn, 1) := by decide +kernel
theorem dX35_size_0 : decode prog_34_method_3_code 0 = .ok (.iconst 0, 1) := by decide +kernel
theorem dX35_size_1 : decode prog_34_method_3_code 1 = .ok (.ireturn, 1) := by decide +kernel
theorem dX35_bulk_0 : decode prog_34_method_4_code 0 = .ok (.iconst 1, 1) := by decide +kernel
theorem dX35_bulk_1 : decode prog_34_method_4_code 1 = .ok (.ireturn, 1) := by decide +kernel
theorem dX35_init_0 : decode prog_34_method_1_code 0 = .ok (.aload_n 0, 1) := by decide +kernel
theorem dX35_init_1 : decode prog_34_method_1_code 1 = .ok (.invokespecial 3, 3) := by decide +kernel
theorem dX35_init_4 : decode prog_34_method_1_code 4 = .ok (.aload_n 0, 1) := by decide +kernel
theorem dX35_init_5 : decode prog_34_method_1_code 5 = .ok (.iload_n 1, 1) := by decide +kernel
theorem dX35_init_6 : decode prog_34_method_1_code 6 = .ok (.putfield 9, 3) := by decide +kernel
theorem dX35_init_9 : decode prog_34_method_1_code 9 = .ok (.return_, 1) := by decide +kernel
theorem dX35_kind_0 : decode prog_34_method_2_code 0 = .ok (.iconst 0, 1) := by decide +kernel
theorem dX35_kind_1 : decode prog_34_method_2_code 1 = .ok (.ireturn, 1) := by decide +kernel
theorem dX35_same_0 : decode prog_34_method_6_code 0 = .ok (.aload_n 1, 1) := by decide +kernel
theorem dX35_same_1 : decode prog_34_method_6_code 1 = .ok (.instanceof 10, 3) := by decide +kernel
theorem dX35_same_4 : decode prog_34_method_6_code 4 = .ok (.ifCond .eq 23, 3) := by decide +kernel
theorem dX35_same_7 : decode prog_34_method_6_code 7 = .ok (.aload_n 1, 1) := by decide +kernel
theorem dX35_same_8 : decode prog_34_method_6_code 8 = .ok (.checkcast 10, 3) := by decide +kernel
theorem dX35_same_11 : decode prog_34_method_6_code 11 = .ok (.astore_n 2, 1) := by decide +kernel
theorem dX35_same_12 : decode prog_34_method_6_code 12 = .ok (.aload_n 2, 1) := by decide +kernel
theorem dX35_same_13 : decode prog_34_method_6_code 13 = .ok (.getfield 9, 3) := by decide +kernel
theorem dX35_same_16 : decode prog_34_method_6_code 16 = .ok (.aload_n 0, 1) := by decide +kernel
theorem dX35_same_17 : decode prog_34_method_6_code 17 = .ok (.getfield 9, 3) := by decide +kernel
theorem dX35_same_20 : decode prog_34_method_6_code 20 = .ok (.if_icmp .ne 7, 3) := by decide +kernel
theorem dX35_same_23 : decode prog_34_method_6_code 23 = .ok (.iconst 1, 1) := by decide +kernel
theorem dX35_same_24 : decode prog_34_method_6_code 24 = .ok (.goto 4, 3) := by decide +kernel
theorem dX35_same_27 : decode prog_34_method_6_code 27 = .ok (.iconst 0, 1) := by decide +kernel
theorem dX35_same_28 : decode prog_34_method_6_code 28 = .ok (.ireturn, 1) := by decide +kernel
theorem dX35_form_0 : decode prog_34_method_7_code 0 = .ok (.aload_n 1, 1) := by decide +kernel
theorem dX35_form_1 : decode prog_34_method_7_code 1 = .ok (.aload_n 0, 1) := by decide +kernel
theorem dX35_form_2 : decode prog_34_method_7_code 2 = .ok (.getfield 9, 3) := by decide +kernel
theorem dX35_form_5 : decode prog_34_method_7_code 5 = .ok (.invokevirtual 15, 3) := by decide +kernel
theorem dX35_form_8 : decode prog_34_method_7_code 8 = .ok (.return_, 1) := by decide +kernel
theorem dX35_sum_0 : decode prog_34_method_8_code 0 = .ok (.lload_n 1, 1) := by decide +kernel
theorem dX35_sum_1 : decode prog_34_method_8_code 1 = .ok (.lconst 0, 1) := by decide +kernel
theorem dX35_sum_2 : decode prog_34_method_8_code 2 = .ok (.invokestatic 21, 3) := by decide +kernel
theorem dX35_sum_5 : decode prog_34_method_8_code 5 = .ok (.aload_n 0, 1) := by decide +kernel
theorem dX35_sum_6 : decode prog_34_method_8_code 6 = .ok (.getfield 9, 3) := by decide +kernel
theorem dX35_sum_9 : decode prog_34_method_8_code 9 = .ok (.i2l, 1) := by decide +kernel
theorem dX35_sum_10 : decode prog_34_method_8_code 10 = .ok (.invokestatic 21, 3) := by decide +kernel
theorem dX35_sum_13 : decode prog_34_method_8_code 13 = .ok (.lreturn, 1) := by decide +kernel
theorem dX8_init_0 : decode prog_19_method_1_code 0 = .ok (.aload_n 0, 1) := by decide +kernel
theorem dX8_init_1 : decode prog_19_method_1_code 1 = .ok (.invokespecial 3, 3) := by decide +kernel
theorem dX8_init_4 : decode prog_19_method_1_code 4 = .ok (.aload_n 0, 1) := by decide +kernel
theorem dX8_init_5 : decode prog_19_method_1_code 5 = .ok (.sipush 600, 3) := by decide +kernel
theorem dX8_init_8 : decode prog_19_method_1_code 8 = .ok (.newarray .byte, 2) := by decide +kernel
theorem dX8_init_10 : decode prog_19_method_1_code 10 = .ok (.putfield 9, 3) := by decide +kernel
theorem dX8_init_13 : decode prog_19_method_1_code 13 = .ok (.return_, 1) := by decide +kernel
theorem dX8_number_0 : decode prog_19_method_3_code 0 = .ok (.iload_n 1, 1) := by decide +kernel
theorem dX8_number_1 : decode prog_19_method_3_code 1 = .ok (.ifCond .ge 9, 3) := by decide +kernel
theorem dX8_number_4 : decode prog_19_method_3_code 4 = .ok (.aload_n 0, 1) := by decide +kernel
theorem dX8_number_5 : decode prog_19_method_3_code 5 = .ok (.bipush 45, 2) := by decide +kernel
theorem dX8_number_7 : decode prog_19_method_3_code 7 = .ok (.invokevirtual 19, 3) := by decide +kernel
theorem dX8_number_10 : decode prog_19_method_3_code 10 = .ok (.iload_n 1, 1) := by decide +kernel
theorem dX8_number_11 : decode prog_19_method_3_code 11 = .ok (.ifCond .ge 9, 3) := by decide +kernel
theorem dX8_number_14 : decode prog_19_method_3_code 14 = .ok (.iload_n 1, 1) := by decide +kernel
theorem dX8_number_15 : decode prog_19_method_3_code 15 = .ok (.i2l, 1) := by decide +kernel
theorem dX8_number_16 : decode prog_19_method_3_code 16 = .ok (.lneg, 1) := by decide +kernel
theorem dX8_number_17 : decode prog_19_method_3_code 17 = .ok (.goto 5, 3) := by decide +kernel
theorem dX8_number_20 : decode prog_19_method_3_code 20 = .ok (.iload_n 1, 1) := by decide +kernel
theorem dX8_number_21 : decode prog_19_method_3_code 21 = .ok (.i2l, 1) := by decide +kernel
theorem dX8_number_22 : decode prog_19_method_3_code 22 = .ok (.lstore_n 2, 1) := by decide +kernel
theorem dX8_number_23 : decode prog_19_method_3_code 23 = .ok (.lconst 1, 1) := by decide +kernel
theorem dX8_number_24 : decode prog_19_method_3_code 24 = .ok (.lstore 4, 2) := by decide +kernel
theorem dX8_number_26 : decode prog_19_method_3_code 26 = .ok (.lload_n 2, 1) := by decide +kernel
theorem dX8_number_27 : decode prog_19_method_3_code 27 = .ok (.lload 4, 2) := by decide +kernel
theorem dX8_number_29 : decode prog_19_method_3_code 29 = .ok (.ldiv, 1) := by decide +kernel
theorem dX8_number_30 : decode prog_19_method_3_code 30 = .ok (.ldc2_w 23, 3) := by decide +kernel
theorem dX8_number_33 : decode prog_19_method_3_code 33 = .ok (.lcmp, 1) := by decide +kernel
theorem dX8_number_34 : decode prog_19_method_3_code 34 = .ok (.ifCond .le 14, 3) := by decide +kernel
theorem dX8_number_37 : decode prog_19_method_3_code 37 = .ok (.ldc2_w 25, 3) := by decide +kernel
theorem dX8_number_40 : decode prog_19_method_3_code 40 = .ok (.lload 4, 2) := by decide +kernel
theorem dX8_number_42 : decode prog_19_method_3_code 42 = .ok (.lmul, 1) := by decide +kernel
theorem dX8_number_43 : decode prog_19_method_3_code 43 = .ok (.lstore 4, 2) := by decide +kernel
theorem dX8_number_45 : decode prog_19_method_3_code 45 = .ok (.goto (-19), 3) := by decide +kernel
theorem dX8_number_48 : decode prog_19_method_3_code 48 = .ok (.lload 4, 2) := by decide +kernel
theorem dX8_number_50 : decode prog_19_method_3_code 50 = .ok (.lconst 0, 1) := by decide +kernel
theorem dX8_number_51 : decode prog_19_method_3_code 51 = .ok (.lcmp, 1) := by decide +kernel
theorem dX8_number_52 : decode prog_19_method_3_code 52 = .ok (.ifCond .le 31, 3) := by decide +kernel
theorem dX8_number_55 : decode prog_19_method_3_code 55 = .ok (.aload_n 0, 1) := by decide +kernel
theorem dX8_number_56 : decode prog_19_method_3_code 56 = .ok (.ldc2_w 27, 3) := by decide +kernel
theorem dX8_number_59 : decode prog_19_method_3_code 59 = .ok (.lload_n 2, 1) := by decide +kernel
theorem dX8_number_60 : decode prog_19_method_3_code 60 = .ok (.lload 4, 2) := by decide +kernel
theorem dX8_number_62 : decode prog_19_method_3_code 62 = .ok (.ldiv, 1) := by decide +kernel
theorem dX8_number_63 : decode prog_19_method_3_code 63 = .ok (.ldc2_w 25, 3) := by decide +kernel
theorem dX8_number_66 : decode prog_19_method_3_code 66 = .ok (.lrem, 1) := by decide +kernel
theorem dX8_number_67 : decode prog_19_method_3_code 67 = .ok (.ladd, 1) := by decide +kernel
theorem dX8_number_68 : decode prog_19_method_3_code 68 = .ok (.l2i, 1) := by decide +kernel
theorem dX8_number_69 : decode prog_19_method_3_code 69 = .ok (.invokevirtual 19, 3) := by decide +kernel
theorem dX8_number_72 : decode prog_19_method_3_code 72 = .ok (.lload 4, 2) := by decide +kernel
theorem dX8_number_74 : decode prog_19_method_3_code 74 = .ok (.ldc2_w 25, 3) := by decide +kernel
theorem dX8_number_77 : decode prog_19_method_3_code 77 = .ok (.ldiv, 1) := by decide +kernel
theorem dX8_number_78 : decode prog_19_method_3_code 78 = .ok (.lstore 4, 2) := by decide +kernel
theorem dX8_number_80 : decode prog_19_method_3_code 80 = .ok (.goto (-32), 3) := by decide +kernel
theorem dX8_number_83 : decode prog_19_method_3_code 83 = .ok (.return_, 1) := by decide +kernel
theorem dX8_sign_0 : decode prog_19_method_2_code 0 = .ok (.aload_n 0, 1) := by decide +kernel
theorem dX8_sign_1 : decode prog_19_method_2_code 1 = .ok (.getfield 15, 3) := by decide +kernel
theorem dX8_sign_4 : decode prog_19_method_2_code 4 = .ok (.sipush 600, 3) := by decide +kernel
theorem dX8_sign_7 : decode prog_19_method_2_code 7 = .ok (.if_icmp .ge 14, 3) := by decide +kernel
theorem dX8_sign_10 : decode prog_19_method_2_code 10 = .ok (.aload_n 0, 1) := by decide +kernel
theorem dX8_sign_11 : decode prog_19_method_2_code 11 = .ok (.getfield 9, 3) := by decide +kernel
theorem dX8_sign_14 : decode prog_19_method_2_code 14 = .ok (.aload_n 0, 1) := by decide +kernel
theorem dX8_sign_15 : decode prog_19_method_2_code 15 = .ok (.getfield 15, 3) := by decide +kernel
theorem dX8_sign_18 : decode prog_19_method_2_code 18 = .ok (.iload_n 1, 1) := by decide +kernel
theorem dX8_sign_19 : decode prog_19_method_2_code 19 = .ok (.i2b, 1) := by decide +kernel
theorem dX8_sign_20 : decode prog_19_method_2_code 20 = .ok (.bastore, 1) := by decide +kernel
theorem dX8_sign_21 : decode prog_19_method_2_code 21 = .ok (.aload_n 0, 1) := by decide +kernel
theorem dX8_sign_22 : decode prog_19_method_2_code 22 = .ok (.dup, 1) := by decide +kernel
theorem dX8_sign_23 : decode prog_19_method_2_code 23 = .ok (.getfield 15, 3) := by decide +kernel
theorem dX8_sign_26 : decode prog_19_method_2_code 26 = .ok (.iconst 1, 1) := by decide +kernel
theorem dX8_sign_27 : decode prog_19_method_2_code 27 = .ok (.iadd, 1) := by decide +kernel
theorem dX8_sign_28 : decode prog_19_method_2_code 28 = .ok (.putfield 15, 3) := by decide +kernel
theorem dX8_sign_31 : decode prog_19_method_2_code 31 = .ok (.return_, 1) := by decide +kernel
