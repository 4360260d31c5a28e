/-! decode rows -/
theorem dX11_isOf_138 : decode prog_24_method_21_code 138 = .ok (.getfield 276, 3) := by decide +kernel
theorem dX11_isOf_141 : decode prog_24_method_21_code 141 = .ok (.bipush 62, 2) := by decide +kernel
theorem dX11_isOf_143 : decode prog_24_method_21_code 143 = .ok (.if_icmp .ne 7, 3) := by decide +kernel
theorem dX11_isOf_146 : decode prog_24_method_21_code 146 = .ok (.iconst 1, 1) := by decide +kernel
theorem dX11_isOf_147 : decode prog_24_method_21_code 147 = .ok (.goto 4, 3) := by decide +kernel
theorem dX11_isOf_150 : decode prog_24_method_21_code 150 = .ok (.iconst 0, 1) := by decide +kernel
theorem dX11_isOf_151 : decode prog_24_method_21_code 151 = .ok (.ireturn, 1) := by decide +kernel
theorem dX11_isOf_152 : decode prog_24_method_21_code 152 = .ok (.aload_n 0, 1) := by decide +kernel
theorem dX11_isOf_153 : decode prog_24_method_21_code 153 = .ok (.getfield 23, 3) := by decide +kernel
theorem dX11_isOf_156 : decode prog_24_method_21_code 156 = .ok (.getfield 276, 3) := by decide +kernel
theorem dX11_isOf_159 : decode prog_24_method_21_code 159 = .ok (.bipush 43, 2) := by decide +kernel
theorem dX11_isOf_161 : decode prog_24_method_21_code 161 = .ok (.if_icmp .eq 15, 3) := by decide +kernel
theorem dX11_isOf_164 : decode prog_24_method_21_code 164 = .ok (.aload_n 0, 1) := by decide +kernel
theorem dX11_isOf_165 : decode prog_24_method_21_code 165 = .ok (.getfield 23, 3) := by decide +kernel
theorem dX11_isOf_168 : decode prog_24_method_21_code 168 = .ok (.getfield 276, 3) := by decide +kernel
theorem dX11_isOf_171 : decode prog_24_method_21_code 171 = .ok (.bipush 45, 2) := by decide +kernel
theorem dX11_isOf_173 : decode prog_24_method_21_code 173 = .ok (.if_icmp .ne 7, 3) := by decide +kernel
theorem dX11_isOf_176 : decode prog_24_method_21_code 176 = .ok (.iconst 1, 1) := by decide +kernel
theorem dX11_isOf_177 : decode prog_24_method_21_code 177 = .ok (.goto 4, 3) := by decide +kernel
theorem dX11_isOf_180 : decode prog_24_method_21_code 180 = .ok (.iconst 0, 1) := by decide +kernel
theorem dX11_isOf_181 : decode prog_24_method_21_code 181 = .ok (.ireturn, 1) := by decide +kernel
theorem dX11_isOf_182 : decode prog_24_method_21_code 182 = .ok (.aload_n 0, 1) := by decide +kernel
theorem dX11_isOf_183 : decode prog_24_method_21_code 183 = .ok (.getfield 23, 3) := by decide +kernel
theorem dX11_isOf_186 : decode prog_24_method_21_code 186 = .ok (.getfield 276, 3) := by decide +kernel
theorem dX11_isOf_189 : decode prog_24_method_21_code 189 = .ok (.bipush 42, 2) := by decide +kernel
theorem dX11_isOf_191 : decode prog_24_method_21_code 191 = .ok (.if_icmp .eq 27, 3) := by decide +kernel
theorem dX11_isOf_194 : decode prog_24_method_21_code 194 = .ok (.aload_n 0, 1) := by decide +kernel
theorem dX11_isOf_195 : decode prog_24_method_21_code 195 = .ok (.getfield 23, 3) := by decide +kernel
theorem dX11_isOf_198 : decode prog_24_method_21_code 198 = .ok (.getfield 276, 3) := by decide +kernel
theorem dX11_isOf_201 : decode prog_24_method_21_code 201 = .ok (.bipush 47, 2) := by decide +kernel
theorem dX11_isOf_203 : decode prog_24_method_21_code 203 = .ok (.if_icmp .eq 15, 3) := by decide +kernel
theorem dX11_isOf_206 : decode prog_24_method_21_code 206 = .ok (.aload_n 0, 1) := by decide +kernel
theorem dX11_isOf_207 : decode prog_24_method_21_code 207 = .ok (.getfield 23, 3) := by decide +kernel
theorem dX11_isOf_210 : decode prog_24_method_21_code 210 = .ok (.getfield 276, 3) := by decide +kernel
theorem dX11_isOf_213 : decode prog_24_method_21_code 213 = .ok (.bipush 37, 2) := by decide +kernel
theorem dX11_isOf_215 : decode prog_24_method_21_code 215 = .ok (.if_icmp .ne 7, 3) := by decide +kernel
theorem dX11_isOf_218 : decode prog_24_method_21_code 218 = .ok (.iconst 1, 1) := by decide +kernel
theorem dX11_isOf_219 : decode prog_24_method_21_code 219 = .ok (.goto 4, 3) := by decide +kernel
theorem dX11_isOf_222 : decode prog_24_method_21_code 222 = .ok (.iconst 0, 1) := by decide +kernel
theorem dX11_isOf_223 : decode prog_24_method_21_code 223 = .ok (.ireturn, 1) := by decide +kernel
theorem dX11_loop_0 : decode prog_24_method_17_code 0 = .ok (.new 225, 3) := by decide +kernel
theorem dX11_loop_3 : decode prog_24_method_17_code 3 = .ok (.dup, 1) := by decide +kernel
theorem dX11_loop_4 : decode prog_24_method_17_code 4 = .ok (.invokespecial 227, 3) := by decide +kernel
theorem dX11_loop_7 : decode prog_24_method_17_code 7 = .ok (.astore_n 1, 1) := by decide +kernel
theorem dX11_loop_8 : decode prog_24_method_17_code 8 = .ok (.aload_n 0, 1) := by decide +kernel
theorem dX11_loop_9 : decode prog_24_method_17_code 9 = .ok (.getfield 23, 3) := by decide +kernel
theorem dX11_loop_12 : decode prog_24_method_17_code 12 = .ok (.invokevirtual 27, 3) := by decide +kernel
theorem dX11_loop_15 : decode prog_24_method_17_code 15 = .ok (.aload_n 0, 1) := by decide +kernel
theorem dX11_loop_16 : decode prog_24_method_17_code 16 = .ok (.getfield 23, 3) := by decide +kernel
theorem dX11_loop_19 : decode prog_24_method_17_code 19 = .ok (.bipush 40, 2) := by decide +kernel
theorem dX11_loop_21 : decode prog_24_method_17_code 21 = .ok (.invokevirtual 111, 3) := by decide +kernel
theorem dX11_loop_24 : decode prog_24_method_17_code 24 = .ok (.aload_n 1, 1) := by decide +kernel
theorem dX11_loop_25 : decode prog_24_method_17_code 25 = .ok (.aload_n 0, 1) := by decide +kernel
theorem dX11_loop_26 : decode prog_24_method_17_code 26 = .ok (.invokevirtual 208, 3) := by decide +kernel
theorem dX11_loop_29 : decode prog_24_method_17_code 29 = .ok (.putfield 228, 3) := by decide +kernel
theorem dX11_loop_32 : decode prog_24_method_17_code 32 = .ok (.aload_n 0, 1) := by decide +kernel
theorem dX11_loop_33 : decode prog_24_method_17_code 33 = .ok (.getfield 23, 3) := by decide +kernel
theorem dX11_loop_36 : decode prog_24_method_17_code 36 = .ok (.bipush 41, 2) := by decide +kernel
theorem dX11_loop_38 : decode prog_24_method_17_code 38 = .ok (.invokevirtual 111, 3) := by decide +kernel
theorem dX11_loop_41 : decode prog_24_method_17_code 41 = .ok (.aload_n 1, 1) := by decide +kernel
theorem dX11_loop_42 : decode prog_24_method_17_code 42 = .ok (.aload_n 0, 1) := by decide +kernel
theorem dX11_loop_43 : decode prog_24_method_17_code 43 = .ok (.invokevirtual 122, 3) := by decide +kernel
theorem dX11_loop_46 : decode prog_24_method_17_code 46 = .ok (.putfield 229, 3) := by decide +kernel
theorem dX11_loop_49 : decode prog_24_method_17_code 49 = .ok (.aload_n 1, 1) := by decide +kernel
theorem dX11_loop_50 : decode prog_24_method_17_code 50 = .ok (.areturn, 1) := by decide +kernel
theorem dX11_walk_0 : decode prog_24_method_18_code 0 = .ok (.new 230, 3) := by decide +kernel
theorem dX11_walk_3 : decode prog_24_method_18_code 3 = .ok (.dup, 1) := by decide +kernel
theorem dX11_walk_4 : decode prog_24_method_18_code 4 = .ok (.invokespecial 232, 3) := by decide +kernel
theorem dX11_walk_7 : decode prog_24_method_18_code 7 = .ok (.astore_n 1, 1) := by decide +kernel
theorem dX11_walk_8 : decode prog_24_method_18_code 8 = .ok (.aload_n 0, 1) := by decide +kernel
theorem dX11_walk_9 : decode prog_24_method_18_code 9 = .ok (.getfield 23, 3) := by decide +kernel
theorem dX11_walk_12 : decode prog_24_method_18_code 12 = .ok (.invokevirtual 27, 3) := by decide +kernel
theorem dX11_walk_15 : decode prog_24_method_18_code 15 = .ok (.aload_n 1, 1) := by decide +kernel
theorem dX11_walk_16 : decode prog_24_method_18_code 16 = .ok (.aload_n 0, 1) := by decide +kernel
theorem dX11_walk_17 : decode prog_24_method_18_code 17 = .ok (.invokevirtual 233, 3) := by decide +kernel
theorem dX11_walk_20 : decode prog_24_method_18_code 20 = .ok (.putfield 235, 3) := by decide +kernel
theorem dX11_walk_23 : decode prog_24_method_18_code 23 = .ok (.aload_n 0, 1) := by decide +kernel
theorem dX11_walk_24 : decode prog_24_method_18_code 24 = .ok (.ldc 238, 2) := by decide +kernel
theorem dX11_walk_26 : decode prog_24_method_18_code 26 = .ok (.invokevirtual 240, 3) := by decide +kernel
theorem dX11_walk_29 : decode prog_24_method_18_code 29 = .ok (.aload_n 1, 1) := by decide +kernel
theorem dX11_walk_30 : decode prog_24_method_18_code 30 = .ok (.aload_n 0, 1) := by decide +kernel
theorem dX11_walk_31 : decode prog_24_method_18_code 31 = .ok (.invokevirtual 208, 3) := by decide +kernel
theorem dX11_walk_34 : decode prog_24_method_18_code 34 = .ok (.putfield 243, 3) := by decide +kernel
theorem dX11_walk_37 : decode prog_24_method_18_code 37 = .ok (.aload_n 1, 1) := by decide +kernel
theorem dX11_walk_38 : decode prog_24_method_18_code 38 = .ok (.aload_n 0, 1) := by decide +kernel
theorem dX11_walk_39 : decode prog_24_method_18_code 39 = .ok (.invokevirtual 122, 3) := by decide +kernel
theorem dX11_walk_42 : decode prog_24_method_18_code 42 = .ok (.putfield 246, 3) := by decide +kernel
theorem dX11_walk_45 : decode prog_24_method_18_code 45 = .ok (.aload_n 1, 1) := by decide +kernel
theorem dX11_walk_46 : decode prog_24_method_18_code 46 = .ok (.areturn, 1) := by decide +kernel
theorem dX11_take_0 : decode prog_24_method_11_code 0 = .ok (.aload_n 0, 1) := by decide +kernel
theorem dX11_take_1 : decode prog_24_method_11_code 1 = .ok (.getfield 23, 3) := by decide +kernel
theorem dX11_take_4 : decode prog_24_method_11_code 4 = .ok (.aload_n 1, 1) := by decide +kernel
theorem dX11_take_5 : decode prog_24_method_11_code 5 = .ok (.invokevirtual 34, 3) := by decide +kernel
theorem dX11_take_8 : decode prog_24_method_11_code 8 = .ok (.ifCond .ne 19, 3) := by decide +kernel
theorem dX11_take_11 : decode prog_24_method_11_code 11 = .ok (.aload_n 0, 1) := by decide +kernel
theorem dX11_take_12 : decode prog_24_method_11_code 12 = .ok (.getfield 23, 3) := by decide +kernel
theorem dX11_take_15 : decode prog_24_method_11_code 15 = .ok (.iconst 2, 1) := by decide +kernel
theorem dX11_take_16 : decode prog_24_method_11_code 16 = .ok (.aload_n 0, 1) := by decide +kernel
theorem dX11_take_17 : decode prog_24_method_11_code 17 = .ok (.getfield 23, 3) := by decide +kernel
theorem dX11_take_20 : decode prog_24_method_11_code 20 = .ok (.getfield 45, 3) := by decide +kernel
theorem dX11_take_23 : decode prog_24_method_11_code 23 = .ok (.invokevirtual 48, 3) := by decide +kernel
theorem dX11_take_26 : decode prog_24_method_11_code 26 = .ok (.athrow, 1) := by decide +kernel
theorem dX11_take_27 : decode prog_24_method_11_code 27 = .ok (.aload_n 0, 1) := by decide +kernel
theorem dX11_take_28 : decode prog_24_method_11_code 28 = .ok (.getfield 23, 3) := by decide +kernel
theorem dX11_take_31 : decode prog_24_method_11_code 31 = .ok (.invokevirtual 27, 3) := by decide +kernel
theorem dX11_take_34 : decode prog_24_method_11_code 34 = .ok (.return_, 1) := by decide +kernel
theorem dX11_plain_0 : decode prog_24_method_15_code 0 = .ok (.new 196, 3) := by decide +kernel
theorem dX11_plain_3 : decode prog_24_method_15_code 3 = .ok (.dup, 1) := by decide +kernel
theorem dX11_plain_4 : decode prog_24_method_15_code 4 = .ok (.iload_n 1, 1) := by decide +kernel
theorem dX11_plain_5 : decode prog_24_method_15_code 5 = .ok (.invokespecial 198, 3) := by decide +kernel
theorem dX11_plain_8 : decode prog_24_method_15_code 8 = .ok (.astore_n 2, 1) := by decide +kernel
theorem dX11_plain_9 : decode prog_24_method_15_code 9 = .ok (.aload_n 0, 1) := by decide +kernel
theorem dX11_plain_10 : decode prog_24_method_15_code 10 = .ok (.getfield 23, 3) := by decide +kernel
theorem dX11_plain_13 : decode prog_24_method_15_code 13 = .ok (.invokevirtual 27, 3) := by decide +kernel
theorem dX11_plain_16 : decode prog_24_method_15_code 16 = .ok (.aload_n 2, 1) := by decide +kernel
theorem dX11_plain_17 : decode prog_24_method_15_code 17 = .ok (.aload_n 0, 1) := by decide +kernel
theorem dX11_plain_18 : decode prog_24_method_15_code 18 = .ok (.invokevirtual 208, 3) := by decide +kernel
theorem dX11_plain_21 : decode prog_24_method_15_code 21 = .ok (.putfield 204, 3) := by decide +kernel
theorem dX11_plain_24 : decode prog_24_method_15_code 24 = .ok (.aload_n 0, 1) := by decide +kernel
theorem dX11_plain_25 : decode prog_24_method_15_code 25 = .ok (.getfield 23, 3) := by decide +kernel
theorem dX11_plain_28 : decode prog_24_method_15_code 28 = .ok (.bipush 59, 2) := by decide +kernel
theorem dX11_plain_30 : decode prog_24_method_15_code 30 = .ok (.invokevirtual 111, 3) := by decide +kernel
theorem dX11_plain_33 : decode prog_24_method_15_code 33 = .ok (.aload_n 2, 1) := by decide +kernel
theorem dX11_plain_34 : decode prog_24_method_15_code 34 = .ok (.areturn, 1) := by decide +kernel
theorem dX11_attempt_0 : decode prog_24_method_19_code 0 = .ok (.new 247, 3) := by decide +kernel
theorem dX11_attempt_3 : decode prog_24_method_19_code 3 = .ok (.dup, 1) := by decide +kernel
theorem dX11_attempt_4 : decode prog_24_method_19_code 4 = .ok (.invokespecial 249, 3) := by decide +kernel
theorem dX11_attempt_7 : decode prog_24_method_19_code 7 = .ok (.astore_n 1, 1) := by decide +kernel
theorem dX11_attempt_8 : decode prog_24_method_19_code 8 = .ok (.aload_n 0, 1) := by decide +kernel
theorem dX11_attempt_9 : decode prog_24_method_19_code 9 = .ok (.getfield 23, 3) := by decide +kernel
theorem dX11_attempt_12 : decode prog_24_method_19_code 12 = .ok (.invokevirtual 27, 3) := by decide +kernel
theorem dX11_attempt_15 : decode prog_24_method_19_code 15 = .ok (.aload_n 1, 1) := by decide +kernel
theorem dX11_attempt_16 : decode prog_24_method_19_code 16 = .ok (.aload_n 0, 1) := by decide +kernel
theorem dX11_attempt_17 : decode prog_24_method_19_code 17 = .ok (.invokevirtual 122, 3) := by decide +kernel
theorem dX11_attempt_20 : decode prog_24_method_19_code 20 = .ok (.putfield 250, 3) := by decide +kernel
theorem dX11_attempt_23 : decode prog_24_method_19_code 23 = .ok (.aload_n 1, 1) := by decide +kernel
theorem dX11_attempt_24 : decode prog_24_method_19_code 24 = .ok (.aload_n 0, 1) := by decide +kernel
theorem dX11_attempt_25 : decode prog_24_method_19_code 25 = .ok (.getfield 23, 3) := by decide +kernel
theorem dX11_attempt_28 : decode prog_24_method_19_code 28 = .ok (.getfield 45, 3) := by decide +kernel
theorem dX11_attempt_31 : decode prog_24_method_19_code 31 = .ok (.putfield 251, 3) := by decide +kernel
theorem dX11_attempt_34 : decode prog_24_method_19_code 34 = .ok (.aload_n 0, 1) := by decide +kernel
theorem dX11_attempt_35 : decode prog_24_method_19_code 35 = .ok (.ldc 254, 2) := by decide +kernel
theorem dX11_attempt_37 : decode prog_24_method_19_code 37 = .ok (.invokevirtual 240, 3) := by decide +kernel
theorem dX11_attempt_40 : decode prog_24_method_19_code 40 = .ok (.aload_n 1, 1) := by decide +kernel
theorem dX11_attempt_41 : decode prog_24_method_19_code 41 = .ok (.aload_n 0, 1) := by decide +kernel
theorem dX11_attempt_42 : decode prog_24_method_19_code 42 = .ok (.invokevirtual 233, 3) := by decide +kernel
theorem dX11_attempt_45 : decode prog_24_method_19_code 45 = .ok (.putfield 256, 3) := by decide +kernel
theorem dX11_attempt_48 : decode prog_24_method_19_code 48 = .ok (.aload_n 1, 1) := by decide +kernel
theorem dX11_attempt_49 : decode prog_24_method_19_code 49 = .ok (.aload_n 0, 1) := by decide +kernel
theorem dX11_attempt_50 : decode prog_24_method_19_code 50 = .ok (.invokevirtual 122, 3) := by decide +kernel
theorem dX11_attempt_53 : decode prog_24_method_19_code 53 = .ok (.putfield 257, 3) := by decide +kernel
theorem dX11_attempt_56 : decode prog_24_method_19_code 56 = .ok (.aload_n 1, 1) := by decide +kernel
theorem dX11_attempt_57 : decode prog_24_method_19_code 57 = .ok (.areturn, 1) := by decide +kernel
theorem dX11_alone_0 : decode prog_24_method_14_code 0 = .ok (.new 196, 3) := by decide +kernel
theorem dX11_alone_3 : decode prog_24_method_14_code 3 = .ok (.dup, 1) := by decide +kernel
theorem dX11_alone_4 : decode prog_24_method_14_code 4 = .ok (.iconst 4, 1) := by decide +kernel
theorem dX11_alone_5 : decode prog_24_method_14_code 5 = .ok (.invokespecial 198, 3) := by decide +kernel
theorem dX11_alone_8 : decode prog_24_method_14_code 8 = .ok (.astore_n 1, 1) := by decide +kernel
theorem dX11_alone_9 : decode prog_24_method_14_code 9 = .ok (.aload_n 1, 1) := by decide +kernel
theorem dX11_alone_10 : decode prog_24_method_14_code 10 = .ok (.aload_n 0, 1) := by decide +kernel
theorem dX11_alone_11 : decode prog_24_method_14_code 11 = .ok (.invokevirtual 200, 3) := by decide +kernel
theorem dX11_alone_14 : decode prog_24_method_14_code 14 = .ok (.putfield 204, 3) := by decide +kernel
theorem dX11_alone_17 : decode prog_24_method_14_code 17 = .ok (.aload_n 0, 1) := by decide +kernel
theorem dX11_alone_18 : decode prog_24_method_14_code 18 = .ok (.getfield 23, 3) := by decide +kernel
theorem dX11_alone_21 : decode prog_24_method_14_code 21 = .ok (.bipush 59, 2) := by decide +kernel
theorem dX11_alone_23 : decode prog_24_method_14_code 23 = .ok (.invokevirtual 111, 3) := by decide +kernel
theorem dX11_alone_26 : decode prog_24_method_14_code 26 = .ok (.aload_n 1, 1) := by decide +kernel
theorem dX11_alone_27 : decode prog_24_method_14_code 27 = .ok (.areturn, 1) := by decide +kernel
theorem dX11_assign_0 : decode prog_24_method_20_code 0 = .ok (.new 258, 3) := by decide +kernel
theorem dX11_assign_3 : decode prog_24_method_20_code 3 = .ok (.dup, 1) := by decide +kernel
theorem dX11_assign_4 : decode prog_24_method_20_code 4 = .ok (.invokespecial 260, 3) := by decide +kernel
theorem dX11_assign_7 : decode prog_24_method_20_code 7 = .ok (.astore_n 1, 1) := by decide +kernel
theorem dX11_assign_8 : decode prog_24_method_20_code 8 = .ok (.aload_n 1, 1) := by decide +kernel
theorem dX11_assign_9 : decode prog_24_method_20_code 9 = .ok (.aload_n 0, 1) := by decide +kernel
theorem dX11_assign_10 : decode prog_24_method_20_code 10 = .ok (.getfield 23, 3) := by decide +kernel
theorem dX11_assign_13 : decode prog_24_method_20_code 13 = .ok (.getfield 45, 3) := by decide +kernel
theorem dX11_assign_16 : decode prog_24_method_20_code 16 = .ok (.putfield 261, 3) := by decide +kernel
theorem dX11_assign_19 : decode prog_24_method_20_code 19 = .ok (.aload_n 1, 1) := by decide +kernel
theorem dX11_assign_20 : decode prog_24_method_20_code 20 = .ok (.aload_n 0, 1) := by decide +kernel
theorem dX11_assign_21 : decode prog_24_method_20_code 21 = .ok (.invokevirtual 233, 3) := by decide +kernel
theorem dX11_assign_24 : decode prog_24_method_20_code 24 = .ok (.putfield 262, 3) := by decide +kernel
theorem dX11_assign_27 : decode prog_24_method_20_code 27 = .ok (.aload_n 0, 1) := by decide +kernel
theorem dX11_assign_28 : decode prog_24_method_20_code 28 = .ok (.getfield 23, 3) := by decide +kernel
theorem dX11_assign_31 : decode prog_24_method_20_code 31 = .ok (.bipush 91, 2) := by decide +kernel
theorem dX11_assign_33 : decode prog_24_method_20_code 33 = .ok (.invokevirtual 115, 3) := by decide +kernel
theorem dX11_assign_36 : decode prog_24_method_20_code 36 = .ok (.ifCond .eq 40, 3) := by decide +kernel
theorem dX11_assign_39 : decode prog_24_method_20_code 39 = .ok (.aload_n 1, 1) := by decide +kernel
theorem dX11_assign_40 : decode prog_24_method_20_code 40 = .ok (.aload_n 0, 1) := by decide +kernel
theorem dX11_assign_41 : decode prog_24_method_20_code 41 = .ok (.getfield 23, 3) := by decide +kernel
theorem dX11_assign_44 : decode prog_24_method_20_code 44 = .ok (.getfield 45, 3) := by decide +kernel
theorem dX11_assign_47 : decode prog_24_method_20_code 47 = .ok (.putfield 263, 3) := by decide +kernel
theorem dX11_assign_50 : decode prog_24_method_20_code 50 = .ok (.aload_n 0, 1) := by decide +kernel
theorem dX11_assign_51 : decode prog_24_method_20_code 51 = .ok (.getfield 23, 3) := by decide +kernel
theorem dX11_assign_54 : decode prog_24_method_20_code 54 = .ok (.bipush 91, 2) := by decide +kernel
theorem dX11_assign_56 : decode prog_24_method_20_code 56 = .ok (.invokevirtual 111, 3) := by decide +kernel
theorem dX11_assign_59 : decode prog_24_method_20_code 59 = .ok (.aload_n 1, 1) := by decide +kernel
theorem dX11_assign_60 : decode prog_24_method_20_code 60 = .ok (.aload_n 0, 1) := by decide +kernel
theorem dX11_assign_61 : decode prog_24_method_20_code 61 = .ok (.invokevirtual 208, 3) := by decide +kernel
theorem dX11_assign_64 : decode prog_24_method_20_code 64 = .ok (.putfield 266, 3) := by decide +kernel
theorem dX11_assign_67 : decode prog_24_method_20_code 67 = .ok (.aload_n 0, 1) := by decide +kernel
theorem dX11_assign_68 : decode prog_24_method_20_code 68 = .ok (.getfield 23, 3) := by decide +kernel
theorem dX11_assign_71 : decode prog_24_method_20_code 71 = .ok (.bipush 93, 2) := by decide +kernel
theorem dX11_assign_73 : decode prog_24_method_20_code 73 = .ok (.invokevirtual 111, 3) := by decide +kernel
theorem dX11_assign_76 : decode prog_24_method_20_code 76 = .ok (.aload_n 1, 1) := by decide +kernel
theorem dX11_assign_77 : decode prog_24_method_20_code 77 = .ok (.getfield 266, 3) := by decide +kernel
theorem dX11_assign_80 : decode prog_24_method_20_code 80 = .ok (.ifnull 52, 3) := by decide +kernel
theorem dX11_assign_83 : decode prog_24_method_20_code 83 = .ok (.aload_n 0, 1) := by decide +kernel
theorem dX11_assign_84 : decode prog_24_method_20_code 84 = .ok (.getfield 23, 3) := by decide +kernel
theorem dX11_assign_87 : decode prog_24_method_20_code 87 = .ok (.bipush 91, 2) := by decide +kernel
theorem dX11_assign_89 : decode prog_24_method_20_code 89 = .ok (.invokevirtual 115, 3) := by decide +kernel
theorem dX11_assign_92 : decode prog_24_method_20_code 92 = .ok (.ifCond .eq 40, 3) := by decide +kernel
theorem dX11_assign_95 : decode prog_24_method_20_code 95 = .ok (.aload_n 1, 1) := by decide +kernel
theorem dX11_assign_96 : decode prog_24_method_20_code 96 = .ok (.aload_n 0, 1) := by decide +kernel
theorem dX11_assign_97 : decode prog_24_method_20_code 97 = .ok (.getfield 23, 3) := by decide +kernel
theorem dX11_assign_100 : decode prog_24_method_20_code 100 = .ok (.getfield 45, 3) := by decide +kernel
theorem dX11_assign_103 : decode prog_24_method_20_code 103 = .ok (.putfield 269, 3) := by decide +kernel
theorem dX11_assign_106 : decode prog_24_method_20_code 106 = .ok (.aload_n 0, 1) := by decide +kernel
theorem dX11_assign_107 : decode prog_24_method_20_code 107 = .ok (.getfield 23, 3) := by decide +kernel
theorem dX11_assign_110 : decode prog_24_method_20_code 110 = .ok (.bipush 91, 2) := by decide +kernel
theorem dX11_assign_112 : decode prog_24_method_20_code 112 = .ok (.invokevirtual 111, 3) := by decide +kernel
theorem dX11_assign_115 : decode prog_24_method_20_code 115 = .ok (.aload_n 1, 1) := by decide +kernel
theorem dX11_assign_116 : decode prog_24_method_20_code 116 = .ok (.aload_n 0, 1) := by decide +kernel
theorem dX11_assign_117 : decode prog_24_method_20_code 117 = .ok (.invokevirtual 208, 3) := by decide +kernel
theorem dX11_assign_120 : decode prog_24_method_20_code 120 = .ok (.putfield 272, 3) := by decide +kernel
theorem dX11_assign_123 : decode prog_24_method_20_code 123 = .ok (.aload_n 0, 1) := by decide +kernel
theorem dX11_assign_124 : decode prog_24_method_20_code 124 = .ok (.getfield 23, 3) := by decide +kernel
theorem dX11_assign_127 : decode prog_24_method_20_code 127 = .ok (.bipush 93, 2) := by decide +kernel
theorem dX11_assign_129 : decode prog_24_method_20_code 129 = .ok (.invokevirtual 111, 3) := by decide +kernel
theorem dX11_assign_132 : decode prog_24_method_20_code 132 = .ok (.aload_n 0, 1) := by decide +kernel
theorem dX11_assign_133 : decode prog_24_method_20_code 133 = .ok (.getfield 23, 3) := by decide +kernel
theorem dX11_assign_136 : decode prog_24_method_20_code 136 = .ok (.bipush 61, 2) := by decide +kernel
theorem dX11_assign_138 : decode prog_24_method_20_code 138 = .ok (.invokevirtual 111, 3) := by decide +kernel
theorem dX11_assign_141 : decode prog_24_method_20_code 141 = .ok (.aload_n 1, 1) := by decide +kernel
theorem dX11_assign_142 : decode prog_24_method_20_code 142 = .ok (.aload_n 0, 1) := by decide +kernel
theorem dX11_assign_143 : decode prog_24_method_20_code 143 = .ok (.invokevirtual 208, 3) := by decide +kernel
theorem dX11_assign_146 : decode prog_24_method_20_code 146 = .ok (.putfield 275, 3) := by decide +kernel
theorem dX11_assign_149 : decode prog_24_method_20_code 149 = .ok (.aload_n 0, 1) := by decide +kernel
theorem dX11_assign_150 : decode prog_24_method_20_code 150 = .ok (.getfield 23, 3) := by decide +kernel
theorem dX11_assign_153 : decode prog_24_method_20_code 153 = .ok (.bipush 59, 2) := by decide +kernel
theorem dX11_assign_155 : decode prog_24_method_20_code 155 = .ok (.invokevirtual 111, 3) := by decide +kernel
theorem dX11_assign_158 : decode prog_24_method_20_code 158 = .ok (.aload_n 1, 1) := by decide +kernel
theorem dX11_assign_159 : decode prog_24_method_20_code 159 = .ok (.areturn, 1) := by decide +kernel
theorem dX11_resolve_0 : decode prog_24_method_3_code 0 = .ok (.iconst 0, 1) := by decide +kernel
theorem dX11_resolve_1 : decode prog_24_method_3_code 1 = .ok (.istore_n 2, 1) := by decide +kernel
theorem dX11_resolve_2 : decode prog_24_method_3_code 2 = .ok (.iload_n 2, 1) := by decide +kernel
theorem dX11_resolve_3 : decode prog_24_method_3_code 3 = .ok (.aload_n 0, 1) := by decide +kernel
theorem dX11_resolve_4 : decode prog_24_method_3_code 4 = .ok (.getfield 59, 3) := by decide +kernel
theorem dX11_resolve_7 : decode prog_24_method_3_code 7 = .ok (.if_icmp .ge 36, 3) := by decide +kernel
theorem dX11_resolve_10 : decode prog_24_method_3_code 10 = .ok (.aload_n 0, 1) := by decide +kernel
theorem dX11_resolve_11 : decode prog_24_method_3_code 11 = .ok (.getfield 11, 3) := by decide +kernel
theorem dX11_resolve_14 : decode prog_24_method_3_code 14 = .ok (.iload_n 2, 1) := by decide +kernel
theorem dX11_resolve_15 : decode prog_24_method_3_code 15 = .ok (.aaload, 1) := by decide +kernel
theorem dX11_resolve_16 : decode prog_24_method_3_code 16 = .ok (.getfield 62, 3) := by decide +kernel
theorem dX11_resolve_19 : decode prog_24_method_3_code 19 = .ok (.aload_n 1, 1) := by decide +kernel
theorem dX11_resolve_20 : decode prog_24_method_3_code 20 = .ok (.getfield 66, 3) := by decide +kernel
theorem dX11_resolve_23 : decode prog_24_method_3_code 23 = .ok (.lcmp, 1) := by decide +kernel
theorem dX11_resolve_24 : decode prog_24_method_3_code 24 = .ok (.ifCond .ne 13, 3) := by decide +kernel
theorem dX11_resolve_27 : decode prog_24_method_3_code 27 = .ok (.aload_n 1, 1) := by decide +kernel
theorem dX11_resolve_28 : decode prog_24_method_3_code 28 = .ok (.aload_n 0, 1) := by decide +kernel
theorem dX11_resolve_29 : decode prog_24_method_3_code 29 = .ok (.getfield 11, 3) := by decide +kernel
theorem dX11_resolve_32 : decode prog_24_method_3_code 32 = .ok (.iload_n 2, 1) := by decide +kernel
theorem dX11_resolve_33 : decode prog_24_method_3_code 33 = .ok (.aaload, 1) := by decide +kernel
theorem dX11_resolve_34 : decode prog_24_method_3_code 34 = .ok (.putfield 67, 3) := by decide +kernel
theorem dX11_resolve_37 : decode prog_24_method_3_code 37 = .ok (.iinc 2 1, 3) := by decide +kernel
theorem dX11_resolve_40 : decode prog_24_method_3_code 40 = .ok (.goto (-38), 3) := by decide +kernel
theorem dX11_resolve_43 : decode prog_24_method_3_code 43 = .ok (.aload_n 1, 1) := by decide +kernel
theorem dX11_resolve_44 : decode prog_24_method_3_code 44 = .ok (.getfield 67, 3) := by decide +kernel
theorem dX11_resolve_47 : decode prog_24_method_3_code 47 = .ok (.ifnull 17, 3) := by decide +kernel
theorem dX11_resolve_50 : decode prog_24_method_3_code 50 = .ok (.aload_n 1, 1) := by decide +kernel
theorem dX11_resolve_51 : decode prog_24_method_3_code 51 = .ok (.getfield 67, 3) := by decide +kernel
theorem dX11_resolve_54 : decode prog_24_method_3_code 54 = .ok (.getfield 70, 3) := by decide +kernel
theorem dX11_resolve_57 : decode prog_24_method_3_code 57 = .ok (.aload_n 1, 1) := by decide +kernel
theorem dX11_resolve_58 : decode prog_24_method_3_code 58 = .ok (.getfield 73, 3) := by decide +kernel
theorem dX11_resolve_61 : decode prog_24_method_3_code 61 = .ok (.if_icmp .eq 17, 3) := by decide +kernel
theorem dX11_resolve_64 : decode prog_24_method_3_code 64 = .ok (.aload_n 0, 1) := by decide +kernel
theorem dX11_resolve_65 : decode prog_24_method_3_code 65 = .ok (.getfield 23, 3) := by decide +kernel
theorem dX11_resolve_68 : decode prog_24_method_3_code 68 = .ok (.bipush 6, 2) := by decide +kernel
theorem dX11_resolve_70 : decode prog_24_method_3_code 70 = .ok (.aload_n 1, 1) := by decide +kernel
theorem dX11_resolve_71 : decode prog_24_method_3_code 71 = .ok (.getfield 76, 3) := by decide +kernel
theorem dX11_resolve_74 : decode prog_24_method_3_code 74 = .ok (.invokevirtual 48, 3) := by decide +kernel
theorem dX11_resolve_77 : decode prog_24_method_3_code 77 = .ok (.athrow, 1) := by decide +kernel
theorem dX11_resolve_78 : decode prog_24_method_3_code 78 = .ok (.return_, 1) := by decide +kernel
theorem dX12_init_0 : decode prog_8_method_1_code 0 = .ok (.aload_n 0, 1) := by decide +kernel
theorem dX12_init_1 : decode prog_8_method_1_code 1 = .ok (.invokespecial 3, 3) := by decide +kernel
theorem dX12_init_4 : decode prog_8_method_1_code 4 = .ok (.aload_n 0, 1) := by decide +kernel
theorem dX12_init_5 : decode prog_8_method_1_code 5 = .ok (.bipush 14, 2) := by decide +kernel
theorem dX12_init_7 : decode prog_8_method_1_code 7 = .ok (.newarray .long, 2) := by decide +kernel
theorem dX12_init_9 : decode prog_8_method_1_code 9 = .ok (.putfield 9, 3) := by decide +kernel
theorem dX12_init_12 : decode prog_8_method_1_code 12 = .ok (.return_, 1) := by decide +kernel
theorem dX13_init_0 : decode prog_3_method_1_code 0 = .ok (.aload_n 0, 1) := by decide +kernel
theorem dX13_init_1 : decode prog_3_method_1_code 1 = .ok (.invokespecial 1, 3) := by decide +kernel
theorem dX13_init_4 : decode prog_3_method_1_code 4 = .ok (.aload_n 0, 1) := by decide +kernel
theorem dX13_init_5 : decode prog_3_method_1_code 5 = .ok (.iconst 2, 1) := by decide +kernel
theorem dX13_init_6 : decode prog_3_method_1_code 6 = .ok (.anewarray 7, 3) := by decide +kernel
theorem dX13_init_9 : decode prog_3_method_1_code 9 = .ok (.putfield 9, 3) := by decide +kernel
theorem dX13_init_12 : decode prog_3_method_1_code 12 = .ok (.return_, 1) := by decide +kernel
theorem dX13_add_0 : decode prog_3_method_2_code 0 = .ok (.aload_n 0, 1) := by decide +kernel
theorem dX13_add_1 : decode prog_3_method_2_code 1 = .ok (.getfield 15, 3) := by decide +kernel
theorem dX13_add_4 : decode prog_3_method_2_code 4 = .ok (.aload_n 0, 1) := by decide +kernel
theorem dX13_add_5 : decode prog_3_method_2_code 5 = .ok (.getfield 9, 3) := by decide +kernel
theorem dX13_add_8 : decode prog_3_method_2_code 8 = .ok (.arraylength, 1) := by decide +kernel
theorem dX13_add_9 : decode prog_3_method_2_code 9 = .ok (.if_icmp .ne 43, 3) := by decide +kernel
theorem dX13_add_12 : decode prog_3_method_2_code 12 = .ok (.iconst 4, 1) := by decide +kernel
theorem dX13_add_13 : decode prog_3_method_2_code 13 = .ok (.aload_n 0, 1) := by decide +kernel
theorem dX13_add_14 : decode prog_3_method_2_code 14 = .ok (.getfield 15, 3) := by decide +kernel
theorem dX13_add_17 : decode prog_3_method_2_code 17 = .ok (.imul, 1) := by decide +kernel
theorem dX13_add_18 : decode prog_3_method_2_code 18 = .ok (.anewarray 7, 3) := by decide +kernel
theorem dX13_add_21 : decode prog_3_method_2_code 21 = .ok (.astore_n 2, 1) := by decide +kernel
theorem dX13_add_22 : decode prog_3_method_2_code 22 = .ok (.iconst 0, 1) := by decide +kernel
theorem dX13_add_23 : decode prog_3_method_2_code 23 = .ok (.istore_n 3, 1) := by decide +kernel
theorem dX13_add_24 : decode prog_3_method_2_code 24 = .ok (.iload_n 3, 1) := by decide +kernel
theorem dX13_add_25 : decode prog_3_method_2_code 25 = .ok (.aload_n 0, 1) := by decide +kernel
theorem dX13_add_26 : decode prog_3_method_2_code 26 = .ok (.getfield 15, 3) := by decide +kernel
theorem dX13_add_29 : decode prog_3_method_2_code 29 = .ok (.if_icmp .ge 18, 3) := by decide +kernel
theorem dX13_add_32 : decode prog_3_method_2_code 32 = .ok (.aload_n 2, 1) := by decide +kernel
theorem dX13_add_33 : decode prog_3_method_2_code 33 = .ok (.iload_n 3, 1) := by decide +kernel
theorem dX13_add_34 : decode prog_3_method_2_code 34 = .ok (.aload_n 0, 1) := by decide +kernel
theorem dX13_add_35 : decode prog_3_method_2_code 35 = .ok (.getfield 9, 3) := by decide +kernel
theorem dX13_add_38 : decode prog_3_method_2_code 38 = .ok (.iload_n 3, 1) := by decide +kernel
theorem dX13_add_39 : decode prog_3_method_2_code 39 = .ok (.aaload, 1) := by decide +kernel
theorem dX13_add_40 : decode prog_3_method_2_code 40 = .ok (.aastore, 1) := by decide +kernel
theorem dX13_add_41 : decode prog_3_method_2_code 41 = .ok (.iinc 3 1, 3) := by decide +kernel
theorem dX13_add_44 : decode prog_3_method_2_code 44 = .ok (.goto (-20), 3) := by decide +kernel
theorem dX13_add_47 : decode prog_3_method_2_code 47 = .ok (.aload_n 0, 1) := by decide +kernel
theorem dX13_add_48 : decode prog_3_method_2_code 48 = .ok (.aload_n 2, 1) := by decide +kernel
theorem dX13_add_49 : decode prog_3_method_2_code 49 = .ok (.putfield 9, 3) := by decide +kernel
theorem dX13_add_52 : decode prog_3_method_2_code 52 = .ok (.aload_n 0, 1) := by decide +kernel
theorem dX13_add_53 : decode prog_3_method_2_code 53 = .ok (.getfield 9, 3) := by decide +kernel
theorem dX13_add_56 : decode prog_3_method_2_code 56 = .ok (.aload_n 0, 1) := by decide +kernel
theorem dX13_add_57 : decode prog_3_method_2_code 57 = .ok (.getfield 15, 3) := by decide +kernel
theorem dX13_add_60 : decode prog_3_method_2_code 60 = .ok (.aload_n 1, 1) := by decide +kernel
theorem dX13_add_61 : decode prog_3_method_2_code 61 = .ok (.aastore, 1) := by decide +kernel
theorem dX13_add_62 : decode prog_3_method_2_code 62 = .ok (.aload_n 0, 1) := by decide +kernel
theorem dX13_add_63 : decode prog_3_method_2_code 63 = .ok (.dup, 1) := by decide +kernel
theorem dX13_add_64 : decode prog_3_method_2_code 64 = .ok (.getfield 15, 3) := by decide +kernel
theorem dX13_add_67 : decode prog_3_method_2_code 67 = .ok (.iconst 1, 1) := by decide +kernel
theorem dX13_add_68 : decode prog_3_method_2_code 68 = .ok (.iadd, 1) := by decide +kernel
theorem dX13_add_69 : decode prog_3_method_2_code 69 = .ok (.putfield 15, 3) := by decide +kernel
theorem dX13_add_72 : decode prog_3_method_2_code 72 = .ok (.return_, 1) := by decide +kernel
theorem dX13_act_0 : decode prog_3_method_3_code 0 = .ok (.iconst 0, 1) := by decide +kernel
theorem dX13_act_1 : decode prog_3_method_3_code 1 = .ok (.istore_n 2, 1) := by decide +kernel
theorem dX13_act_2 : decode prog_3_method_3_code 2 = .ok (.iload_n 2, 1) := by decide +kernel
theorem dX13_act_3 : decode prog_3_method_3_code 3 = .ok (.aload_n 0, 1) := by decide +kernel
theorem dX13_act_4 : decode prog_3_method_3_code 4 = .ok (.getfield 15, 3) := by decide +kernel
theorem dX13_act_7 : decode prog_3_method_3_code 7 = .ok (.if_icmp .ge 37, 3) := by decide +kernel
theorem dX13_act_10 : decode prog_3_method_3_code 10 = .ok (.aload_n 1, 1) := by decide +kernel
theorem dX13_act_11 : decode prog_3_method_3_code 11 = .ok (.aload_n 0, 1) := by decide +kernel
theorem dX13_act_12 : decode prog_3_method_3_code 12 = .ok (.getfield 9, 3) := by decide +kernel
theorem dX13_act_15 : decode prog_3_method_3_code 15 = .ok (.iload_n 2, 1) := by decide +kernel
theorem dX13_act_16 : decode prog_3_method_3_code 16 = .ok (.aaload, 1) := by decide +kernel
theorem dX13_act_17 : decode prog_3_method_3_code 17 = .ok (.getfield 19, 3) := by decide +kernel
theorem dX13_act_20 : decode prog_3_method_3_code 20 = .ok (.invokevirtual 22, 3) := by decide +kernel
theorem dX13_act_23 : decode prog_3_method_3_code 23 = .ok (.aload_n 0, 1) := by decide +kernel
theorem dX13_act_24 : decode prog_3_method_3_code 24 = .ok (.getfield 9, 3) := by decide +kernel
theorem dX13_act_27 : decode prog_3_method_3_code 27 = .ok (.iload_n 2, 1) := by decide +kernel
theorem dX13_act_28 : decode prog_3_method_3_code 28 = .ok (.aaload, 1) := by decide +kernel
theorem dX13_act_29 : decode prog_3_method_3_code 29 = .ok (.aload_n 1, 1) := by decide +kernel
theorem dX13_act_30 : decode prog_3_method_3_code 30 = .ok (.invokevirtual 28, 3) := by decide +kernel
theorem dX13_act_33 : decode prog_3_method_3_code 33 = .ok (.ifCond .eq 5, 3) := by decide +kernel
theorem dX13_act_36 : decode prog_3_method_3_code 36 = .ok (.iconst 1, 1) := by decide +kernel
theorem dX13_act_37 : decode prog_3_method_3_code 37 = .ok (.ireturn, 1) := by decide +kernel
theorem dX13_act_38 : decode prog_3_method_3_code 38 = .ok (.iinc 2 1, 3) := by decide +kernel
theorem dX13_act_41 : decode prog_3_method_3_code 41 = .ok (.goto (-39), 3) := by decide +kernel
theorem dX13_act_44 : decode prog_3_method_3_code 44 = .ok (.iconst 0, 1) := by decide +kernel
theorem dX13_act_45 : decode prog_3_method_3_code 45 = .ok (.ireturn, 1) := by decide +kernel
theorem dX14_init_0 : decode prog_7_method_1_code 0 = .ok (.aload_n 0, 1) := by decide +kernel
theorem dX14_init_1 : decode prog_7_method_1_code 1 = .ok (.invokespecial 1, 3) := by decide +kernel
theorem dX14_init_4 : decode prog_7_method_1_code 4 = .ok (.return_, 1) := by decide +kernel
theorem dX15_init_0 : decode prog_11_method_1_code 0 = .ok (.aload_n 0, 1) := by decide +kernel
theorem dX15_init_1 : decode prog_11_method_1_code 1 = .ok (.invokespecial 1, 3) := by decide +kernel
theorem dX15_init_4 : decode prog_11_method_1_code 4 = .ok (.return_, 1) := by decide +kernel
theorem dX15_act_0 : decode prog_11_method_2_code 0 = .ok (.aload_n 0, 1) := by decide +kernel
theorem dX15_act_1 : decode prog_11_method_2_code 1 = .ok (.getfield 7, 3) := by decide +kernel
theorem dX15_act_4 : decode prog_11_method_2_code 4 = .ok (.aload_n 1, 1) := by decide +kernel
theorem dX15_act_5 : decode prog_11_method_2_code 5 = .ok (.invokevirtual 13, 3) := by decide +kernel
theorem dX15_act_8 : decode prog_11_method_2_code 8 = .ok (.aload_n 1, 1) := by decide +kernel
theorem dX15_act_9 : decode prog_11_method_2_code 9 = .ok (.aload_n 0, 1) := by decide +kernel
theorem dX15_act_10 : decode prog_11_method_2_code 10 = .ok (.getfield 19, 3) := by decide +kernel
theorem dX15_act_13 : decode prog_11_method_2_code 13 = .ok (.invokevirtual 23, 3) := by decide +kernel
theorem dX15_act_16 : decode prog_11_method_2_code 16 = .ok (.ifCond .eq 12, 3) := by decide +kernel
theorem dX15_act_19 : decode prog_11_method_2_code 19 = .ok (.aload_n 0, 1) := by decide +kernel
theorem dX15_act_20 : decode prog_11_method_2_code 20 = .ok (.getfield 29, 3) := by decide +kernel
theorem dX15_act_23 : decode prog_11_method_2_code 23 = .ok (.aload_n 1, 1) := by decide +kernel
theorem dX15_act_24 : decode prog_11_method_2_code 24 = .ok (.invokevirtual 33, 3) := by decide +kernel
theorem dX15_act_27 : decode prog_11_method_2_code 27 = .ok (.ireturn, 1) := by decide +kernel
theorem dX15_act_28 : decode prog_11_method_2_code 28 = .ok (.aload_n 0, 1) := by decide +kernel
theorem dX15_act_29 : decode prog_11_method_2_code 29 = .ok (.getfield 39, 3) := by decide +kernel
theorem dX15_act_32 : decode prog_11_method_2_code 32 = .ok (.ifnull 18, 3) := by decide +kernel
theorem dX15_act_35 : decode prog_11_method_2_code 35 = .ok (.aload_n 0, 1) := by decide +kernel
theorem dX15_act_36 : decode prog_11_method_2_code 36 = .ok (.getfield 39, 3) := by decide +kernel
theorem dX15_act_39 : decode prog_11_method_2_code 39 = .ok (.aload_n 1, 1) := by decide +kernel
theorem dX15_act_40 : decode prog_11_method_2_code 40 = .ok (.invokevirtual 33, 3) := by decide +kernel
theorem dX15_act_43 : decode prog_11_method_2_code 43 = .ok (.ifCond .eq 7, 3) := by decide +kernel
theorem dX15_act_46 : decode prog_11_method_2_code 46 = .ok (.iconst 1, 1) := by decide +kernel
theorem dX15_act_47 : decode prog_11_method_2_code 47 = .ok (.goto 4, 3) := by decide +kernel
theorem dX15_act_50 : decode prog_11_method_2_code 50 = .ok (.iconst 0, 1) := by decide +kernel
theorem dX15_act_51 : decode prog_11_method_2_code 51 = .ok (.ireturn, 1) := by decide +kernel
theorem dX16_init_0 : decode prog_16_method_1_code 0 = .ok (.aload_n 0, 1) := by decide +kernel
theorem dX16_init_1 : decode prog_16_method_1_code 1 = .ok (.invokespecial 1, 3) := by decide +kernel
theorem dX16_init_4 : decode prog_16_method_1_code 4 = .ok (.return_, 1) := by decide +kernel
theorem dX17_init_0 : decode prog_18_method_1_code 0 = .ok (.aload_n 0, 1) := by decide +kernel
theorem dX17_init_1 : decode prog_18_method_1_code 1 = .ok (.invokespecial 1, 3) := by decide +kernel
theorem dX17_init_4 : decode prog_18_method_1_code 4 = .ok (.aload_n 0, 1) := by decide +kernel
theorem dX17_init_5 : decode prog_18_method_1_code 5 = .ok (.iload_n 1, 1) := by decide +kernel
theorem dX17_init_6 : decode prog_18_method_1_code 6 = .ok (.putfield 7, 3) := by decide +kernel
theorem dX17_init_9 : decode prog_18_method_1_code 9 = .ok (.return_, 1) := by decide +kernel
theorem dX17_work_0 : decode prog_18_method_2_code 0 = .ok (.aload_n 1, 1) := by decide +kernel
theorem dX17_work_1 : decode prog_18_method_2_code 1 = .ok (.aload_n 0, 1) := by decide +kernel
theorem dX17_work_2 : decode prog_18_method_2_code 2 = .ok (.getfield 7, 3) := by decide +kernel
theorem dX17_work_5 : decode prog_18_method_2_code 5 = .ok (.invokevirtual 13, 3) := by decide +kernel
theorem dX17_work_8 : decode prog_18_method_2_code 8 = .ok (.return_, 1) := by decide +kernel
theorem dX18_init_0 : decode prog_12_method_1_code 0 = .ok (.aload_n 0, 1) := by decide +kernel
theorem dX18_init_1 : decode prog_12_method_1_code 1 = .ok (.invokespecial 1, 3) := by decide +kernel
theorem dX18_init_4 : decode prog_12_method_1_code 4 = .ok (.aload_n 0, 1) := by decide +kernel
theorem dX18_init_5 : decode prog_12_method_1_code 5 = .ok (.new 7, 3) := by decide +kernel
theorem dX18_init_8 : decode prog_12_method_1_code 8 = .ok (.dup, 1) := by decide +kernel
theorem dX18_init_9 : decode prog_12_method_1_code 9 = .ok (.invokespecial 9, 3) := by decide +kernel
theorem dX18_init_12 : decode prog_12_method_1_code 12 = .ok (.putfield 10, 3) := by decide +kernel
theorem dX18_init_15 : decode prog_12_method_1_code 15 = .ok (.return_, 1) := by decide +kernel
theorem dX18_work_0 : decode prog_12_method_2_code 0 = .ok (.iconst 0, 1) := by decide +kernel
theorem dX18_work_1 : decode prog_12_method_2_code 1 = .ok (.istore_n 2, 1) := by decide +kernel
theorem dX18_work_2 : decode prog_12_method_2_code 2 = .ok (.iload_n 2, 1) := by decide +kernel
theorem dX18_work_3 : decode prog_12_method_2_code 3 = .ok (.aload_n 0, 1) := by decide +kernel
theorem dX18_work_4 : decode prog_12_method_2_code 4 = .ok (.getfield 10, 3) := by decide +kernel
theorem dX18_work_7 : decode prog_12_method_2_code 7 = .ok (.getfield 16, 3) := by decide +kernel
theorem dX18_work_10 : decode prog_12_method_2_code 10 = .ok (.if_icmp .ge 22, 3) := by decide +kernel
theorem dX18_work_13 : decode prog_12_method_2_code 13 = .ok (.aload_n 0, 1) := by decide +kernel
theorem dX18_work_14 : decode prog_12_method_2_code 14 = .ok (.getfield 10, 3) := by decide +kernel
theorem dX18_work_17 : decode prog_12_method_2_code 17 = .ok (.getfield 20, 3) := by decide +kernel
theorem dX18_work_20 : decode prog_12_method_2_code 20 = .ok (.iload_n 2, 1) := by decide +kernel
theorem dX18_work_21 : decode prog_12_method_2_code 21 = .ok (.aaload, 1) := by decide +kernel
theorem dX18_work_22 : decode prog_12_method_2_code 22 = .ok (.aload_n 1, 1) := by decide +kernel
theorem dX18_work_23 : decode prog_12_method_2_code 23 = .ok (.invokevirtual 24, 3) := by decide +kernel
theorem dX18_work_26 : decode prog_12_method_2_code 26 = .ok (.iinc 2 1, 3) := by decide +kernel
theorem dX18_work_29 : decode prog_12_method_2_code 29 = .ok (.goto (-27), 3) := by decide +kernel
theorem dX18_work_32 : decode prog_12_method_2_code 32 = .ok (.aload_n 1, 1) := by decide +kernel
theorem dX18_work_33 : decode prog_12_method_2_code 33 = .ok (.aload_n 0, 1) := by decide +kernel
theorem dX18_work_34 : decode prog_12_method_2_code 34 = .ok (.getfield 28, 3) := by decide +kernel
theorem dX18_work_37 : decode prog_12_method_2_code 37 = .ok (.invokevirtual 31, 3) := by decide +kernel
theorem dX18_work_40 : decode prog_12_method_2_code 40 = .ok (.aload_n 1, 1) := by decide +kernel
theorem dX18_work_41 : decode prog_12_method_2_code 41 = .ok (.aload_n 0, 1) := by decide +kernel
theorem dX18_work_42 : decode prog_12_method_2_code 42 = .ok (.getfield 10, 3) := by decide +kernel
theorem dX18_work_45 : decode prog_12_method_2_code 45 = .ok (.getfield 16, 3) := by decide +kernel
theorem dX18_work_48 : decode prog_12_method_2_code 48 = .ok (.aload_n 0, 1) := by decide +kernel
theorem dX18_work_49 : decode prog_12_method_2_code 49 = .ok (.getfield 28, 3) := by decide +kernel
theorem dX18_work_52 : decode prog_12_method_2_code 52 = .ok (.invokevirtual 37, 3) := by decide +kernel
theorem dX18_work_55 : decode prog_12_method_2_code 55 = .ok (.return_, 1) := by decide +kernel
theorem dX2_wrong_0 : decode prog_26_method_2_code 0 = .ok (.aload_n 0, 1) := by decide +kernel
theorem dX2_wrong_1 : decode prog_26_method_2_code 1 = .ok (.getfield 15, 3) := by decide +kernel
theorem dX2_wrong_4 : decode prog_26_method_2_code 4 = .ok (.iload_n 1, 1) := by decide +kernel
theorem dX2_wrong_5 : decode prog_26_method_2_code 5 = .ok (.putfield 19, 3) := by decide +kernel
theorem dX2_wrong_8 : decode prog_26_method_2_code 8 = .ok (.aload_n 0, 1) := by decide +kernel
theorem dX2_wrong_9 : decode prog_26_method_2_code 9 = .ok (.getfield 15, 3) := by decide +kernel
theorem dX2_wrong_12 : decode prog_26_method_2_code 12 = .ok (.iload_n 2, 1) := by decide +kernel
theorem dX2_wrong_13 : decode prog_26_method_2_code 13 = .ok (.putfield 25, 3) := by decide +kernel
theorem dX2_wrong_16 : decode prog_26_method_2_code 16 = .ok (.aload_n 0, 1) := by decide +kernel
theorem dX2_wrong_17 : decode prog_26_method_2_code 17 = .ok (.getfield 15, 3) := by decide +kernel
theorem dX2_wrong_20 : decode prog_26_method_2_code 20 = .ok (.areturn, 1) := by decide +kernel
theorem dX2_next_0 : decode prog_26_method_7_code 0 = .ok (.aload_n 0, 1) := by decide +kernel
theorem dX2_next_1 : decode prog_26_method_7_code 1 = .ok (.getfield 37, 3) := by decide +kernel
theorem dX2_next_4 : decode prog_26_method_7_code 4 = .ok (.aload_n 0, 1) := by decide +kernel
theorem dX2_next_5 : decode prog_26_method_7_code 5 = .ok (.getfield 34, 3) := by decide +kernel
theorem dX2_next_8 : decode prog_26_method_7_code 8 = .ok (.if_icmp .ge 105, 3) := by decide +kernel
theorem dX2_next_11 : decode prog_26_method_7_code 11 = .ok (.aload_n 0, 1) := by decide +kernel
theorem dX2_next_12 : decode prog_26_method_7_code 12 = .ok (.aload_n 0, 1) := by decide +kernel
theorem dX2_next_13 : decode prog_26_method_7_code 13 = .ok (.getfield 37, 3) := by decide +kernel
theorem dX2_next_16 : decode prog_26_method_7_code 16 = .ok (.invokevirtual 43, 3) := by decide +kernel
theorem dX2_next_19 : decode prog_26_method_7_code 19 = .ok (.bipush 32, 2) := by decide +kernel
theorem dX2_next_21 : decode prog_26_method_7_code 21 = .ok (.if_icmp .eq 29, 3) := by decide +kernel
theorem dX2_next_24 : decode prog_26_method_7_code 24 = .ok (.aload_n 0, 1) := by decide +kernel
theorem dX2_next_25 : decode prog_26_method_7_code 25 = .ok (.aload_n 0, 1) := by decide +kernel
theorem dX2_next_26 : decode prog_26_method_7_code 26 = .ok (.getfield 37, 3) := by decide +kernel
theorem dX2_next_29 : decode prog_26_method_7_code 29 = .ok (.invokevirtual 43, 3) := by decide +kernel
theorem dX2_next_32 : decode prog_26_method_7_code 32 = .ok (.bipush 10, 2) := by decide +kernel
theorem dX2_next_34 : decode prog_26_method_7_code 34 = .ok (.if_icmp .eq 16, 3) := by decide +kernel
theorem dX2_next_37 : decode prog_26_method_7_code 37 = .ok (.aload_n 0, 1) := by decide +kernel
theorem dX2_next_38 : decode prog_26_method_7_code 38 = .ok (.aload_n 0, 1) := by decide +kernel
theorem dX2_next_39 : decode prog_26_method_7_code 39 = .ok (.getfield 37, 3) := by decide +kernel
theorem dX2_next_42 : decode prog_26_method_7_code 42 = .ok (.invokevirtual 43, 3) := by decide +kernel
theorem dX2_next_45 : decode prog_26_method_7_code 45 = .ok (.bipush 35, 2) := by decide +kernel
theorem dX2_next_47 : decode prog_26_method_7_code 47 = .ok (.if_icmp .ne 66, 3) := by decide +kernel
theorem dX2_next_50 : decode prog_26_method_7_code 50 = .ok (.aload_n 0, 1) := by decide +kernel
theorem dX2_next_51 : decode prog_26_method_7_code 51 = .ok (.aload_n 0, 1) := by decide +kernel
theorem dX2_next_52 : decode prog_26_method_7_code 52 = .ok (.getfield 37, 3) := by decide +kernel
theorem dX2_next_55 : decode prog_26_method_7_code 55 = .ok (.invokevirtual 43, 3) := by decide +kernel
theorem dX2_next_58 : decode prog_26_method_7_code 58 = .ok (.bipush 35, 2) := by decide +kernel
theorem dX2_next_60 : decode prog_26_method_7_code 60 = .ok (.if_icmp .ne 40, 3) := by decide +kernel
theorem dX2_next_63 : decode prog_26_method_7_code 63 = .ok (.aload_n 0, 1) := by decide +kernel
theorem dX2_next_64 : decode prog_26_method_7_code 64 = .ok (.getfield 37, 3) := by decide +kernel
theorem dX2_next_67 : decode prog_26_method_7_code 67 = .ok (.aload_n 0, 1) := by decide +kernel
theorem dX2_next_68 : decode prog_26_method_7_code 68 = .ok (.getfield 34, 3) := by decide +kernel
theorem dX2_next_71 : decode prog_26_method_7_code 71 = .ok (.if_icmp .ge (-71), 3) := by decide +kernel
theorem dX2_next_74 : decode prog_26_method_7_code 74 = .ok (.aload_n 0, 1) := by decide +kernel
theorem dX2_next_75 : decode prog_26_method_7_code 75 = .ok (.aload_n 0, 1) := by decide +kernel
theorem dX2_next_76 : decode prog_26_method_7_code 76 = .ok (.getfield 37, 3) := by decide +kernel
theorem dX2_next_79 : decode prog_26_method_7_code 79 = .ok (.invokevirtual 43, 3) := by decide +kernel
theorem dX2_next_82 : decode prog_26_method_7_code 82 = .ok (.bipush 10, 2) := by decide +kernel
theorem dX2_next_84 : decode prog_26_method_7_code 84 = .ok (.if_icmp .eq (-84), 3) := by decide +kernel
theorem dX2_next_87 : decode prog_26_method_7_code 87 = .ok (.aload_n 0, 1) := by decide +kernel
theorem dX2_next_88 : decode prog_26_method_7_code 88 = .ok (.dup, 1) := by decide +kernel
theorem dX2_next_89 : decode prog_26_method_7_code 89 = .ok (.getfield 37, 3) := by decide +kernel
theorem dX2_next_92 : decode prog_26_method_7_code 92 = .ok (.iconst 1, 1) := by decide +kernel
theorem dX2_next_93 : decode prog_26_method_7_code 93 = .ok (.iadd, 1) := by decide +kernel
theorem dX2_next_94 : decode prog_26_method_7_code 94 = .ok (.putfield 37, 3) := by decide +kernel
theorem dX2_next_97 : decode prog_26_method_7_code 97 = .ok (.goto (-34), 3) := by decide +kernel
theorem dX2_next_100 : decode prog_26_method_7_code 100 = .ok (.aload_n 0, 1) := by decide +kernel
theorem dX2_next_101 : decode prog_26_method_7_code 101 = .ok (.dup, 1) := by decide +kernel
theorem dX2_next_102 : decode prog_26_method_7_code 102 = .ok (.getfield 37, 3) := by decide +kernel
theorem dX2_next_105 : decode prog_26_method_7_code 105 = .ok (.iconst 1, 1) := by decide +kernel
theorem dX2_next_106 : decode prog_26_method_7_code 106 = .ok (.iadd, 1) := by decide +kernel
theorem dX2_next_107 : decode prog_26_method_7_code 107 = .ok (.putfield 37, 3) := by decide +kernel
theorem dX2_next_110 : decode prog_26_method_7_code 110 = .ok (.goto (-110), 3) := by decide +kernel
theorem dX2_next_113 : decode prog_26_method_7_code 113 = .ok (.aload_n 0, 1) := by decide +kernel
theorem dX2_next_114 : decode prog_26_method_7_code 114 = .ok (.aload_n 0, 1) := by decide +kernel
theorem dX2_next_115 : decode prog_26_method_7_code 115 = .ok (.getfield 37, 3) := by decide +kernel
theorem dX2_next_118 : decode prog_26_method_7_code 118 = .ok (.putfield 47, 3) := by decide +kernel
theorem dX2_next_121 : decode prog_26_method_7_code 121 = .ok (.aload_n 0, 1) := by decide +kernel
theorem dX2_next_122 : decode prog_26_method_7_code 122 = .ok (.aload_n 0, 1) := by decide +kernel
theorem dX2_next_123 : decode prog_26_method_7_code 123 = .ok (.getfield 37, 3) := by decide +kernel
theorem dX2_next_126 : decode prog_26_method_7_code 126 = .ok (.invokevirtual 43, 3) := by decide +kernel
theorem dX2_next_129 : decode prog_26_method_7_code 129 = .ok (.istore_n 1, 1) := by decide +kernel
theorem dX2_next_130 : decode prog_26_method_7_code 130 = .ok (.aload_n 0, 1) := by decide +kernel
theorem dX2_next_131 : decode prog_26_method_7_code 131 = .ok (.getfield 37, 3) := by decide +kernel
theorem dX2_next_134 : decode prog_26_method_7_code 134 = .ok (.aload_n 0, 1) := by decide +kernel
theorem dX2_next_135 : decode prog_26_method_7_code 135 = .ok (.getfield 34, 3) := by decide +kernel
theorem dX2_next_138 : decode prog_26_method_7_code 138 = .ok (.if_icmp .lt 11, 3) := by decide +kernel
theorem dX2_next_141 : decode prog_26_method_7_code 141 = .ok (.aload_n 0, 1) := by decide +kernel
theorem dX2_next_142 : decode prog_26_method_7_code 142 = .ok (.iconst 0, 1) := by decide +kernel
theorem dX2_next_143 : decode prog_26_method_7_code 143 = .ok (.putfield 48, 3) := by decide +kernel
theorem dX2_next_146 : decode prog_26_method_7_code 146 = .ok (.goto 36, 3) := by decide +kernel
theorem dX2_next_149 : decode prog_26_method_7_code 149 = .ok (.iload_n 1, 1) := by decide +kernel
theorem dX2_next_150 : decode prog_26_method_7_code 150 = .ok (.invokestatic 51, 3) := by decide +kernel
theorem dX2_next_153 : decode prog_26_method_7_code 153 = .ok (.ifCond .eq 10, 3) := by decide +kernel
theorem dX2_next_156 : decode prog_26_method_7_code 156 = .ok (.aload_n 0, 1) := by decide +kernel
theorem dX2_next_157 : decode prog_26_method_7_code 157 = .ok (.invokevirtual 55, 3) := by decide +kernel
theorem dX2_next_160 : decode prog_26_method_7_code 160 = .ok (.goto 22, 3) := by decide +kernel
theorem dX2_next_163 : decode prog_26_method_7_code 163 = .ok (.iload_n 1, 1) := by decide +kernel
theorem dX2_next_164 : decode prog_26_method_7_code 164 = .ok (.invokestatic 58, 3) := by decide +kernel
theorem dX2_next_167 : decode prog_26_method_7_code 167 = .ok (.ifCond .eq 10, 3) := by decide +kernel
theorem dX2_next_170 : decode prog_26_method_7_code 170 = .ok (.aload_n 0, 1) := by decide +kernel
theorem dX2_next_171 : decode prog_26_method_7_code 171 = .ok (.invokevirtual 61, 3) := by decide +kernel
theorem dX2_next_174 : decode prog_26_method_7_code 174 = .ok (.goto 8, 3) := by decide +kernel
theorem dX2_next_177 : decode prog_26_method_7_code 177 = .ok (.aload_n 0, 1) := by decide +kernel
theorem dX2_next_178 : decode prog_26_method_7_code 178 = .ok (.iload_n 1, 1) := by decide +kernel
theorem dX2_next_179 : decode prog_26_method_7_code 179 = .ok (.invokevirtual 64, 3) := by decide +kernel
theorem dX2_next_182 : decode prog_26_method_7_code 182 = .ok (.return_, 1) := by decide +kernel
theorem dX2_look_0 : decode prog_26_method_4_code 0 = .ok (.iload_n 1, 1) := by decide +kernel
theorem dX2_look_1 : decode prog_26_method_4_code 1 = .ok (.aload_n 0, 1) := by decide +kernel
theorem dX2_look_2 : decode prog_26_method_4_code 2 = .ok (.getfield 34, 3) := by decide +kernel
theorem dX2_look_5 : decode prog_26_method_4_code 5 = .ok (.if_icmp .ge 12, 3) := by decide +kernel
theorem dX2_look_8 : decode prog_26_method_4_code 8 = .ok (.aload_n 0, 1) := by decide +kernel
theorem dX2_look_9 : decode prog_26_method_4_code 9 = .ok (.getfield 9, 3) := by decide +kernel
theorem dX2_look_12 : decode prog_26_method_4_code 12 = .ok (.iload_n 1, 1) := by decide +kernel
theorem dX2_look_13 : decode prog_26_method_4_code 13 = .ok (.baload, 1) := by decide +kernel
theorem dX2_look_14 : decode prog_26_method_4_code 14 = .ok (.goto 4, 3) := by decide +kernel
theorem dX2_look_17 : decode prog_26_method_4_code 17 = .ok (.iconst 0, 1) := by decide +kernel
theorem dX2_look_18 : decode prog_26_method_4_code 18 = .ok (.ireturn, 1) := by decide +kernel
theorem dX2_isLetter_0 : decode prog_26_method_5_code 0 = .ok (.iload_n 0, 1) := by decide +kernel
theorem dX2_isLetter_1 : decode prog_26_method_5_code 1 = .ok (.bipush 97, 2) := by decide +kernel
theorem dX2_isLetter_3 : decode prog_26_method_5_code 3 = .ok (.if_icmp .lt 13, 3) := by decide +kernel
theorem dX2_isLetter_6 : decode prog_26_method_5_code 6 = .ok (.iload_n 0, 1) := by decide +kernel
theorem dX2_isLetter_7 : decode prog_26_method_5_code 7 = .ok (.bipush 122, 2) := by decide +kernel
theorem dX2_isLetter_9 : decode prog_26_method_5_code 9 = .ok (.if_icmp .gt 7, 3) := by decide +kernel
theorem dX2_isLetter_12 : decode prog_26_method_5_code 12 = .ok (.iconst 1, 1) := by decide +kernel
theorem dX2_isLetter_13 : decode prog_26_method_5_code 13 = .ok (.goto 4, 3) := by decide +kernel
theorem dX2_isLetter_16 : decode prog_26_method_5_code 16 = .ok (.iconst 0, 1) := by decide +kernel
theorem dX2_isLetter_17 : decode prog_26_method_5_code 17 = .ok (.ireturn, 1) := by decide +kernel
theorem dX2_word_0 : decode prog_26_method_8_code 0 = .ok (.aload_n 0, 1) := by decide +kernel
theorem dX2_word_1 : decode prog_26_method_8_code 1 = .ok (.aload_n 0, 1) := by decide +kernel
theorem dX2_word_2 : decode prog_26_method_8_code 2 = .ok (.getfield 37, 3) := by decide +kernel
theorem dX2_word_5 : decode prog_26_method_8_code 5 = .ok (.invokevirtual 43, 3) := by decide +kernel
theorem dX2_word_8 : decode prog_26_method_8_code 8 = .ok (.invokestatic 51, 3) := by decide +kernel
theorem dX2_word_11 : decode prog_26_method_8_code 11 = .ok (.ifCond .eq 16, 3) := by decide +kernel
theorem dX2_word_14 : decode prog_26_method_8_code 14 = .ok (.aload_n 0, 1) := by decide +kernel
theorem dX2_word_15 : decode prog_26_method_8_code 15 = .ok (.dup, 1) := by decide +kernel
theorem dX2_word_16 : decode prog_26_method_8_code 16 = .ok (.getfield 37, 3) := by decide +kernel
theorem dX2_word_19 : decode prog_26_method_8_code 19 = .ok (.iconst 1, 1) := by decide +kernel
theorem dX2_word_20 : decode prog_26_method_8_code 20 = .ok (.iadd, 1) := by decide +kernel
theorem dX2_word_21 : decode prog_26_method_8_code 21 = .ok (.putfield 37, 3) := by decide +kernel
theorem dX2_word_24 : decode prog_26_method_8_code 24 = .ok (.goto (-24), 3) := by decide +kernel
theorem dX2_word_27 : decode prog_26_method_8_code 27 = .ok (.aload_n 0, 1) := by decide +kernel
theorem dX2_word_28 : decode prog_26_method_8_code 28 = .ok (.getfield 37, 3) := by decide +kernel
theorem dX2_word_31 : decode prog_26_method_8_code 31 = .ok (.aload_n 0, 1) := by decide +kernel
theorem dX2_word_32 : decode prog_26_method_8_code 32 = .ok (.getfield 47, 3) := by decide +kernel
theorem dX2_word_35 : decode prog_26_method_8_code 35 = .ok (.isub, 1) := by decide +kernel
theorem dX2_word_36 : decode prog_26_method_8_code 36 = .ok (.bipush 8, 2) := by decide +kernel
theorem dX2_word_38 : decode prog_26_method_8_code 38 = .ok (.if_icmp .le 13, 3) := by decide +kernel
theorem dX2_word_41 : decode prog_26_method_8_code 41 = .ok (.aload_n 0, 1) := by decide +kernel
theorem dX2_word_42 : decode prog_26_method_8_code 42 = .ok (.iconst 1, 1) := by decide +kernel
theorem dX2_word_43 : decode prog_26_method_8_code 43 = .ok (.aload_n 0, 1) := by decide +kernel
theorem dX2_word_44 : decode prog_26_method_8_code 44 = .ok (.getfield 47, 3) := by decide +kernel
theorem dX2_word_47 : decode prog_26_method_8_code 47 = .ok (.invokevirtual 68, 3) := by decide +kernel
theorem dX2_word_50 : decode prog_26_method_8_code 50 = .ok (.athrow, 1) := by decide +kernel
theorem dX2_word_51 : decode prog_26_method_8_code 51 = .ok (.aload_n 0, 1) := by decide +kernel
theorem dX2_word_52 : decode prog_26_method_8_code 52 = .ok (.iconst 1, 1) := by decide +kernel
theorem dX2_word_53 : decode prog_26_method_8_code 53 = .ok (.putfield 48, 3) := by decide +kernel
theorem dX2_word_56 : decode prog_26_method_8_code 56 = .ok (.return_, 1) := by decide +kernel
theorem dX2_isDigit_0 : decode prog_26_method_6_code 0 = .ok (.iload_n 0, 1) := by decide +kernel
theorem dX2_isDigit_1 : decode prog_26_method_6_code 1 = .ok (.bipush 48, 2) := by decide +kernel
theorem dX2_isDigit_3 : decode prog_26_method_6_code 3 = .ok (.if_icmp .lt 13, 3) := by decide +kernel
theorem dX2_isDigit_6 : decode prog_26_method_6_code 6 = .ok (.iload_n 0, 1) := by decide +kernel
theorem dX2_isDigit_7 : decode prog_26_method_6_code 7 = .ok (.bipush 57, 2) := by decide +kernel
theorem dX2_isDigit_9 : decode prog_26_method_6_code 9 = .ok (.if_icmp .gt 7, 3) := by decide +kernel
theorem dX2_isDigit_12 : decode prog_26_method_6_code 12 = .ok (.iconst 1, 1) := by decide +kernel
theorem dX2_isDigit_13 : decode prog_26_method_6_code 13 = .ok (.goto 4, 3) := by decide +kernel
theorem dX2_isDigit_16 : decode prog_26_method_6_code 16 = .ok (.iconst 0, 1) := by decide +kernel
theorem dX2_isDigit_17 : decode prog_26_method_6_code 17 = .ok (.ireturn, 1) := by decide +kernel
theorem dX2_number_0 : decode prog_26_method_9_code 0 = .ok (.lconst 0, 1) := by decide +kernel
theorem dX2_number_1 : decode prog_26_method_9_code 1 = .ok (.lstore_n 1, 1) := by decide +kernel
theorem dX2_number_2 : decode prog_26_method_9_code 2 = .ok (.aload_n 0, 1) := by decide +kernel
theorem dX2_number_3 : decode prog_26_method_9_code 3 = .ok (.aload_n 0, 1) := by decide +kernel
theorem dX2_number_4 : decode prog_26_method_9_code 4 = .ok (.getfield 37, 3) := by decide +kernel
theorem dX2_number_7 : decode prog_26_method_9_code 7 = .ok (.invokevirtual 43, 3) := by decide +kernel
theorem dX2_number_10 : decode prog_26_method_9_code 10 = .ok (.invokestatic 58, 3) := by decide +kernel
theorem dX2_number_13 : decode prog_26_method_9_code 13 = .ok (.ifCond .eq 50, 3) := by decide +kernel
theorem dX2_number_16 : decode prog_26_method_9_code 16 = .ok (.aload_n 0, 1) := by decide +kernel
theorem dX2_number_17 : decode prog_26_method_9_code 17 = .ok (.getfield 37, 3) := by decide +kernel
theorem dX2_number_20 : decode prog_26_method_9_code 20 = .ok (.aload_n 0, 1) := by decide +kernel
theorem dX2_number_21 : decode prog_26_method_9_code 21 = .ok (.getfield 47, 3) := by decide +kernel
theorem dX2_number_24 : decode prog_26_method_9_code 24 = .ok (.isub, 1) := by decide +kernel
theorem dX2_number_25 : decode prog_26_method_9_code 25 = .ok (.bipush 10, 2) := by decide +kernel
theorem dX2_number_27 : decode prog_26_method_9_code 27 = .ok (.if_icmp .ge 23, 3) := by decide +kernel
theorem dX2_number_30 : decode prog_26_method_9_code 30 = .ok (.ldc2_w 72, 3) := by decide +kernel
theorem dX2_number_33 : decode prog_26_method_9_code 33 = .ok (.lload_n 1, 1) := by decide +kernel
theorem dX2_number_34 : decode prog_26_method_9_code 34 = .ok (.lmul, 1) := by decide +kernel
theorem dX2_number_35 : decode prog_26_method_9_code 35 = .ok (.aload_n 0, 1) := by decide +kernel
theorem dX2_number_36 : decode prog_26_method_9_code 36 = .ok (.aload_n 0, 1) := by decide +kernel
theorem dX2_number_37 : decode prog_26_method_9_code 37 = .ok (.getfield 37, 3) := by decide +kernel
theorem dX2_number_40 : decode prog_26_method_9_code 40 = .ok (.invokevirtual 43, 3) := by decide +kernel
theorem dX2_number_43 : decode prog_26_method_9_code 43 = .ok (.i2l, 1) := by decide +kernel
theorem dX2_number_44 : decode prog_26_method_9_code 44 = .ok (.ladd, 1) := by decide +kernel
theorem dX2_number_45 : decode prog_26_method_9_code 45 = .ok (.ldc2_w 74, 3) := by decide +kernel
theorem dX2_number_48 : decode prog_26_method_9_code 48 = .ok (.lsub, 1) := by decide +kernel
theorem dX2_number_49 : decode prog_26_method_9_code 49 = .ok (.lstore_n 1, 1) := by decide +kernel
theorem dX2_number_50 : decode prog_26_method_9_code 50 = .ok (.aload_n 0, 1) := by decide +kernel
theorem dX2_number_51 : decode prog_26_method_9_code 51 = .ok (.dup, 1) := by decide +kernel
theorem dX2_number_52 : decode prog_26_method_9_code 52 = .ok (.getfield 37, 3) := by decide +kernel
theorem dX2_number_55 : decode prog_26_method_9_code 55 = .ok (.iconst 1, 1) := by decide +kernel
theorem dX2_number_56 : decode prog_26_method_9_code 56 = .ok (.iadd, 1) := by decide +kernel
theorem dX2_number_57 : decode prog_26_method_9_code 57 = .ok (.putfield 37, 3) := by decide +kernel
theorem dX2_number_60 : decode prog_26_method_9_code 60 = .ok (.goto (-58), 3) := by decide +kernel
theorem dX2_number_63 : decode prog_26_method_9_code 63 = .ok (.aload_n 0, 1) := by decide +kernel
theorem dX2_number_64 : decode prog_26_method_9_code 64 = .ok (.getfield 37, 3) := by decide +kernel
theorem dX2_number_67 : decode prog_26_method_9_code 67 = .ok (.aload_n 0, 1) := by decide +kernel
theorem dX2_number_68 : decode prog_26_method_9_code 68 = .ok (.getfield 47, 3) := by decide +kernel
theorem dX2_number_71 : decode prog_26_method_9_code 71 = .ok (.isub, 1) := by decide +kernel
theorem dX2_number_72 : decode prog_26_method_9_code 72 = .ok (.bipush 10, 2) := by decide +kernel
theorem dX2_number_74 : decode prog_26_method_9_code 74 = .ok (.if_icmp .gt 11, 3) := by decide +kernel
theorem dX2_number_77 : decode prog_26_method_9_code 77 = .ok (.lload_n 1, 1) := by decide +kernel
theorem dX2_number_78 : decode prog_26_method_9_code 78 = .ok (.ldc2_w 76, 3) := by decide +kernel
theorem dX2_number_81 : decode prog_26_method_9_code 81 = .ok (.lcmp, 1) := by decide +kernel
theorem dX2_number_82 : decode prog_26_method_9_code 82 = .ok (.ifCond .le 13, 3) := by decide +kernel
theorem dX2_number_85 : decode prog_26_method_9_code 85 = .ok (.aload_n 0, 1) := by decide +kernel
theorem dX2_number_86 : decode prog_26_method_9_code 86 = .ok (.iconst 1, 1) := by decide +kernel
theorem dX2_number_87 : decode prog_26_method_9_code 87 = .ok (.aload_n 0, 1) := by decide +kernel
theorem dX2_number_88 : decode prog_26_method_9_code 88 = .ok (.getfield 47, 3) := by decide +kernel
theorem dX2_number_91 : decode prog_26_method_9_code 91 = .ok (.invokevirtual 68, 3) := by decide +kernel
theorem dX2_number_94 : decode prog_26_method_9_code 94 = .ok (.athrow, 1) := by decide +kernel
theorem dX2_number_95 : decode prog_26_method_9_code 95 = .ok (.aload_n 0, 1) := by decide +kernel
theorem dX2_number_96 : decode prog_26_method_9_code 96 = .ok (.iconst 2, 1) := by decide +kernel
theorem dX2_number_97 : decode prog_26_method_9_code 97 = .ok (.putfield 48, 3) := by decide +kernel
theorem dX2_number_100 : decode prog_26_method_9_code 100 = .ok (.aload_n 0, 1) := by decide +kernel
theorem dX2_number_101 : decode prog_26_method_9_code 101 = .ok (.lload_n 1, 1) := by decide +kernel
theorem dX2_number_102 : decode prog_26_method_9_code 102 = .ok (.l2i, 1) := by decide +kernel
theorem dX2_number_103 : decode prog_26_method_9_code 103 = .ok (.putfield 78, 3) := by decide +kernel
theorem dX2_number_106 : decode prog_26_method_9_code 106 = .ok (.return_, 1) := by decide +kernel
theorem dX2_sign_0 : decode prog_26_method_10_code 0 = .ok (.aload_n 0, 1) := by decide +kernel
theorem dX2_sign_1 : decode prog_26_method_10_code 1 = .ok (.aload_n 0, 1) := by decide +kernel
theorem dX2_sign_2 : decode prog_26_method_10_code 2 = .ok (.getfield 37, 3) := by decide +kernel
theorem dX2_sign_5 : decode prog_26_method_10_code 5 = .ok (.iconst 1, 1) := by decide +kernel
theorem dX2_sign_6 : decode prog_26_method_10_code 6 = .ok (.iadd, 1) := by decide +kernel
theorem dX2_sign_7 : decode prog_26_method_10_code 7 = .ok (.invokevirtual 43, 3) := by decide +kernel
theorem dX2_sign_10 : decode prog_26_method_10_code 10 = .ok (.bipush 61, 2) := by decide +kernel
theorem dX2_sign_12 : decode prog_26_method_10_code 12 = .ok (.if_icmp .ne 31, 3) := by decide +kernel
theorem dX2_sign_15 : decode prog_26_method_10_code 15 = .ok (.iload_n 1, 1) := by decide +kernel
theorem dX2_sign_16 : decode prog_26_method_10_code 16 = .ok (.bipush 61, 2) := by decide +kernel
theorem dX2_sign_18 : decode prog_26_method_10_code 18 = .ok (.if_icmp .eq 21, 3) := by decide +kernel
theorem dX2_sign_21 : decode prog_26_method_10_code 21 = .ok (.iload_n 1, 1) := by decide +kernel
theorem dX2_sign_22 : decode prog_26_method_10_code 22 = .ok (.bipush 33, 2) := by decide +kernel
theorem dX2_sign_24 : decode prog_26_method_10_code 24 = .ok (.if_icmp .eq 15, 3) := by decide +kernel
theorem dX2_sign_27 : decode prog_26_method_10_code 27 = .ok (.iload_n 1, 1) := by decide +kernel
theorem dX2_sign_28 : decode prog_26_method_10_code 28 = .ok (.bipush 60, 2) := by decide +kernel
theorem dX2_sign_30 : decode prog_26_method_10_code 30 = .ok (.if_icmp .eq 9, 3) := by decide +kernel
theorem dX2_sign_33 : decode prog_26_method_10_code 33 = .ok (.iload_n 1, 1) := by decide +kernel
theorem dX2_sign_34 : decode prog_26_method_10_code 34 = .ok (.bipush 62, 2) := by decide +kernel
theorem dX2_sign_36 : decode prog_26_method_10_code 36 = .ok (.if_icmp .ne 7, 3) := by decide +kernel
theorem dX2_sign_39 : decode prog_26_method_10_code 39 = .ok (.iconst 1, 1) := by decide +kernel
theorem dX2_sign_40 : decode prog_26_method_10_code 40 = .ok (.goto 4, 3) := by decide +kernel
theorem dX2_sign_43 : decode prog_26_method_10_code 43 = .ok (.iconst 0, 1) := by decide +kernel
theorem dX2_sign_44 : decode prog_26_method_10_code 44 = .ok (.istore_n 2, 1) := by decide +kernel
theorem dX2_sign_45 : decode prog_26_method_10_code 45 = .ok (.ldc 81, 2) := by decide +kernel
theorem dX2_sign_47 : decode prog_26_method_10_code 47 = .ok (.iload_n 1, 1) := by decide +kernel
theorem dX2_sign_48 : decode prog_26_method_10_code 48 = .ok (.invokevirtual 83, 3) := by decide +kernel
theorem dX2_sign_51 : decode prog_26_method_10_code 51 = .ok (.ifCond .ge 13, 3) := by decide +kernel
theorem dX2_sign_54 : decode prog_26_method_10_code 54 = .ok (.aload_n 0, 1) := by decide +kernel
theorem dX2_sign_55 : decode prog_26_method_10_code 55 = .ok (.iconst 1, 1) := by decide +kernel
theorem dX2_sign_56 : decode prog_26_method_10_code 56 = .ok (.aload_n 0, 1) := by decide +kernel
theorem dX2_sign_57 : decode prog_26_method_10_code 57 = .ok (.getfield 47, 3) := by decide +kernel
theorem dX2_sign_60 : decode prog_26_method_10_code 60 = .ok (.invokevirtual 68, 3) := by decide +kernel
theorem dX2_sign_63 : decode prog_26_method_10_code 63 = .ok (.athrow, 1) := by decide +kernel
theorem dX2_sign_64 : decode prog_26_method_10_code 64 = .ok (.aload_n 0, 1) := by decide +kernel
theorem dX2_sign_65 : decode prog_26_method_10_code 65 = .ok (.iconst 3, 1) := by decide +kernel
theorem dX2_sign_66 : decode prog_26_method_10_code 66 = .ok (.putfield 48, 3) := by decide +kernel
theorem dX2_sign_69 : decode prog_26_method_10_code 69 = .ok (.aload_n 0, 1) := by decide +kernel
theorem dX2_sign_70 : decode prog_26_method_10_code 70 = .ok (.iload_n 2, 1) := by decide +kernel
theorem dX2_sign_71 : decode prog_26_method_10_code 71 = .ok (.ifCond .eq 11, 3) := by decide +kernel
theorem dX2_sign_74 : decode prog_26_method_10_code 74 = .ok (.sipush 256, 3) := by decide +kernel
theorem dX2_sign_77 : decode prog_26_method_10_code 77 = .ok (.iload_n 1, 1) := by decide +kernel
theorem dX2_sign_78 : decode prog_26_method_10_code 78 = .ok (.iadd, 1) := by decide +kernel
theorem dX2_sign_79 : decode prog_26_method_10_code 79 = .ok (.goto 4, 3) := by decide +kernel
theorem dX2_sign_82 : decode prog_26_method_10_code 82 = .ok (.iload_n 1, 1) := by decide +kernel
theorem dX2_sign_83 : decode prog_26_method_10_code 83 = .ok (.putfield 78, 3) := by decide +kernel
theorem dX2_sign_86 : decode prog_26_method_10_code 86 = .ok (.aload_n 0, 1) := by decide +kernel
theorem dX2_sign_87 : decode prog_26_method_10_code 87 = .ok (.dup, 1) := by decide +kernel
theorem dX2_sign_88 : decode prog_26_method_10_code 88 = .ok (.getfield 37, 3) := by decide +kernel
theorem dX2_sign_91 : decode prog_26_method_10_code 91 = .ok (.iload_n 2, 1) := by decide +kernel
theorem dX2_sign_92 : decode prog_26_method_10_code 92 = .ok (.ifCond .eq 7, 3) := by decide +kernel
theorem dX2_sign_95 : decode prog_26_method_10_code 95 = .ok (.iconst 2, 1) := by decide +kernel
theorem dX2_sign_96 : decode prog_26_method_10_code 96 = .ok (.goto 4, 3) := by decide +kernel
theorem dX2_sign_99 : decode prog_26_method_10_code 99 = .ok (.iconst 1, 1) := by decide +kernel
theorem dX2_sign_100 : decode prog_26_method_10_code 100 = .ok (.iadd, 1) := by decide +kernel
theorem dX2_sign_101 : decode prog_26_method_10_code 101 = .ok (.putfield 37, 3) := by decide +kernel
theorem dX2_sign_104 : decode prog_26_method_10_code 104 = .ok (.return_, 1) := by decide +kernel
theorem dX2_isWord_0 : decode prog_26_method_12_code 0 = .ok (.aload_n 0, 1) := by decide +kernel
theorem dX2_isWord_1 : decode prog_26_method_12_code 1 = .ok (.getfield 48, 3) := by decide +kernel
theorem dX2_isWord_4 : decode prog_26_method_12_code 4 = .ok (.iconst 1, 1) := by decide +kernel
theorem dX2_isWord_5 : decode prog_26_method_12_code 5 = .ok (.if_icmp .ne 19, 3) := by decide +kernel
theorem dX2_isWord_8 : decode prog_26_method_12_code 8 = .ok (.aload_n 0, 1) := by decide +kernel
theorem dX2_isWord_9 : decode prog_26_method_12_code 9 = .ok (.getfield 37, 3) := by decide +kernel
theorem dX2_isWord_12 : decode prog_26_method_12_code 12 = .ok (.aload_n 0, 1) := by decide +kernel
theorem dX2_isWord_13 : decode prog_26_method_12_code 13 = .ok (.getfield 47, 3) := by decide +kernel
theorem dX2_isWord_16 : decode prog_26_method_12_code 16 = .ok (.isub, 1) := by decide +kernel
theorem dX2_isWord_17 : decode prog_26_method_12_code 17 = .ok (.aload_n 1, 1) := by decide +kernel
theorem dX2_isWord_18 : decode prog_26_method_12_code 18 = .ok (.invokevirtual 88, 3) := by decide +kernel
theorem dX2_isWord_21 : decode prog_26_method_12_code 21 = .ok (.if_icmp .eq 5, 3) := by decide +kernel
theorem dX2_isWord_24 : decode prog_26_method_12_code 24 = .ok (.iconst 0, 1) := by decide +kernel
theorem dX2_isWord_25 : decode prog_26_method_12_code 25 = .ok (.ireturn, 1) := by decide +kernel
theorem dX2_isWord_26 : decode prog_26_method_12_code 26 = .ok (.iconst 0, 1) := by decide +kernel
theorem dX2_isWord_27 : decode prog_26_method_12_code 27 = .ok (.istore_n 2, 1) := by decide +kernel
theorem dX2_isWord_28 : decode prog_26_method_12_code 28 = .ok (.iload_n 2, 1) := by decide +kernel
theorem dX2_isWord_29 : decode prog_26_method_12_code 29 = .ok (.aload_n 1, 1) := by decide +kernel
theorem dX2_isWord_30 : decode prog_26_method_12_code 30 = .ok (.invokevirtual 88, 3) := by decide +kernel
theorem dX2_isWord_33 : decode prog_26_method_12_code 33 = .ok (.if_icmp .ge 30, 3) := by decide +kernel
theorem dX2_isWord_36 : decode prog_26_method_12_code 36 = .ok (.aload_n 0, 1) := by decide +kernel
theorem dX2_isWord_37 : decode prog_26_method_12_code 37 = .ok (.getfield 9, 3) := by decide +kernel
theorem dX2_isWord_40 : decode prog_26_method_12_code 40 = .ok (.aload_n 0, 1) := by decide +kernel
theorem dX2_isWord_41 : decode prog_26_method_12_code 41 = .ok (.getfield 47, 3) := by decide +kernel
theorem dX2_isWord_44 : decode prog_26_method_12_code 44 = .ok (.iload_n 2, 1) := by decide +kernel
theorem dX2_isWord_45 : decode prog_26_method_12_code 45 = .ok (.iadd, 1) := by decide +kernel
theorem dX2_isWord_46 : decode prog_26_method_12_code 46 = .ok (.baload, 1) := by decide +kernel
theorem dX2_isWord_47 : decode prog_26_method_12_code 47 = .ok (.aload_n 1, 1) := by decide +kernel
theorem dX2_isWord_48 : decode prog_26_method_12_code 48 = .ok (.iload_n 2, 1) := by decide +kernel
theorem dX2_isWord_49 : decode prog_26_method_12_code 49 = .ok (.invokevirtual 92, 3) := by decide +kernel
theorem dX2_isWord_52 : decode prog_26_method_12_code 52 = .ok (.if_icmp .eq 5, 3) := by decide +kernel
theorem dX2_isWord_55 : decode prog_26_method_12_code 55 = .ok (.iconst 0, 1) := by decide +kernel
theorem dX2_isWord_56 : decode prog_26_method_12_code 56 = .ok (.ireturn, 1) := by decide +kernel
theorem dX2_isWord_57 : decode prog_26_method_12_code 57 = .ok (.iinc 2 1, 3) := by decide +kernel
theorem dX2_isWord_60 : decode prog_26_method_12_code 60 = .ok (.goto (-32), 3) := by decide +kernel
theorem dX2_isWord_63 : decode prog_26_method_12_code 63 = .ok (.iconst 1, 1) := by decide +kernel
theorem dX2_isWord_64 : decode prog_26_method_12_code 64 = .ok (.ireturn, 1) := by decide +kernel
theorem dX2_name_0 : decode prog_26_method_14_code 0 = .ok (.lconst 0, 1) := by decide +kernel
theorem dX2_name_1 : decode prog_26_method_14_code 1 = .ok (.lstore_n 1, 1) := by decide +kernel
theorem dX2_name_2 : decode prog_26_method_14_code 2 = .ok (.aload_n 0, 1) := by decide +kernel
theorem dX2_name_3 : decode prog_26_method_14_code 3 = .ok (.getfield 47, 3) := by decide +kernel
theorem dX2_name_6 : decode prog_26_method_14_code 6 = .ok (.istore_n 3, 1) := by decide +kernel
theorem dX2_name_7 : decode prog_26_method_14_code 7 = .ok (.iload_n 3, 1) := by decide +kernel
theorem dX2_name_8 : decode prog_26_method_14_code 8 = .ok (.aload_n 0, 1) := by decide +kernel
theorem dX2_name_9 : decode prog_26_method_14_code 9 = .ok (.getfield 37, 3) := by decide +kernel
theorem dX2_name_12 : decode prog_26_method_14_code 12 = .ok (.if_icmp .ge 27, 3) := by decide +kernel
theorem dX2_name_15 : decode prog_26_method_14_code 15 = .ok (.ldc2_w 96, 3) := by decide +kernel
theorem dX2_name_18 : decode prog_26_method_14_code 18 = .ok (.lload_n 1, 1) := by decide +kernel
theorem dX2_name_19 : decode prog_26_method_14_code 19 = .ok (.lmul, 1) := by decide +kernel
theorem dX2_name_20 : decode prog_26_method_14_code 20 = .ok (.aload_n 0, 1) := by decide +kernel
theorem dX2_name_21 : decode prog_26_method_14_code 21 = .ok (.getfield 9, 3) := by decide +kernel
theorem dX2_name_24 : decode prog_26_method_14_code 24 = .ok (.iload_n 3, 1) := by decide +kernel
theorem dX2_name_25 : decode prog_26_method_14_code 25 = .ok (.baload, 1) := by decide +kernel
theorem dX2_name_26 : decode prog_26_method_14_code 26 = .ok (.i2l, 1) := by decide +kernel
theorem dX2_name_27 : decode prog_26_method_14_code 27 = .ok (.ladd, 1) := by decide +kernel
theorem dX2_name_28 : decode prog_26_method_14_code 28 = .ok (.ldc2_w 98, 3) := by decide +kernel
theorem dX2_name_31 : decode prog_26_method_14_code 31 = .ok (.lsub, 1) := by decide +kernel
theorem dX2_name_32 : decode prog_26_method_14_code 32 = .ok (.lstore_n 1, 1) := by decide +kernel
theorem dX2_name_33 : decode prog_26_method_14_code 33 = .ok (.iinc 3 1, 3) := by decide +kernel
theorem dX2_name_36 : decode prog_26_method_14_code 36 = .ok (.goto (-29), 3) := by decide +kernel
theorem dX2_name_39 : decode prog_26_method_14_code 39 = .ok (.lload_n 1, 1) := by decide +kernel
theorem dX2_name_40 : decode prog_26_method_14_code 40 = .ok (.lreturn, 1) := by decide +kernel
theorem dX2_take_0 : decode prog_26_method_15_code 0 = .ok (.aload_n 0, 1) := by decide +kernel
theorem dX2_take_1 : decode prog_26_method_15_code 1 = .ok (.iload_n 1, 1) := by decide +kernel
theorem dX2_take_2 : decode prog_26_method_15_code 2 = .ok (.invokevirtual 100, 3) := by decide +kernel
theorem dX2_take_5 : decode prog_26_method_15_code 5 = .ok (.ifCond .ne 13, 3) := by decide +kernel
theorem dX2_take_8 : decode prog_26_method_15_code 8 = .ok (.aload_n 0, 1) := by decide +kernel
theorem dX2_take_9 : decode prog_26_method_15_code 9 = .ok (.iconst 2, 1) := by decide +kernel
theorem dX2_take_10 : decode prog_26_method_15_code 10 = .ok (.aload_n 0, 1) := by decide +kernel
theorem dX2_take_11 : decode prog_26_method_15_code 11 = .ok (.getfield 47, 3) := by decide +kernel
theorem dX2_take_14 : decode prog_26_method_15_code 14 = .ok (.invokevirtual 68, 3) := by decide +kernel
theorem dX2_take_17 : decode prog_26_method_15_code 17 = .ok (.athrow, 1) := by decide +kernel
theorem dX2_take_18 : decode prog_26_method_15_code 18 = .ok (.iload_n 1, 1) := by decide +kernel
theorem dX2_take_19 : decode prog_26_method_15_code 19 = .ok (.bipush 40, 2) := by decide +kernel
theorem dX2_take_21 : decode prog_26_method_15_code 21 = .ok (.if_icmp .eq 15, 3) := by decide +kernel
theorem dX2_take_24 : decode prog_26_method_15_code 24 = .ok (.iload_n 1, 1) := by decide +kernel
theorem dX2_take_25 : decode prog_26_method_15_code 25 = .ok (.bipush 91, 2) := by decide +kernel
theorem dX2_take_27 : decode prog_26_method_15_code 27 = .ok (.if_icmp .eq 9, 3) := by decide +kernel
theorem dX2_take_30 : decode prog_26_method_15_code 30 = .ok (.iload_n 1, 1) := by decide +kernel
theorem dX2_take_31 : decode prog_26_method_15_code 31 = .ok (.bipush 123, 2) := by decide +kernel
theorem dX2_take_33 : decode prog_26_method_15_code 33 = .ok (.if_icmp .ne 13, 3) := by decide +kernel
theorem dX2_take_36 : decode prog_26_method_15_code 36 = .ok (.aload_n 0, 1) := by decide +kernel
theorem dX2_take_37 : decode prog_26_method_15_code 37 = .ok (.dup, 1) := by decide +kernel
theorem dX2_take_38 : decode prog_26_method_15_code 38 = .ok (.getfield 40, 3) := by decide +kernel
theorem dX2_take_41 : decode prog_26_method_15_code 41 = .ok (.iconst 1, 1) := by decide +kernel
theorem dX2_take_42 : decode prog_26_method_15_code 42 = .ok (.iadd, 1) := by decide +kernel
theorem dX2_take_43 : decode prog_26_method_15_code 43 = .ok (.putfield 40, 3) := by decide +kernel
theorem dX2_take_46 : decode prog_26_method_15_code 46 = .ok (.iload_n 1, 1) := by decide +kernel
theorem dX2_take_47 : decode prog_26_method_15_code 47 = .ok (.bipush 41, 2) := by decide +kernel
theorem dX2_take_49 : decode prog_26_method_15_code 49 = .ok (.if_icmp .eq 15, 3) := by decide +kernel
theorem dX2_take_52 : decode prog_26_method_15_code 52 = .ok (.iload_n 1, 1) := by decide +kernel
theorem dX2_take_53 : decode prog_26_method_15_code 53 = .ok (.bipush 93, 2) := by decide +kernel
theorem dX2_take_55 : decode prog_26_method_15_code 55 = .ok (.if_icmp .eq 9, 3) := by decide +kernel
theorem dX2_take_58 : decode prog_26_method_15_code 58 = .ok (.iload_n 1, 1) := by decide +kernel
theorem dX2_take_59 : decode prog_26_method_15_code 59 = .ok (.bipush 125, 2) := by decide +kernel
theorem dX2_take_61 : decode prog_26_method_15_code 61 = .ok (.if_icmp .ne 13, 3) := by decide +kernel
theorem dX2_take_64 : decode prog_26_method_15_code 64 = .ok (.aload_n 0, 1) := by decide +kernel
theorem dX2_take_65 : decode prog_26_method_15_code 65 = .ok (.dup, 1) := by decide +kernel
theorem dX2_take_66 : decode prog_26_method_15_code 66 = .ok (.getfield 40, 3) := by decide +kernel
theorem dX2_take_69 : decode prog_26_method_15_code 69 = .ok (.iconst 1, 1) := by decide +kernel
theorem dX2_take_70 : decode prog_26_method_15_code 70 = .ok (.isub, 1) := by decide +kernel
theorem dX2_take_71 : decode prog_26_method_15_code 71 = .ok (.putfield 40, 3) := by decide +kernel
theorem dX2_take_74 : decode prog_26_method_15_code 74 = .ok (.aload_n 0, 1) := by decide +kernel
theorem dX2_take_75 : decode prog_26_method_15_code 75 = .ok (.getfield 40, 3) := by decide +kernel
theorem dX2_take_78 : decode prog_26_method_15_code 78 = .ok (.bipush 10, 2) := by decide +kernel
theorem dX2_take_80 : decode prog_26_method_15_code 80 = .ok (.if_icmp .le 13, 3) := by decide +kernel
theorem dX2_take_83 : decode prog_26_method_15_code 83 = .ok (.aload_n 0, 1) := by decide +kernel
theorem dX2_take_84 : decode prog_26_method_15_code 84 = .ok (.iconst 3, 1) := by decide +kernel
theorem dX2_take_85 : decode prog_26_method_15_code 85 = .ok (.aload_n 0, 1) := by decide +kernel
theorem dX2_take_86 : decode prog_26_method_15_code 86 = .ok (.getfield 47, 3) := by decide +kernel
theorem dX2_take_89 : decode prog_26_method_15_code 89 = .ok (.invokevirtual 68, 3) := by decide +kernel
theorem dX2_take_92 : decode prog_26_method_15_code 92 = .ok (.athrow, 1) := by decide +kernel
theorem dX2_take_93 : decode prog_26_method_15_code 93 = .ok (.aload_n 0, 1) := by decide +kernel
theorem dX2_take_94 : decode prog_26_method_15_code 94 = .ok (.invokevirtual 103, 3) := by decide +kernel
theorem dX2_take_97 : decode prog_26_method_15_code 97 = .ok (.return_, 1) := by decide +kernel
theorem dX2_is_0 : decode prog_26_method_11_code 0 = .ok (.aload_n 0, 1) := by decide +kernel
theorem dX2_is_1 : decode prog_26_method_11_code 1 = .ok (.getfield 48, 3) := by decide +kernel
theorem dX2_is_4 : decode prog_26_method_11_code 4 = .ok (.iconst 3, 1) := by decide +kernel
theorem dX2_is_5 : decode prog_26_method_11_code 5 = .ok (.if_icmp .ne 15, 3) := by decide +kernel
theorem dX2_is_8 : decode prog_26_method_11_code 8 = .ok (.aload_n 0, 1) := by decide +kernel
theorem dX2_is_9 : decode prog_26_method_11_code 9 = .ok (.getfield 78, 3) := by decide +kernel
theorem dX2_is_12 : decode prog_26_method_11_code 12 = .ok (.iload_n 1, 1) := by decide +kernel
theorem dX2_is_13 : decode prog_26_method_11_code 13 = .ok (.if_icmp .ne 7, 3) := by decide +kernel
theorem dX2_is_16 : decode prog_26_method_11_code 16 = .ok (.iconst 1, 1) := by decide +kernel
theorem dX2_is_17 : decode prog_26_method_11_code 17 = .ok (.goto 4, 3) := by decide +kernel
theorem dX2_is_20 : decode prog_26_method_11_code 20 = .ok (.iconst 0, 1) := by decide +kernel
theorem dX2_is_21 : decode prog_26_method_11_code 21 = .ok (.ireturn, 1) := by decide +kernel
theorem dX2_isCalled_0 : decode prog_26_method_13_code 0 = .ok (.aload_n 0, 1) := by decide +kernel
theorem dX2_isCalled_1 : decode prog_26_method_13_code 1 = .ok (.getfield 37, 3) := by decide +kernel
theorem dX2_isCalled_4 : decode prog_26_method_13_code 4 = .ok (.istore_n 1, 1) := by decide +kernel
theorem dX2_isCalled_5 : decode prog_26_method_13_code 5 = .ok (.iload_n 1, 1) := by decide +kernel
theorem dX2_isCalled_6 : decode prog_26_method_13_code 6 = .ok (.aload_n 0, 1) := by decide +kernel
theorem dX2_isCalled_7 : decode prog_26_method_13_code 7 = .ok (.getfield 34, 3) := by decide +kernel
theorem dX2_isCalled_10 : decode prog_26_method_13_code 10 = .ok (.if_icmp .ge 73, 3) := by decide +kernel
theorem dX2_isCalled_13 : decode prog_26_method_13_code 13 = .ok (.aload_n 0, 1) := by decide +kernel
theorem dX2_isCalled_14 : decode prog_26_method_13_code 14 = .ok (.iload_n 1, 1) := by decide +kernel
theorem dX2_isCalled_15 : decode prog_26_method_13_code 15 = .ok (.invokevirtual 43, 3) := by decide +kernel
theorem dX2_isCalled_18 : decode prog_26_method_13_code 18 = .ok (.bipush 32, 2) := by decide +kernel
theorem dX2_isCalled_20 : decode prog_26_method_13_code 20 = .ok (.if_icmp .eq 23, 3) := by decide +kernel
theorem dX2_isCalled_23 : decode prog_26_method_13_code 23 = .ok (.aload_n 0, 1) := by decide +kernel
theorem dX2_isCalled_24 : decode prog_26_method_13_code 24 = .ok (.iload_n 1, 1) := by decide +kernel
theorem dX2_isCalled_25 : decode prog_26_method_13_code 25 = .ok (.invokevirtual 43, 3) := by decide +kernel
theorem dX2_isCalled_28 : decode prog_26_method_13_code 28 = .ok (.bipush 10, 2) := by decide +kernel
theorem dX2_isCalled_30 : decode prog_26_method_13_code 30 = .ok (.if_icmp .eq 13, 3) := by decide +kernel
theorem dX2_isCalled_33 : decode prog_26_method_13_code 33 = .ok (.aload_n 0, 1) := by decide +kernel
theorem dX2_isCalled_34 : decode prog_26_method_13_code 34 = .ok (.iload_n 1, 1) := by decide +kernel
theorem dX2_isCalled_35 : decode prog_26_method_13_code 35 = .ok (.invokevirtual 43, 3) := by decide +kernel
theorem dX2_isCalled_38 : decode prog_26_method_13_code 38 = .ok (.bipush 35, 2) := by decide +kernel
theorem dX2_isCalled_40 : decode prog_26_method_13_code 40 = .ok (.if_icmp .ne 43, 3) := by decide +kernel
theorem dX2_isCalled_43 : decode prog_26_method_13_code 43 = .ok (.aload_n 0, 1) := by decide +kernel
theorem dX2_isCalled_44 : decode prog_26_method_13_code 44 = .ok (.iload_n 1, 1) := by decide +kernel
theorem dX2_isCalled_45 : decode prog_26_method_13_code 45 = .ok (.invokevirtual 43, 3) := by decide +kernel
theorem dX2_isCalled_48 : decode prog_26_method_13_code 48 = .ok (.bipush 35, 2) := by decide +kernel
theorem dX2_isCalled_50 : decode prog_26_method_13_code 50 = .ok (.if_icmp .ne 27, 3) := by decide +kernel
theorem dX2_isCalled_53 : decode prog_26_method_13_code 53 = .ok (.iload_n 1, 1) := by decide +kernel
theorem dX2_isCalled_54 : decode prog_26_method_13_code 54 = .ok (.aload_n 0, 1) := by decide +kernel
theorem dX2_isCalled_55 : decode prog_26_method_13_code 55 = .ok (.getfield 34, 3) := by decide +kernel
theorem dX2_isCalled_58 : decode prog_26_method_13_code 58 = .ok (.if_icmp .ge (-53), 3) := by decide +kernel
theorem dX2_isCalled_61 : decode prog_26_method_13_code 61 = .ok (.aload_n 0, 1) := by decide +kernel
theorem dX2_isCalled_62 : decode prog_26_method_13_code 62 = .ok (.iload_n 1, 1) := by decide +kernel
theorem dX2_isCalled_63 : decode prog_26_method_13_code 63 = .ok (.invokevirtual 43, 3) := by decide +kernel
theorem dX2_isCalled_66 : decode prog_26_method_13_code 66 = .ok (.bipush 10, 2) := by decide +kernel
theorem dX2_isCalled_68 : decode prog_26_method_13_code 68 = .ok (.if_icmp .eq (-63), 3) := by decide +kernel
theorem dX2_isCalled_71 : decode prog_26_method_13_code 71 = .ok (.iinc 1 1, 3) := by decide +kernel
theorem dX2_isCalled_74 : decode prog_26_method_13_code 74 = .ok (.goto (-21), 3) := by decide +kernel
theorem dX2_isCalled_77 : decode prog_26_method_13_code 77 = .ok (.iinc 1 1, 3) := by decide +kernel
theorem dX2_isCalled_80 : decode prog_26_method_13_code 80 = .ok (.goto (-75), 3) := by decide +kernel
theorem dX2_isCalled_83 : decode prog_26_method_13_code 83 = .ok (.aload_n 0, 1) := by decide +kernel
theorem dX2_isCalled_84 : decode prog_26_method_13_code 84 = .ok (.iload_n 1, 1) := by decide +kernel
theorem dX2_isCalled_85 : decode prog_26_method_13_code 85 = .ok (.invokevirtual 43, 3) := by decide +kernel
theorem dX2_isCalled_88 : decode prog_26_method_13_code 88 = .ok (.bipush 40, 2) := by decide +kernel
theorem dX2_isCalled_90 : decode prog_26_method_13_code 90 = .ok (.if_icmp .ne 7, 3) := by decide +kernel
theorem dX2_isCalled_93 : decode prog_26_method_13_code 93 = .ok (.iconst 1, 1) := by decide +kernel
theorem dX2_isCalled_94 : decode prog_26_method_13_code 94 = .ok (.goto 4, 3) := by decide +kernel
theorem dX2_isCalled_97 : decode prog_26_method_13_code 97 = .ok (.iconst 0, 1) := by decide +kernel
theorem dX2_isCalled_98 : decode prog_26_method_13_code 98 = .ok (.ireturn, 1) := by decide +kernel
theorem dX20_init_0 : decode prog_4_method_1_code 0 = .ok (.aload_n 0, 1) := by decide +kernel
theorem dX20_init_1 : decode prog_4_method_1_code 1 = .ok (.invokespecial 1, 3) := by decide +kernel
theorem dX20_init_4 : decode prog_4_method_1_code 4 = .ok (.aload_n 0, 1) := by decide +kernel
theorem dX20_init_5 : decode prog_4_method_1_code 5 = .ok (.new 7, 3) := by decide +kernel
theorem dX20_init_8 : decode prog_4_method_1_code 8 = .ok (.dup, 1) := by decide +kernel
theorem dX20_init_9 : decode prog_4_method_1_code 9 = .ok (.invokespecial 9, 3) := by decide +kernel
theorem dX20_init_12 : decode prog_4_method_1_code 12 = .ok (.putfield 10, 3) := by decide +kernel
theorem dX20_init_15 : decode prog_4_method_1_code 15 = .ok (.aload_n 0, 1) := by decide +kernel
theorem dX20_init_16 : decode prog_4_method_1_code 16 = .ok (.iload_n 1, 1) := by decide +kernel
theorem dX20_init_17 : decode prog_4_method_1_code 17 = .ok (.putfield 16, 3) := by decide +kernel
theorem dX20_init_20 : decode prog_4_method_1_code 20 = .ok (.return_, 1) := by decide +kernel
theorem dX20_work_0 : decode prog_4_method_2_code 0 = .ok (.iconst 0, 1) := by decide +kernel
theorem dX20_work_1 : decode prog_4_method_2_code 1 = .ok (.istore_n 2, 1) := by decide +kernel
theorem dX20_work_2 : decode prog_4_method_2_code 2 = .ok (.iload_n 2, 1) := by decide +kernel
theorem dX20_work_3 : decode prog_4_method_2_code 3 = .ok (.aload_n 0, 1) := by decide +kernel
theorem dX20_work_4 : decode prog_4_method_2_code 4 = .ok (.getfield 10, 3) := by decide +kernel
theorem dX20_work_7 : decode prog_4_method_2_code 7 = .ok (.getfield 20, 3) := by decide +kernel
theorem dX20_work_10 : decode prog_4_method_2_code 10 = .ok (.if_icmp .ge 22, 3) := by decide +kernel
theorem dX20_work_13 : decode prog_4_method_2_code 13 = .ok (.aload_n 0, 1) := by decide +kernel
theorem dX20_work_14 : decode prog_4_method_2_code 14 = .ok (.getfield 10, 3) := by decide +kernel
theorem dX20_work_17 : decode prog_4_method_2_code 17 = .ok (.getfield 23, 3) := by decide +kernel
theorem dX20_work_20 : decode prog_4_method_2_code 20 = .ok (.iload_n 2, 1) := by decide +kernel
theorem dX20_work_21 : decode prog_4_method_2_code 21 = .ok (.aaload, 1) := by decide +kernel
theorem dX20_work_22 : decode prog_4_method_2_code 22 = .ok (.aload_n 1, 1) := by decide +kernel
theorem dX20_work_23 : decode prog_4_method_2_code 23 = .ok (.invokevirtual 27, 3) := by decide +kernel
theorem dX20_work_26 : decode prog_4_method_2_code 26 = .ok (.iinc 2 1, 3) := by decide +kernel
theorem dX20_work_29 : decode prog_4_method_2_code 29 = .ok (.goto (-27), 3) := by decide +kernel
theorem dX20_work_32 : decode prog_4_method_2_code 32 = .ok (.aload_n 1, 1) := by decide +kernel
theorem dX20_work_33 : decode prog_4_method_2_code 33 = .ok (.aload_n 0, 1) := by decide +kernel
theorem dX20_work_34 : decode prog_4_method_2_code 34 = .ok (.getfield 31, 3) := by decide +kernel
theorem dX20_work_37 : decode prog_4_method_2_code 37 = .ok (.invokevirtual 34, 3) := by decide +kernel
theorem dX20_work_40 : decode prog_4_method_2_code 40 = .ok (.aload_n 1, 1) := by decide +kernel
theorem dX20_work_41 : decode prog_4_method_2_code 41 = .ok (.aload_n 0, 1) := by decide +kernel
theorem dX20_work_42 : decode prog_4_method_2_code 42 = .ok (.getfield 16, 3) := by decide +kernel
theorem dX20_work_45 : decode prog_4_method_2_code 45 = .ok (.aload_n 0, 1) := by decide +kernel
theorem dX20_work_46 : decode prog_4_method_2_code 46 = .ok (.getfield 10, 3) := by decide +kernel
theorem dX20_work_49 : decode prog_4_method_2_code 49 = .ok (.getfield 20, 3) := by decide +kernel
theorem dX20_work_52 : decode prog_4_method_2_code 52 = .ok (.aload_n 0, 1) := by decide +kernel
theorem dX20_work_53 : decode prog_4_method_2_code 53 = .ok (.getfield 31, 3) := by decide +kernel
theorem dX20_work_56 : decode prog_4_method_2_code 56 = .ok (.invokevirtual 40, 3) := by decide +kernel
theorem dX20_work_59 : decode prog_4_method_2_code 59 = .ok (.return_, 1) := by decide +kernel
theorem dX21_init_0 : decode prog_5_method_1_code 0 = .ok (.aload_n 0, 1) := by decide +kernel
theorem dX21_init_1 : decode prog_5_method_1_code 1 = .ok (.invokespecial 3, 3) := by decide +kernel
theorem dX21_init_4 : decode prog_5_method_1_code 4 = .ok (.aload_n 0, 1) := by decide +kernel
theorem dX21_init_5 : decode prog_5_method_1_code 5 = .ok (.new 9, 3) := by decide +kernel
theorem dX21_init_8 : decode prog_5_method_1_code 8 = .ok (.dup, 1) := by decide +kernel
theorem dX21_init_9 : decode prog_5_method_1_code 9 = .ok (.invokespecial 11, 3) := by decide +kernel
theorem dX21_init_12 : decode prog_5_method_1_code 12 = .ok (.putfield 12, 3) := by decide +kernel
theorem dX21_init_15 : decode prog_5_method_1_code 15 = .ok (.aload_n 0, 1) := by decide +kernel
theorem dX21_init_16 : decode prog_5_method_1_code 16 = .ok (.iload_n 1, 1) := by decide +kernel
theorem dX21_init_17 : decode prog_5_method_1_code 17 = .ok (.putfield 18, 3) := by decide +kernel
theorem dX21_init_20 : decode prog_5_method_1_code 20 = .ok (.return_, 1) := by decide +kernel
theorem dX21_work_0 : decode prog_5_method_2_code 0 = .ok (.iconst 0, 1) := by decide +kernel
theorem dX21_work_1 : decode prog_5_method_2_code 1 = .ok (.istore_n 2, 1) := by decide +kernel
theorem dX21_work_2 : decode prog_5_method_2_code 2 = .ok (.iload_n 2, 1) := by decide +kernel
theorem dX21_work_3 : decode prog_5_method_2_code 3 = .ok (.aload_n 0, 1) := by decide +kernel
theorem dX21_work_4 : decode prog_5_method_2_code 4 = .ok (.getfield 12, 3) := by decide +kernel
theorem dX21_work_7 : decode prog_5_method_2_code 7 = .ok (.getfield 22, 3) := by decide +kernel
theorem dX21_work_10 : decode prog_5_method_2_code 10 = .ok (.if_icmp .ge 22, 3) := by decide +kernel
theorem dX21_work_13 : decode prog_5_method_2_code 13 = .ok (.aload_n 0, 1) := by decide +kernel
theorem dX21_work_14 : decode prog_5_method_2_code 14 = .ok (.getfield 12, 3) := by decide +kernel
theorem dX21_work_17 : decode prog_5_method_2_code 17 = .ok (.getfield 25, 3) := by decide +kernel
theorem dX21_work_20 : decode prog_5_method_2_code 20 = .ok (.iload_n 2, 1) := by decide +kernel
theorem dX21_work_21 : decode prog_5_method_2_code 21 = .ok (.aaload, 1) := by decide +kernel
theorem dX21_work_22 : decode prog_5_method_2_code 22 = .ok (.aload_n 1, 1) := by decide +kernel
theorem dX21_work_23 : decode prog_5_method_2_code 23 = .ok (.invokevirtual 29, 3) := by decide +kernel
theorem dX21_work_26 : decode prog_5_method_2_code 26 = .ok (.iinc 2 1, 3) := by decide +kernel
theorem dX21_work_29 : decode prog_5_method_2_code 29 = .ok (.goto (-27), 3) := by decide +kernel
theorem dX21_work_32 : decode prog_5_method_2_code 32 = .ok (.aload_n 1, 1) := by decide +kernel
theorem dX21_work_33 : decode prog_5_method_2_code 33 = .ok (.aload_n 0, 1) := by decide +kernel
theorem dX21_work_34 : decode prog_5_method_2_code 34 = .ok (.getfield 33, 3) := by decide +kernel
theorem dX21_work_37 : decode prog_5_method_2_code 37 = .ok (.invokevirtual 36, 3) := by decide +kernel
theorem dX21_work_40 : decode prog_5_method_2_code 40 = .ok (.aload_n 0, 1) := by decide +kernel
theorem dX21_work_41 : decode prog_5_method_2_code 41 = .ok (.getfield 18, 3) := by decide +kernel
theorem dX21_work_44 : decode prog_5_method_2_code 44 = .ok (.ifCond .ne 18, 3) := by decide +kernel
theorem dX21_work_47 : decode prog_5_method_2_code 47 = .ok (.aload_n 1, 1) := by decide +kernel
theorem dX21_work_48 : decode prog_5_method_2_code 48 = .ok (.aload_n 0, 1) := by decide +kernel
theorem dX21_work_49 : decode prog_5_method_2_code 49 = .ok (.getfield 42, 3) := by decide +kernel
theorem dX21_work_52 : decode prog_5_method_2_code 52 = .ok (.aload_n 0, 1) := by decide +kernel
theorem dX21_work_53 : decode prog_5_method_2_code 53 = .ok (.getfield 33, 3) := by decide +kernel
theorem dX21_work_56 : decode prog_5_method_2_code 56 = .ok (.invokevirtual 46, 3) := by decide +kernel
theorem dX21_work_59 : decode prog_5_method_2_code 59 = .ok (.goto 39, 3) := by decide +kernel
theorem dX21_work_62 : decode prog_5_method_2_code 62 = .ok (.aload_n 0, 1) := by decide +kernel
theorem dX21_work_63 : decode prog_5_method_2_code 63 = .ok (.getfield 18, 3) := by decide +kernel
theorem dX21_work_66 : decode prog_5_method_2_code 66 = .ok (.bipush 28, 2) := by decide +kernel
theorem dX21_work_68 : decode prog_5_method_2_code 68 = .ok (.if_icmp .ne 18, 3) := by decide +kernel
theorem dX21_work_71 : decode prog_5_method_2_code 71 = .ok (.aload_n 1, 1) := by decide +kernel
theorem dX21_work_72 : decode prog_5_method_2_code 72 = .ok (.aload_n 0, 1) := by decide +kernel
theorem dX21_work_73 : decode prog_5_method_2_code 73 = .ok (.getfield 42, 3) := by decide +kernel
theorem dX21_work_76 : decode prog_5_method_2_code 76 = .ok (.aload_n 0, 1) := by decide +kernel
theorem dX21_work_77 : decode prog_5_method_2_code 77 = .ok (.getfield 33, 3) := by decide +kernel
theorem dX21_work_80 : decode prog_5_method_2_code 80 = .ok (.invokevirtual 50, 3) := by decide +kernel
theorem dX21_work_83 : decode prog_5_method_2_code 83 = .ok (.goto 15, 3) := by decide +kernel
theorem dX21_work_86 : decode prog_5_method_2_code 86 = .ok (.aload_n 1, 1) := by decide +kernel
theorem dX21_work_87 : decode prog_5_method_2_code 87 = .ok (.aload_n 0, 1) := by decide +kernel
theorem dX21_work_88 : decode prog_5_method_2_code 88 = .ok (.getfield 42, 3) := by decide +kernel
theorem dX21_work_91 : decode prog_5_method_2_code 91 = .ok (.aload_n 0, 1) := by decide +kernel
theorem dX21_work_92 : decode prog_5_method_2_code 92 = .ok (.getfield 33, 3) := by decide +kernel
theorem dX21_work_95 : decode prog_5_method_2_code 95 = .ok (.invokevirtual 53, 3) := by decide +kernel
theorem dX21_work_98 : decode prog_5_method_2_code 98 = .ok (.return_, 1) := by decide +kernel
theorem dX22_init_0 : decode prog_15_method_1_code 0 = .ok (.aload_n 0, 1) := by decide +kernel
theorem dX22_init_1 : decode prog_15_method_1_code 1 = .ok (.invokespecial 1, 3) := by decide +kernel
theorem dX22_init_4 : decode prog_15_method_1_code 4 = .ok (.aload_n 0, 1) := by decide +kernel
theorem dX22_init_5 : decode prog_15_method_1_code 5 = .ok (.iload_n 1, 1) := by decide +kernel
theorem dX22_init_6 : decode prog_15_method_1_code 6 = .ok (.putfield 7, 3) := by decide +kernel
theorem dX22_init_9 : decode prog_15_method_1_code 9 = .ok (.return_, 1) := by decide +kernel
theorem dX22_work_0 : decode prog_15_method_2_code 0 = .ok (.aload_n 1, 1) := by decide +kernel
theorem dX22_work_1 : decode prog_15_method_2_code 1 = .ok (.aload_n 0, 1) := by decide +kernel
theorem dX22_work_2 : decode prog_15_method_2_code 2 = .ok (.getfield 7, 3) := by decide +kernel
theorem dX22_work_5 : decode prog_15_method_2_code 5 = .ok (.aload_n 0, 1) := by decide +kernel
theorem dX22_work_6 : decode prog_15_method_2_code 6 = .ok (.getfield 13, 3) := by decide +kernel
theorem dX22_work_9 : decode prog_15_method_2_code 9 = .ok (.invokevirtual 16, 3) := by decide +kernel
theorem dX22_work_12 : decode prog_15_method_2_code 12 = .ok (.return_, 1) := by decide +kernel
theorem dX23_init_0 : decode prog_21_method_1_code 0 = .ok (.aload_n 0, 1) := by decide +kernel
theorem dX23_init_1 : decode prog_21_method_1_code 1 = .ok (.invokespecial 1, 3) := by decide +kernel
theorem dX23_init_4 : decode prog_21_method_1_code 4 = .ok (.aload_n 0, 1) := by decide +kernel
theorem dX23_init_5 : decode prog_21_method_1_code 5 = .ok (.new 7, 3) := by decide +kernel
theorem dX23_init_8 : decode prog_21_method_1_code 8 = .ok (.dup, 1) := by decide +kernel
theorem dX23_init_9 : decode prog_21_method_1_code 9 = .ok (.invokespecial 9, 3) := by decide +kernel
theorem dX23_init_12 : decode prog_21_method_1_code 12 = .ok (.putfield 10, 3) := by decide +kernel
theorem dX23_init_15 : decode prog_21_method_1_code 15 = .ok (.return_, 1) := by decide +kernel
theorem dX23_work_0 : decode prog_21_method_2_code 0 = .ok (.aload_n 0, 1) := by decide +kernel
theorem dX23_work_1 : decode prog_21_method_2_code 1 = .ok (.getfield 10, 3) := by decide +kernel
theorem dX23_work_4 : decode prog_21_method_2_code 4 = .ok (.getfield 16, 3) := by decide +kernel
theorem dX23_work_7 : decode prog_21_method_2_code 7 = .ok (.iconst 0, 1) := by decide +kernel
theorem dX23_work_8 : decode prog_21_method_2_code 8 = .ok (.aaload, 1) := by decide +kernel
theorem dX23_work_9 : decode prog_21_method_2_code 9 = .ok (.aload_n 1, 1) := by decide +kernel
theorem dX23_work_10 : decode prog_21_method_2_code 10 = .ok (.invokevirtual 20, 3) := by decide +kernel
theorem dX23_work_13 : decode prog_21_method_2_code 13 = .ok (.iconst 1, 1) := by decide +kernel
theorem dX23_work_14 : decode prog_21_method_2_code 14 = .ok (.istore_n 2, 1) := by decide +kernel
theorem dX23_work_15 : decode prog_21_method_2_code 15 = .ok (.iload_n 2, 1) := by decide +kernel
theorem dX23_work_16 : decode prog_21_method_2_code 16 = .ok (.aload_n 0, 1) := by decide +kernel
theorem dX23_work_17 : decode prog_21_method_2_code 17 = .ok (.getfield 10, 3) := by decide +kernel
theorem dX23_work_20 : decode prog_21_method_2_code 20 = .ok (.getfield 24, 3) := by decide +kernel
theorem dX23_work_23 : decode prog_21_method_2_code 23 = .ok (.if_icmp .ge 48, 3) := by decide +kernel
theorem dX23_work_26 : decode prog_21_method_2_code 26 = .ok (.aload_n 0, 1) := by decide +kernel
theorem dX23_work_27 : decode prog_21_method_2_code 27 = .ok (.getfield 10, 3) := by decide +kernel
theorem dX23_work_30 : decode prog_21_method_2_code 30 = .ok (.getfield 16, 3) := by decide +kernel
theorem dX23_work_33 : decode prog_21_method_2_code 33 = .ok (.iload_n 2, 1) := by decide +kernel
theorem dX23_work_34 : decode prog_21_method_2_code 34 = .ok (.aaload, 1) := by decide +kernel
theorem dX23_work_35 : decode prog_21_method_2_code 35 = .ok (.aload_n 1, 1) := by decide +kernel
theorem dX23_work_36 : decode prog_21_method_2_code 36 = .ok (.invokevirtual 20, 3) := by decide +kernel
theorem dX23_work_39 : decode prog_21_method_2_code 39 = .ok (.aload_n 1, 1) := by decide +kernel
theorem dX23_work_40 : decode prog_21_method_2_code 40 = .ok (.aload_n 0, 1) := by decide +kernel
theorem dX23_work_41 : decode prog_21_method_2_code 41 = .ok (.getfield 10, 3) := by decide +kernel
theorem dX23_work_44 : decode prog_21_method_2_code 44 = .ok (.getfield 28, 3) := by decide +kernel
theorem dX23_work_47 : decode prog_21_method_2_code 47 = .ok (.iload_n 2, 1) := by decide +kernel
theorem dX23_work_48 : decode prog_21_method_2_code 48 = .ok (.iaload, 1) := by decide +kernel
theorem dX23_work_49 : decode prog_21_method_2_code 49 = .ok (.invokevirtual 32, 3) := by decide +kernel
theorem dX23_work_52 : decode prog_21_method_2_code 52 = .ok (.aload_n 1, 1) := by decide +kernel
theorem dX23_work_53 : decode prog_21_method_2_code 53 = .ok (.aload_n 0, 1) := by decide +kernel
theorem dX23_work_54 : decode prog_21_method_2_code 54 = .ok (.getfield 10, 3) := by decide +kernel
theorem dX23_work_57 : decode prog_21_method_2_code 57 = .ok (.getfield 28, 3) := by decide +kernel
theorem dX23_work_60 : decode prog_21_method_2_code 60 = .ok (.iload_n 2, 1) := by decide +kernel
theorem dX23_work_61 : decode prog_21_method_2_code 61 = .ok (.iaload, 1) := by decide +kernel
theorem dX23_work_62 : decode prog_21_method_2_code 62 = .ok (.invokevirtual 38, 3) := by decide +kernel
theorem dX23_work_65 : decode prog_21_method_2_code 65 = .ok (.iinc 2 1, 3) := by decide +kernel
theorem dX23_work_68 : decode prog_21_method_2_code 68 = .ok (.goto (-53), 3) := by decide +kernel
theorem dX23_work_71 : decode prog_21_method_2_code 71 = .ok (.return_, 1) := by decide +kernel
theorem dX24_init_0 : decode prog_23_method_1_code 0 = .ok (.aload_n 0, 1) := by decide +kernel
theorem dX24_init_1 : decode prog_23_method_1_code 1 = .ok (.invokespecial 1, 3) := by decide +kernel
theorem dX24_init_4 : decode prog_23_method_1_code 4 = .ok (.aload_n 0, 1) := by decide +kernel
theorem dX24_init_5 : decode prog_23_method_1_code 5 = .ok (.aload_n 1, 1) := by decide +kernel
theorem dX24_init_6 : decode prog_23_method_1_code 6 = .ok (.putfield 7, 3) := by decide +kernel
theorem dX24_init_9 : decode prog_23_method_1_code 9 = .ok (.aload_n 0, 1) := by decide +kernel
theorem dX24_init_10 : decode prog_23_method_1_code 10 = .ok (.iload_n 2, 1) := by decide +kernel
theorem dX24_init_11 : decode prog_23_method_1_code 11 = .ok (.putfield 13, 3) := by decide +kernel
theorem dX24_init_14 : decode prog_23_method_1_code 14 = .ok (.return_, 1) := by decide +kernel
theorem dX24_work_0 : decode prog_23_method_2_code 0 = .ok (.aload_n 0, 1) := by decide +kernel
theorem dX24_work_1 : decode prog_23_method_2_code 1 = .ok (.getfield 7, 3) := by decide +kernel
theorem dX24_work_4 : decode prog_23_method_2_code 4 = .ok (.aload_n 1, 1) := by decide +kernel
theorem dX24_work_5 : decode prog_23_method_2_code 5 = .ok (.invokevirtual 17, 3) := by decide +kernel
theorem dX24_work_8 : decode prog_23_method_2_code 8 = .ok (.aload_n 1, 1) := by decide +kernel
theorem dX24_work_9 : decode prog_23_method_2_code 9 = .ok (.aload_n 0, 1) := by decide +kernel
theorem dX24_work_10 : decode prog_23_method_2_code 10 = .ok (.getfield 21, 3) := by decide +kernel
theorem dX24_work_13 : decode prog_23_method_2_code 13 = .ok (.invokevirtual 25, 3) := by decide +kernel
theorem dX24_work_16 : decode prog_23_method_2_code 16 = .ok (.aload_n 1, 1) := by decide +kernel
theorem dX24_work_17 : decode prog_23_method_2_code 17 = .ok (.getfield 31, 3) := by decide +kernel
theorem dX24_work_20 : decode prog_23_method_2_code 20 = .ok (.aload_n 0, 1) := by decide +kernel
theorem dX24_work_21 : decode prog_23_method_2_code 21 = .ok (.getfield 13, 3) := by decide +kernel
theorem dX24_work_24 : decode prog_23_method_2_code 24 = .ok (.aload_n 0, 1) := by decide +kernel
theorem dX24_work_25 : decode prog_23_method_2_code 25 = .ok (.getfield 21, 3) := by decide +kernel
theorem dX24_work_28 : decode prog_23_method_2_code 28 = .ok (.invokevirtual 35, 3) := by decide +kernel
theorem dX24_work_31 : decode prog_23_method_2_code 31 = .ok (.return_, 1) := by decide +kernel
theorem dX25_init_0 : decode prog_6_method_1_code 0 = .ok (.aload_n 0, 1) := by decide +kernel
theorem dX25_init_1 : decode prog_6_method_1_code 1 = .ok (.invokespecial 1, 3) := by decide +kernel
theorem dX25_init_4 : decode prog_6_method_1_code 4 = .ok (.aload_n 0, 1) := by decide +kernel
theorem dX25_init_5 : decode prog_6_method_1_code 5 = .ok (.new 7, 3) := by decide +kernel
theorem dX25_init_8 : decode prog_6_method_1_code 8 = .ok (.dup, 1) := by decide +kernel
theorem dX25_init_9 : decode prog_6_method_1_code 9 = .ok (.invokespecial 9, 3) := by decide +kernel
theorem dX25_init_12 : decode prog_6_method_1_code 12 = .ok (.putfield 10, 3) := by decide +kernel
theorem dX25_init_15 : decode prog_6_method_1_code 15 = .ok (.return_, 1) := by decide +kernel
theorem dX25_work_0 : decode prog_6_method_2_code 0 = .ok (.aload_n 0, 1) := by decide +kernel
theorem dX25_work_1 : decode prog_6_method_2_code 1 = .ok (.getfield 10, 3) := by decide +kernel
theorem dX25_work_4 : decode prog_6_method_2_code 4 = .ok (.getfield 16, 3) := by decide +kernel
theorem dX25_work_7 : decode prog_6_method_2_code 7 = .ok (.iconst 0, 1) := by decide +kernel
theorem dX25_work_8 : decode prog_6_method_2_code 8 = .ok (.aaload, 1) := by decide +kernel
theorem dX25_work_9 : decode prog_6_method_2_code 9 = .ok (.aload_n 1, 1) := by decide +kernel
theorem dX25_work_10 : decode prog_6_method_2_code 10 = .ok (.invokevirtual 20, 3) := by decide +kernel
theorem dX25_work_13 : decode prog_6_method_2_code 13 = .ok (.iconst 1, 1) := by decide +kernel
theorem dX25_work_14 : decode prog_6_method_2_code 14 = .ok (.istore_n 2, 1) := by decide +kernel
theorem dX25_work_15 : decode prog_6_method_2_code 15 = .ok (.iload_n 2, 1) := by decide +kernel
theorem dX25_work_16 : decode prog_6_method_2_code 16 = .ok (.aload_n 0, 1) := by decide +kernel
theorem dX25_work_17 : decode prog_6_method_2_code 17 = .ok (.getfield 10, 3) := by decide +kernel
theorem dX25_work_20 : decode prog_6_method_2_code 20 = .ok (.getfield 24, 3) := by decide +kernel
theorem dX25_work_23 : decode prog_6_method_2_code 23 = .ok (.if_icmp .ge 60, 3) := by decide +kernel
theorem dX25_work_26 : decode prog_6_method_2_code 26 = .ok (.aload_n 0, 1) := by decide +kernel
theorem dX25_work_27 : decode prog_6_method_2_code 27 = .ok (.getfield 10, 3) := by decide +kernel
theorem dX25_work_30 : decode prog_6_method_2_code 30 = .ok (.getfield 16, 3) := by decide +kernel
theorem dX25_work_33 : decode prog_6_method_2_code 33 = .ok (.iload_n 2, 1) := by decide +kernel
theorem dX25_work_34 : decode prog_6_method_2_code 34 = .ok (.aaload, 1) := by decide +kernel
theorem dX25_work_35 : decode prog_6_method_2_code 35 = .ok (.aload_n 1, 1) := by decide +kernel
theorem dX25_work_36 : decode prog_6_method_2_code 36 = .ok (.invokevirtual 20, 3) := by decide +kernel
theorem dX25_work_39 : decode prog_6_method_2_code 39 = .ok (.aload_n 1, 1) := by decide +kernel
theorem dX25_work_40 : decode prog_6_method_2_code 40 = .ok (.aload_n 0, 1) := by decide +kernel
theorem dX25_work_41 : decode prog_6_method_2_code 41 = .ok (.getfield 10, 3) := by decide +kernel
theorem dX25_work_44 : decode prog_6_method_2_code 44 = .ok (.getfield 28, 3) := by decide +kernel
theorem dX25_work_47 : decode prog_6_method_2_code 47 = .ok (.iload_n 2, 1) := by decide +kernel
theorem dX25_work_48 : decode prog_6_method_2_code 48 = .ok (.iaload, 1) := by decide +kernel
theorem dX25_work_49 : decode prog_6_method_2_code 49 = .ok (.invokevirtual 32, 3) := by decide +kernel
theorem dX25_work_52 : decode prog_6_method_2_code 52 = .ok (.aload_n 1, 1) := by decide +kernel
theorem dX25_work_53 : decode prog_6_method_2_code 53 = .ok (.getfield 38, 3) := by decide +kernel
theorem dX25_work_56 : decode prog_6_method_2_code 56 = .ok (.aload_n 0, 1) := by decide +kernel
theorem dX25_work_57 : decode prog_6_method_2_code 57 = .ok (.getfield 10, 3) := by decide +kernel
theorem dX25_work_60 : decode prog_6_method_2_code 60 = .ok (.getfield 42, 3) := by decide +kernel
theorem dX25_work_63 : decode prog_6_method_2_code 63 = .ok (.iload_n 2, 1) := by decide +kernel
theorem dX25_work_64 : decode prog_6_method_2_code 64 = .ok (.iaload, 1) := by decide +kernel
theorem dX25_work_65 : decode prog_6_method_2_code 65 = .ok (.aload_n 0, 1) := by decide +kernel
theorem dX25_work_66 : decode prog_6_method_2_code 66 = .ok (.getfield 10, 3) := by decide +kernel
theorem dX25_work_69 : decode prog_6_method_2_code 69 = .ok (.getfield 28, 3) := by decide +kernel
theorem dX25_work_72 : decode prog_6_method_2_code 72 = .ok (.iload_n 2, 1) := by decide +kernel
theorem dX25_work_73 : decode prog_6_method_2_code 73 = .ok (.iaload, 1) := by decide +kernel
theorem dX25_work_74 : decode prog_6_method_2_code 74 = .ok (.invokevirtual 44, 3) := by decide +kernel
theorem dX25_work_77 : decode prog_6_method_2_code 77 = .ok (.iinc 2 1, 3) := by decide +kernel
theorem dX25_work_80 : decode prog_6_method_2_code 80 = .ok (.goto (-65), 3) := by decide +kernel
theorem dX25_work_83 : decode prog_6_method_2_code 83 = .ok (.return_, 1) := by decide +kernel
theorem dX26_init_0 : decode prog_33_method_1_code 0 = .ok (.aload_n 0, 1) := by decide +kernel
theorem dX26_init_1 : decode prog_33_method_1_code 1 = .ok (.invokespecial 1, 3) := by decide +kernel
theorem dX26_init_4 : decode prog_33_method_1_code 4 = .ok (.return_, 1) := by decide +kernel
theorem dX26_act_0 : decode prog_33_method_2_code 0 = .ok (.iconst 1, 1) := by decide +kernel
theorem dX26_act_1 : decode prog_33_method_2_code 1 = .ok (.istore_n 2, 1) := by decide +kernel
theorem dX26_act_2 : decode prog_33_method_2_code 2 = .ok (.iload_n 2, 1) := by decide +kernel
theorem dX26_act_3 : decode prog_33_method_2_code 3 = .ok (.ifCond .eq 45, 3) := by decide +kernel
theorem dX26_act_6 : decode prog_33_method_2_code 6 = .ok (.aload_n 1, 1) := by decide +kernel
theorem dX26_act_7 : decode prog_33_method_2_code 7 = .ok (.aload_n 0, 1) := by decide +kernel
theorem dX26_act_8 : decode prog_33_method_2_code 8 = .ok (.getfield 7, 3) := by decide +kernel
theorem dX26_act_11 : decode prog_33_method_2_code 11 = .ok (.invokevirtual 13, 3) := by decide +kernel
theorem dX26_act_14 : decode prog_33_method_2_code 14 = .ok (.aload_n 0, 1) := by decide +kernel
theorem dX26_act_15 : decode prog_33_method_2_code 15 = .ok (.getfield 19, 3) := by decide +kernel
theorem dX26_act_18 : decode prog_33_method_2_code 18 = .ok (.aload_n 1, 1) := by decide +kernel
theorem dX26_act_19 : decode prog_33_method_2_code 19 = .ok (.invokevirtual 23, 3) := by decide +kernel
theorem dX26_act_22 : decode prog_33_method_2_code 22 = .ok (.aload_n 1, 1) := by decide +kernel
theorem dX26_act_23 : decode prog_33_method_2_code 23 = .ok (.aload_n 0, 1) := by decide +kernel
theorem dX26_act_24 : decode prog_33_method_2_code 24 = .ok (.getfield 7, 3) := by decide +kernel
theorem dX26_act_27 : decode prog_33_method_2_code 27 = .ok (.invokevirtual 29, 3) := by decide +kernel
theorem dX26_act_30 : decode prog_33_method_2_code 30 = .ok (.istore_n 2, 1) := by decide +kernel
theorem dX26_act_31 : decode prog_33_method_2_code 31 = .ok (.iload_n 2, 1) := by decide +kernel
theorem dX26_act_32 : decode prog_33_method_2_code 32 = .ok (.ifCond .eq (-30), 3) := by decide +kernel
theorem dX26_act_35 : decode prog_33_method_2_code 35 = .ok (.aload_n 0, 1) := by decide +kernel
theorem dX26_act_36 : decode prog_33_method_2_code 36 = .ok (.getfield 33, 3) := by decide +kernel
theorem dX26_act_39 : decode prog_33_method_2_code 39 = .ok (.aload_n 1, 1) := by decide +kernel
theorem dX26_act_40 : decode prog_33_method_2_code 40 = .ok (.invokevirtual 37, 3) := by decide +kernel
theorem dX26_act_43 : decode prog_33_method_2_code 43 = .ok (.ifCond .eq (-41), 3) := by decide +kernel
theorem dX26_act_46 : decode prog_33_method_2_code 46 = .ok (.iconst 1, 1) := by decide +kernel
theorem dX26_act_47 : decode prog_33_method_2_code 47 = .ok (.ireturn, 1) := by decide +kernel
theorem dX26_act_48 : decode prog_33_method_2_code 48 = .ok (.iconst 0, 1) := by decide +kernel
theorem dX26_act_49 : decode prog_33_method_2_code 49 = .ok (.ireturn, 1) := by decide +kernel
theorem dX27_init_0 : decode prog_10_method_1_code 0 = .ok (.aload_n 0, 1) := by decide +kernel
theorem dX27_init_1 : decode prog_10_method_1_code 1 = .ok (.invokespecial 1, 3) := by decide +kernel
theorem dX27_init_4 : decode prog_10_method_1_code 4 = .ok (.return_, 1) := by decide +kernel
theorem dX27_act_0 : decode prog_10_method_2_code 0 = .ok (.aload_n 0, 1) := by decide +kernel
theorem dX27_act_1 : decode prog_10_method_2_code 1 = .ok (.getfield 7, 3) := by decide +kernel
theorem dX27_act_4 : decode prog_10_method_2_code 4 = .ok (.aload_n 1, 1) := by decide +kernel
theorem dX27_act_5 : decode prog_10_method_2_code 5 = .ok (.invokevirtual 13, 3) := by decide +kernel
theorem dX27_act_8 : decode prog_10_method_2_code 8 = .ok (.aload_n 1, 1) := by decide +kernel
theorem dX27_act_9 : decode prog_10_method_2_code 9 = .ok (.aload_n 0, 1) := by decide +kernel
theorem dX27_act_10 : decode prog_10_method_2_code 10 = .ok (.getfield 19, 3) := by decide +kernel
theorem dX27_act_13 : decode prog_10_method_2_code 13 = .ok (.invokevirtual 23, 3) := by decide +kernel
theorem dX27_act_16 : decode prog_10_method_2_code 16 = .ok (.istore_n 2, 1) := by decide +kernel
theorem dX27_act_17 : decode prog_10_method_2_code 17 = .ok (.aload_n 1, 1) := by decide +kernel
theorem dX27_act_18 : decode prog_10_method_2_code 18 = .ok (.getfield 29, 3) := by decide +kernel
theorem dX27_act_21 : decode prog_10_method_2_code 21 = .ok (.iconst 1, 1) := by decide +kernel
theorem dX27_act_22 : decode prog_10_method_2_code 22 = .ok (.isub, 1) := by decide +kernel
theorem dX27_act_23 : decode prog_10_method_2_code 23 = .ok (.istore_n 3, 1) := by decide +kernel
theorem dX27_act_24 : decode prog_10_method_2_code 24 = .ok (.iconst 0, 1) := by decide +kernel
theorem dX27_act_25 : decode prog_10_method_2_code 25 = .ok (.istore 4, 2) := by decide +kernel
theorem dX27_act_27 : decode prog_10_method_2_code 27 = .ok (.iload 4, 2) := by decide +kernel
theorem dX27_act_29 : decode prog_10_method_2_code 29 = .ok (.iload_n 2, 1) := by decide +kernel
theorem dX27_act_30 : decode prog_10_method_2_code 30 = .ok (.if_icmp .ge 50, 3) := by decide +kernel
theorem dX27_act_33 : decode prog_10_method_2_code 33 = .ok (.aload_n 1, 1) := by decide +kernel
theorem dX27_act_34 : decode prog_10_method_2_code 34 = .ok (.aload_n 0, 1) := by decide +kernel
theorem dX27_act_35 : decode prog_10_method_2_code 35 = .ok (.getfield 19, 3) := by decide +kernel
theorem dX27_act_38 : decode prog_10_method_2_code 38 = .ok (.invokevirtual 32, 3) := by decide +kernel
theorem dX27_act_41 : decode prog_10_method_2_code 41 = .ok (.aload_n 1, 1) := by decide +kernel
theorem dX27_act_42 : decode prog_10_method_2_code 42 = .ok (.iload_n 3, 1) := by decide +kernel
theorem dX27_act_43 : decode prog_10_method_2_code 43 = .ok (.iload 4, 2) := by decide +kernel
theorem dX27_act_45 : decode prog_10_method_2_code 45 = .ok (.invokevirtual 36, 3) := by decide +kernel
theorem dX27_act_48 : decode prog_10_method_2_code 48 = .ok (.aload_n 1, 1) := by decide +kernel
theorem dX27_act_49 : decode prog_10_method_2_code 49 = .ok (.aload_n 0, 1) := by decide +kernel
theorem dX27_act_50 : decode prog_10_method_2_code 50 = .ok (.getfield 40, 3) := by decide +kernel
theorem dX27_act_53 : decode prog_10_method_2_code 53 = .ok (.invokevirtual 43, 3) := by decide +kernel
theorem dX27_act_56 : decode prog_10_method_2_code 56 = .ok (.aload_n 0, 1) := by decide +kernel
theorem dX27_act_57 : decode prog_10_method_2_code 57 = .ok (.getfield 46, 3) := by decide +kernel
theorem dX27_act_60 : decode prog_10_method_2_code 60 = .ok (.aload_n 1, 1) := by decide +kernel
theorem dX27_act_61 : decode prog_10_method_2_code 61 = .ok (.invokevirtual 50, 3) := by decide +kernel
theorem dX27_act_64 : decode prog_10_method_2_code 64 = .ok (.ifCond .eq 10, 3) := by decide +kernel
theorem dX27_act_67 : decode prog_10_method_2_code 67 = .ok (.aload_n 1, 1) := by decide +kernel
theorem dX27_act_68 : decode prog_10_method_2_code 68 = .ok (.iload_n 3, 1) := by decide +kernel
theorem dX27_act_69 : decode prog_10_method_2_code 69 = .ok (.invokevirtual 56, 3) := by decide +kernel
theorem dX27_act_72 : decode prog_10_method_2_code 72 = .ok (.iconst 1, 1) := by decide +kernel
theorem dX27_act_73 : decode prog_10_method_2_code 73 = .ok (.ireturn, 1) := by decide +kernel
theorem dX27_act_74 : decode prog_10_method_2_code 74 = .ok (.iinc 4 1, 3) := by decide +kernel
theorem dX27_act_77 : decode prog_10_method_2_code 77 = .ok (.goto (-50), 3) := by decide +kernel
theorem dX27_act_80 : decode prog_10_method_2_code 80 = .ok (.aload_n 1, 1) := by decide +kernel
theorem dX27_act_81 : decode prog_10_method_2_code 81 = .ok (.aload_n 0, 1) := by decide +kernel
theorem dX27_act_82 : decode prog_10_method_2_code 82 = .ok (.getfield 19, 3) := by decide +kernel
theorem dX27_act_85 : decode prog_10_method_2_code 85 = .ok (.invokevirtual 32, 3) := by decide +kernel
theorem dX27_act_88 : decode prog_10_method_2_code 88 = .ok (.aload_n 1, 1) := by decide +kernel
theorem dX27_act_89 : decode prog_10_method_2_code 89 = .ok (.invokevirtual 59, 3) := by decide +kernel
theorem dX27_act_92 : decode prog_10_method_2_code 92 = .ok (.iconst 0, 1) := by decide +kernel
theorem dX27_act_93 : decode prog_10_method_2_code 93 = .ok (.ireturn, 1) := by decide +kernel
theorem dX28_init_0 : decode prog_22_method_1_code 0 = .ok (.aload_n 0, 1) := by decide +kernel
theorem dX28_init_1 : decode prog_22_method_1_code 1 = .ok (.invokespecial 3, 3) := by decide +kernel
theorem dX28_init_4 : decode prog_22_method_1_code 4 = .ok (.aload_n 0, 1) := by decide +kernel
theorem dX28_init_5 : decode prog_22_method_1_code 5 = .ok (.iload_n 1, 1) := by decide +kernel
theorem dX28_init_6 : decode prog_22_method_1_code 6 = .ok (.putfield 9, 3) := by decide +kernel
theorem dX28_init_9 : decode prog_22_method_1_code 9 = .ok (.return_, 1) := by decide +kernel
theorem dX28_act_0 : decode prog_22_method_2_code 0 = .ok (.aload_n 0, 1) := by decide +kernel
theorem dX28_act_1 : decode prog_22_method_2_code 1 = .ok (.getfield 15, 3) := by decide +kernel
theorem dX28_act_4 : decode prog_22_method_2_code 4 = .ok (.aload_n 1, 1) := by decide +kernel
theorem dX28_act_5 : decode prog_22_method_2_code 5 = .ok (.invokevirtual 19, 3) := by decide +kernel
theorem dX28_act_8 : decode prog_22_method_2_code 8 = .ok (.aload_n 0, 1) := by decide +kernel
theorem dX28_act_9 : decode prog_22_method_2_code 9 = .ok (.getfield 9, 3) := by decide +kernel
theorem dX28_act_12 : decode prog_22_method_2_code 12 = .ok (.iconst 2, 1) := by decide +kernel
theorem dX28_act_13 : decode prog_22_method_2_code 13 = .ok (.if_icmp .ne 5, 3) := by decide +kernel
theorem dX28_act_16 : decode prog_22_method_2_code 16 = .ok (.iconst 1, 1) := by decide +kernel
theorem dX28_act_17 : decode prog_22_method_2_code 17 = .ok (.ireturn, 1) := by decide +kernel
theorem dX28_act_18 : decode prog_22_method_2_code 18 = .ok (.aload_n 0, 1) := by decide +kernel
theorem dX28_act_19 : decode prog_22_method_2_code 19 = .ok (.getfield 9, 3) := by decide +kernel
theorem dX28_act_22 : decode prog_22_method_2_code 22 = .ok (.iconst 1, 1) := by decide +kernel
theorem dX28_act_23 : decode prog_22_method_2_code 23 = .ok (.if_icmp .ne 10, 3) := by decide +kernel
theorem dX28_act_26 : decode prog_22_method_2_code 26 = .ok (.aload_n 1, 1) := by decide +kernel
theorem dX28_act_27 : decode prog_22_method_2_code 27 = .ok (.invokevirtual 25, 3) := by decide +kernel
theorem dX28_act_30 : decode prog_22_method_2_code 30 = .ok (.goto 26, 3) := by decide +kernel
theorem dX28_act_33 : decode prog_22_method_2_code 33 = .ok (.aload_n 0, 1) := by decide +kernel
theorem dX28_act_34 : decode prog_22_method_2_code 34 = .ok (.getfield 9, 3) := by decide +kernel
theorem dX28_act_37 : decode prog_22_method_2_code 37 = .ok (.iconst 3, 1) := by decide +kernel
theorem dX28_act_38 : decode prog_22_method_2_code 38 = .ok (.if_icmp .ne 14, 3) := by decide +kernel
theorem dX28_act_41 : decode prog_22_method_2_code 41 = .ok (.aload_n 1, 1) := by decide +kernel
theorem dX28_act_42 : decode prog_22_method_2_code 42 = .ok (.aload_n 0, 1) := by decide +kernel
theorem dX28_act_43 : decode prog_22_method_2_code 43 = .ok (.getfield 30, 3) := by decide +kernel
theorem dX28_act_46 : decode prog_22_method_2_code 46 = .ok (.invokevirtual 33, 3) := by decide +kernel
theorem dX28_act_49 : decode prog_22_method_2_code 49 = .ok (.goto 7, 3) := by decide +kernel
theorem dX28_act_52 : decode prog_22_method_2_code 52 = .ok (.aload_n 1, 1) := by decide +kernel
theorem dX28_act_53 : decode prog_22_method_2_code 53 = .ok (.invokevirtual 37, 3) := by decide +kernel
theorem dX28_act_56 : decode prog_22_method_2_code 56 = .ok (.iconst 0, 1) := by decide +kernel
theorem dX28_act_57 : decode prog_22_method_2_code 57 = .ok (.ireturn, 1) := by decide +kernel
theorem dX29_init_0 : decode prog_32_method_1_code 0 = .ok (.aload_n 0, 1) := by decide +kernel
theorem dX29_init_1 : decode prog_32_method_1_code 1 = .ok (.invokespecial 1, 3) := by decide +kernel
theorem dX29_init_4 : decode prog_32_method_1_code 4 = .ok (.return_, 1) := by decide +kernel
theorem dX29_act_0 : decode prog_32_method_2_code 0 = .ok (.aload_n 1, 1) := by decide +kernel
theorem dX29_act_1 : decode prog_32_method_2_code 1 = .ok (.getfield 7, 3) := by decide +kernel
theorem dX29_act_4 : decode prog_32_method_2_code 4 = .ok (.istore_n 2, 1) := by decide +kernel
theorem dX29_act_5 : decode prog_32_method_2_code 5 = .ok (.aload_n 1, 1) := by decide +kernel
theorem dX29_act_6 : decode prog_32_method_2_code 6 = .ok (.getfield 13, 3) := by decide +kernel
theorem dX29_act_9 : decode prog_32_method_2_code 9 = .ok (.istore_n 3, 1) := by decide +kernel
theorem dX29_act_10 : decode prog_32_method_2_code 10 = .ok (.aload_n 0, 1) := by decide +kernel
theorem dX29_act_11 : decode prog_32_method_2_code 11 = .ok (.getfield 16, 3) := by decide +kernel
theorem dX29_act_14 : decode prog_32_method_2_code 14 = .ok (.aload_n 1, 1) := by decide +kernel
theorem dX29_act_15 : decode prog_32_method_2_code 15 = .ok (.invokevirtual 22, 3) := by decide +kernel
theorem dX29_act_18 : decode prog_32_method_2_code 18 = .ok (.ireturn, 1) := by decide +kernel
theorem dX29_act_19 : decode prog_32_method_2_code 19 = .ok (.astore 4, 2) := by decide +kernel
theorem dX29_act_21 : decode prog_32_method_2_code 21 = .ok (.aload_n 1, 1) := by decide +kernel
theorem dX29_act_22 : decode prog_32_method_2_code 22 = .ok (.aload 4, 2) := by decide +kernel
theorem dX29_act_24 : decode prog_32_method_2_code 24 = .ok (.iload_n 2, 1) := by decide +kernel
theorem dX29_act_25 : decode prog_32_method_2_code 25 = .ok (.iload_n 3, 1) := by decide +kernel
theorem dX29_act_26 : decode prog_32_method_2_code 26 = .ok (.aload_n 0, 1) := by decide +kernel
theorem dX29_act_27 : decode prog_32_method_2_code 27 = .ok (.getfield 30, 3) := by decide +kernel
theorem dX29_act_30 : decode prog_32_method_2_code 30 = .ok (.invokevirtual 33, 3) := by decide +kernel
theorem dX29_act_33 : decode prog_32_method_2_code 33 = .ok (.aload_n 1, 1) := by decide +kernel
theorem dX29_act_34 : decode prog_32_method_2_code 34 = .ok (.aload_n 0, 1) := by decide +kernel
theorem dX29_act_35 : decode prog_32_method_2_code 35 = .ok (.getfield 37, 3) := by decide +kernel
theorem dX29_act_38 : decode prog_32_method_2_code 38 = .ok (.invokevirtual 40, 3) := by decide +kernel
theorem dX29_act_41 : decode prog_32_method_2_code 41 = .ok (.aload_n 0, 1) := by decide +kernel
theorem dX29_act_42 : decode prog_32_method_2_code 42 = .ok (.getfield 44, 3) := by decide +kernel
theorem dX29_act_45 : decode prog_32_method_2_code 45 = .ok (.aload_n 1, 1) := by decide +kernel
theorem dX29_act_46 : decode prog_32_method_2_code 46 = .ok (.invokevirtual 22, 3) := by decide +kernel
theorem dX29_act_49 : decode prog_32_method_2_code 49 = .ok (.ireturn, 1) := by decide +kernel
theorem dX3_begin_0 : decode prog_13_method_2_code 0 = .ok (.aload_n 0, 1) := by decide +kernel
theorem dX3_begin_1 : decode prog_13_method_2_code 1 = .ok (.iconst 0, 1) := by decide +kernel
theorem dX3_begin_2 : decode prog_13_method_2_code 2 = .ok (.putfield 75, 3) := by decide +kernel
theorem dX3_begin_5 : decode prog_13_method_2_code 5 = .ok (.aload_n 0, 1) := by decide +kernel
theorem dX3_begin_6 : decode prog_13_method_2_code 6 = .ok (.iconst 0, 1) := by decide +kernel
theorem dX3_begin_7 : decode prog_13_method_2_code 7 = .ok (.putfield 79, 3) := by decide +kernel
theorem dX3_begin_10 : decode prog_13_method_2_code 10 = .ok (.aload_n 0, 1) := by decide +kernel
theorem dX3_begin_11 : decode prog_13_method_2_code 11 = .ok (.iconst 0, 1) := by decide +kernel
theorem dX3_begin_12 : decode prog_13_method_2_code 12 = .ok (.putfield 82, 3) := by decide +kernel
theorem dX3_begin_15 : decode prog_13_method_2_code 15 = .ok (.aload_n 0, 1) := by decide +kernel
theorem dX3_begin_16 : decode prog_13_method_2_code 16 = .ok (.iconst 0, 1) := by decide +kernel
theorem dX3_begin_17 : decode prog_13_method_2_code 17 = .ok (.putfield 85, 3) := by decide +kernel
theorem dX3_begin_20 : decode prog_13_method_2_code 20 = .ok (.aload_n 0, 1) := by decide +kernel
theorem dX3_begin_21 : decode prog_13_method_2_code 21 = .ok (.iload_n 1, 1) := by decide +kernel
theorem dX3_begin_22 : decode prog_13_method_2_code 22 = .ok (.putfield 88, 3) := by decide +kernel
theorem dX3_begin_25 : decode prog_13_method_2_code 25 = .ok (.aload_n 0, 1) := by decide +kernel
theorem dX3_begin_26 : decode prog_13_method_2_code 26 = .ok (.iconst 0, 1) := by decide +kernel
theorem dX3_begin_27 : decode prog_13_method_2_code 27 = .ok (.putfield 91, 3) := by decide +kernel
theorem dX3_begin_30 : decode prog_13_method_2_code 30 = .ok (.aload_n 0, 1) := by decide +kernel
theorem dX3_begin_31 : decode prog_13_method_2_code 31 = .ok (.iconst 0, 1) := by decide +kernel
theorem dX3_begin_32 : decode prog_13_method_2_code 32 = .ok (.putfield 94, 3) := by decide +kernel
theorem dX3_begin_35 : decode prog_13_method_2_code 35 = .ok (.aload_n 0, 1) := by decide +kernel
theorem dX3_begin_36 : decode prog_13_method_2_code 36 = .ok (.getfield 64, 3) := by decide +kernel
theorem dX3_begin_39 : decode prog_13_method_2_code 39 = .ok (.iconst 0, 1) := by decide +kernel
theorem dX3_begin_40 : decode prog_13_method_2_code 40 = .ok (.putfield 97, 3) := by decide +kernel
theorem dX3_begin_43 : decode prog_13_method_2_code 43 = .ok (.aload_n 0, 1) := by decide +kernel
theorem dX3_begin_44 : decode prog_13_method_2_code 44 = .ok (.getfield 71, 3) := by decide +kernel
theorem dX3_begin_47 : decode prog_13_method_2_code 47 = .ok (.iconst 0, 1) := by decide +kernel
theorem dX3_begin_48 : decode prog_13_method_2_code 48 = .ok (.putfield 100, 3) := by decide +kernel
theorem dX3_begin_51 : decode prog_13_method_2_code 51 = .ok (.aload_n 0, 1) := by decide +kernel
theorem dX3_begin_52 : decode prog_13_method_2_code 52 = .ok (.getfield 71, 3) := by decide +kernel
theorem dX3_begin_55 : decode prog_13_method_2_code 55 = .ok (.iconst (-1), 1) := by decide +kernel
theorem dX3_begin_56 : decode prog_13_method_2_code 56 = .ok (.putfield 103, 3) := by decide +kernel
theorem dX3_begin_59 : decode prog_13_method_2_code 59 = .ok (.aload_n 0, 1) := by decide +kernel
theorem dX3_begin_60 : decode prog_13_method_2_code 60 = .ok (.getfield 71, 3) := by decide +kernel
theorem dX3_begin_63 : decode prog_13_method_2_code 63 = .ok (.iconst 0, 1) := by decide +kernel
theorem dX3_begin_64 : decode prog_13_method_2_code 64 = .ok (.putfield 106, 3) := by decide +kernel
theorem dX3_begin_67 : decode prog_13_method_2_code 67 = .ok (.return_, 1) := by decide +kernel
theorem dX3_call_0 : decode prog_13_method_25_code 0 = .ok (.aload_n 0, 1) := by decide +kernel
theorem dX3_call_1 : decode prog_13_method_25_code 1 = .ok (.getfield 79, 3) := by decide +kernel
theorem dX3_call_4 : decode prog_13_method_25_code 4 = .ok (.bipush 10, 2) := by decide +kernel
theorem dX3_call_6 : decode prog_13_method_25_code 6 = .ok (.if_icmp .ne 11, 3) := by decide +kernel
theorem dX3_call_9 : decode prog_13_method_25_code 9 = .ok (.aload_n 0, 1) := by decide +kernel
theorem dX3_call_10 : decode prog_13_method_25_code 10 = .ok (.bipush 8, 2) := by decide +kernel
theorem dX3_call_12 : decode prog_13_method_25_code 12 = .ok (.iload_n 2, 1) := by decide +kernel
theorem dX3_call_13 : decode prog_13_method_25_code 13 = .ok (.invokevirtual 109, 3) := by decide +kernel
theorem dX3_call_16 : decode prog_13_method_25_code 16 = .ok (.athrow, 1) := by decide +kernel
theorem dX3_call_17 : decode prog_13_method_25_code 17 = .ok (.bipush 14, 2) := by decide +kernel
theorem dX3_call_19 : decode prog_13_method_25_code 19 = .ok (.aload_n 0, 1) := by decide +kernel
theorem dX3_call_20 : decode prog_13_method_25_code 20 = .ok (.getfield 79, 3) := by decide +kernel
theorem dX3_call_23 : decode prog_13_method_25_code 23 = .ok (.imul, 1) := by decide +kernel
theorem dX3_call_24 : decode prog_13_method_25_code 24 = .ok (.istore_n 3, 1) := by decide +kernel
theorem dX3_call_25 : decode prog_13_method_25_code 25 = .ok (.iconst 0, 1) := by decide +kernel
theorem dX3_call_26 : decode prog_13_method_25_code 26 = .ok (.istore 4, 2) := by decide +kernel
theorem dX3_call_28 : decode prog_13_method_25_code 28 = .ok (.iload 4, 2) := by decide +kernel
theorem dX3_call_30 : decode prog_13_method_25_code 30 = .ok (.aload_n 1, 1) := by decide +kernel
theorem dX3_call_31 : decode prog_13_method_25_code 31 = .ok (.getfield 175, 3) := by decide +kernel
theorem dX3_call_34 : decode prog_13_method_25_code 34 = .ok (.if_icmp .ge 32, 3) := by decide +kernel
theorem dX3_call_37 : decode prog_13_method_25_code 37 = .ok (.aload_n 0, 1) := by decide +kernel
theorem dX3_call_38 : decode prog_13_method_25_code 38 = .ok (.getfield 27, 3) := by decide +kernel
theorem dX3_call_41 : decode prog_13_method_25_code 41 = .ok (.iload_n 3, 1) := by decide +kernel
theorem dX3_call_42 : decode prog_13_method_25_code 42 = .ok (.iload 4, 2) := by decide +kernel
theorem dX3_call_44 : decode prog_13_method_25_code 44 = .ok (.iadd, 1) := by decide +kernel
theorem dX3_call_45 : decode prog_13_method_25_code 45 = .ok (.iload 4, 2) := by decide +kernel
theorem dX3_call_47 : decode prog_13_method_25_code 47 = .ok (.aload_n 1, 1) := by decide +kernel
theorem dX3_call_48 : decode prog_13_method_25_code 48 = .ok (.getfield 180, 3) := by decide +kernel
theorem dX3_call_51 : decode prog_13_method_25_code 51 = .ok (.if_icmp .ge 7, 3) := by decide +kernel
theorem dX3_call_54 : decode prog_13_method_25_code 54 = .ok (.iconst 1, 1) := by decide +kernel
theorem dX3_call_55 : decode prog_13_method_25_code 55 = .ok (.goto 4, 3) := by decide +kernel
theorem dX3_call_58 : decode prog_13_method_25_code 58 = .ok (.iconst 0, 1) := by decide +kernel
theorem dX3_call_59 : decode prog_13_method_25_code 59 = .ok (.bastore, 1) := by decide +kernel
theorem dX3_call_60 : decode prog_13_method_25_code 60 = .ok (.iinc 4 1, 3) := by decide +kernel
theorem dX3_call_63 : decode prog_13_method_25_code 63 = .ok (.goto (-35), 3) := by decide +kernel
theorem dX3_call_66 : decode prog_13_method_25_code 66 = .ok (.aload_n 1, 1) := by decide +kernel
theorem dX3_call_67 : decode prog_13_method_25_code 67 = .ok (.getfield 180, 3) := by decide +kernel
theorem dX3_call_70 : decode prog_13_method_25_code 70 = .ok (.iconst 1, 1) := by decide +kernel
theorem dX3_call_71 : decode prog_13_method_25_code 71 = .ok (.isub, 1) := by decide +kernel
theorem dX3_call_72 : decode prog_13_method_25_code 72 = .ok (.istore 4, 2) := by decide +kernel
theorem dX3_call_74 : decode prog_13_method_25_code 74 = .ok (.iload 4, 2) := by decide +kernel
theorem dX3_call_76 : decode prog_13_method_25_code 76 = .ok (.ifCond .lt 55, 3) := by decide +kernel
theorem dX3_call_79 : decode prog_13_method_25_code 79 = .ok (.aload_n 0, 1) := by decide +kernel
theorem dX3_call_80 : decode prog_13_method_25_code 80 = .ok (.dup, 1) := by decide +kernel
theorem dX3_call_81 : decode prog_13_method_25_code 81 = .ok (.getfield 75, 3) := by decide +kernel
theorem dX3_call_84 : decode prog_13_method_25_code 84 = .ok (.iconst 1, 1) := by decide +kernel
theorem dX3_call_85 : decode prog_13_method_25_code 85 = .ok (.isub, 1) := by decide +kernel
theorem dX3_call_86 : decode prog_13_method_25_code 86 = .ok (.putfield 75, 3) := by decide +kernel
theorem dX3_call_89 : decode prog_13_method_25_code 89 = .ok (.aload_n 0, 1) := by decide +kernel
theorem dX3_call_90 : decode prog_13_method_25_code 90 = .ok (.getfield 21, 3) := by decide +kernel
theorem dX3_call_93 : decode prog_13_method_25_code 93 = .ok (.iload_n 3, 1) := by decide +kernel
theorem dX3_call_94 : decode prog_13_method_25_code 94 = .ok (.iload 4, 2) := by decide +kernel
theorem dX3_call_96 : decode prog_13_method_25_code 96 = .ok (.iadd, 1) := by decide +kernel
theorem dX3_call_97 : decode prog_13_method_25_code 97 = .ok (.aload_n 0, 1) := by decide +kernel
theorem dX3_call_98 : decode prog_13_method_25_code 98 = .ok (.getfield 9, 3) := by decide +kernel
theorem dX3_call_101 : decode prog_13_method_25_code 101 = .ok (.aload_n 0, 1) := by decide +kernel
theorem dX3_call_102 : decode prog_13_method_25_code 102 = .ok (.getfield 75, 3) := by decide +kernel
theorem dX3_call_105 : decode prog_13_method_25_code 105 = .ok (.iaload, 1) := by decide +kernel
theorem dX3_call_106 : decode prog_13_method_25_code 106 = .ok (.iastore, 1) := by decide +kernel
theorem dX3_call_107 : decode prog_13_method_25_code 107 = .ok (.aload_n 0, 1) := by decide +kernel
theorem dX3_call_108 : decode prog_13_method_25_code 108 = .ok (.getfield 24, 3) := by decide +kernel
theorem dX3_call_111 : decode prog_13_method_25_code 111 = .ok (.iload_n 3, 1) := by decide +kernel
theorem dX3_call_112 : decode prog_13_method_25_code 112 = .ok (.iload 4, 2) := by decide +kernel
theorem dX3_call_114 : decode prog_13_method_25_code 114 = .ok (.iadd, 1) := by decide +kernel
theorem dX3_call_115 : decode prog_13_method_25_code 115 = .ok (.aload_n 0, 1) := by decide +kernel
theorem dX3_call_116 : decode prog_13_method_25_code 116 = .ok (.getfield 17, 3) := by decide +kernel
theorem dX3_call_119 : decode prog_13_method_25_code 119 = .ok (.aload_n 0, 1) := by decide +kernel
theorem dX3_call_120 : decode prog_13_method_25_code 120 = .ok (.getfield 75, 3) := by decide +kernel
theorem dX3_call_123 : decode prog_13_method_25_code 123 = .ok (.aaload, 1) := by decide +kernel
theorem dX3_call_124 : decode prog_13_method_25_code 124 = .ok (.aastore, 1) := by decide +kernel
theorem dX3_call_125 : decode prog_13_method_25_code 125 = .ok (.iinc 4 (-1), 3) := by decide +kernel
theorem dX3_call_128 : decode prog_13_method_25_code 128 = .ok (.goto (-54), 3) := by decide +kernel
theorem dX3_call_131 : decode prog_13_method_25_code 131 = .ok (.aload_n 0, 1) := by decide +kernel
theorem dX3_call_132 : decode prog_13_method_25_code 132 = .ok (.dup, 1) := by decide +kernel
theorem dX3_call_133 : decode prog_13_method_25_code 133 = .ok (.getfield 79, 3) := by decide +kernel
theorem dX3_call_136 : decode prog_13_method_25_code 136 = .ok (.iconst 1, 1) := by decide +kernel
theorem dX3_call_137 : decode prog_13_method_25_code 137 = .ok (.iadd, 1) := by decide +kernel
theorem dX3_call_138 : decode prog_13_method_25_code 138 = .ok (.putfield 79, 3) := by decide +kernel
theorem dX3_call_141 : decode prog_13_method_25_code 141 = .ok (.aload_n 0, 1) := by decide +kernel
theorem dX3_call_142 : decode prog_13_method_25_code 142 = .ok (.aload_n 0, 1) := by decide +kernel
theorem dX3_call_143 : decode prog_13_method_25_code 143 = .ok (.getfield 82, 3) := by decide +kernel
theorem dX3_call_146 : decode prog_13_method_25_code 146 = .ok (.aload_n 0, 1) := by decide +kernel
theorem dX3_call_147 : decode prog_13_method_25_code 147 = .ok (.getfield 79, 3) := by decide +kernel
theorem dX3_call_150 : decode prog_13_method_25_code 150 = .ok (.invokestatic 183, 3) := by decide +kernel
theorem dX3_call_153 : decode prog_13_method_25_code 153 = .ok (.putfield 82, 3) := by decide +kernel
theorem dX3_call_156 : decode prog_13_method_25_code 156 = .ok (.aload_n 1, 1) := by decide +kernel
theorem dX3_call_157 : decode prog_13_method_25_code 157 = .ok (.getfield 188, 3) := by decide +kernel
theorem dX3_call_160 : decode prog_13_method_25_code 160 = .ok (.aload_n 0, 1) := by decide +kernel
theorem dX3_call_161 : decode prog_13_method_25_code 161 = .ok (.invokevirtual 192, 3) := by decide +kernel
theorem dX3_call_164 : decode prog_13_method_25_code 164 = .ok (.ifCond .ne 8, 3) := by decide +kernel
theorem dX3_call_167 : decode prog_13_method_25_code 167 = .ok (.aload_n 0, 1) := by decide +kernel
theorem dX3_call_168 : decode prog_13_method_25_code 168 = .ok (.iconst 0, 1) := by decide +kernel
theorem dX3_call_169 : decode prog_13_method_25_code 169 = .ok (.invokevirtual 129, 3) := by decide +kernel
theorem dX3_call_172 : decode prog_13_method_25_code 172 = .ok (.aload_n 0, 1) := by decide +kernel
theorem dX3_call_173 : decode prog_13_method_25_code 173 = .ok (.dup, 1) := by decide +kernel
theorem dX3_call_174 : decode prog_13_method_25_code 174 = .ok (.getfield 79, 3) := by decide +kernel
theorem dX3_call_177 : decode prog_13_method_25_code 177 = .ok (.iconst 1, 1) := by decide +kernel
theorem dX3_call_178 : decode prog_13_method_25_code 178 = .ok (.isub, 1) := by decide +kernel
theorem dX3_call_179 : decode prog_13_method_25_code 179 = .ok (.putfield 79, 3) := by decide +kernel
theorem dX3_call_182 : decode prog_13_method_25_code 182 = .ok (.return_, 1) := by decide +kernel
theorem dX3_wrong_0 : decode prog_13_method_3_code 0 = .ok (.aload_n 0, 1) := by decide +kernel
theorem dX3_wrong_1 : decode prog_13_method_3_code 1 = .ok (.getfield 71, 3) := by decide +kernel
theorem dX3_wrong_4 : decode prog_13_method_3_code 4 = .ok (.iload_n 1, 1) := by decide +kernel
theorem dX3_wrong_5 : decode prog_13_method_3_code 5 = .ok (.putfield 100, 3) := by decide +kernel
theorem dX3_wrong_8 : decode prog_13_method_3_code 8 = .ok (.aload_n 0, 1) := by decide +kernel
theorem dX3_wrong_9 : decode prog_13_method_3_code 9 = .ok (.getfield 71, 3) := by decide +kernel
theorem dX3_wrong_12 : decode prog_13_method_3_code 12 = .ok (.iload_n 2, 1) := by decide +kernel
theorem dX3_wrong_13 : decode prog_13_method_3_code 13 = .ok (.putfield 103, 3) := by decide +kernel
theorem dX3_wrong_16 : decode prog_13_method_3_code 16 = .ok (.aload_n 0, 1) := by decide +kernel
theorem dX3_wrong_17 : decode prog_13_method_3_code 17 = .ok (.getfield 71, 3) := by decide +kernel
theorem dX3_wrong_20 : decode prog_13_method_3_code 20 = .ok (.iconst 0, 1) := by decide +kernel
theorem dX3_wrong_21 : decode prog_13_method_3_code 21 = .ok (.putfield 106, 3) := by decide +kernel
theorem dX3_wrong_24 : decode prog_13_method_3_code 24 = .ok (.aload_n 0, 1) := by decide +kernel
theorem dX3_wrong_25 : decode prog_13_method_3_code 25 = .ok (.getfield 71, 3) := by decide +kernel
theorem dX3_wrong_28 : decode prog_13_method_3_code 28 = .ok (.areturn, 1) := by decide +kernel
theorem dX3_step_0 : decode prog_13_method_4_code 0 = .ok (.aload_n 0, 1) := by decide +kernel
theorem dX3_step_1 : decode prog_13_method_4_code 1 = .ok (.getfield 85, 3) := by decide +kernel
theorem dX3_step_4 : decode prog_13_method_4_code 4 = .ok (.aload_n 0, 1) := by decide +kernel
theorem dX3_step_5 : decode prog_13_method_4_code 5 = .ok (.getfield 88, 3) := by decide +kernel
theorem dX3_step_8 : decode prog_13_method_4_code 8 = .ok (.if_icmp .ne 11, 3) := by decide +kernel
theorem dX3_step_11 : decode prog_13_method_4_code 11 = .ok (.aload_n 0, 1) := by decide +kernel
theorem dX3_step_12 : decode prog_13_method_4_code 12 = .ok (.bipush 10, 2) := by decide +kernel
theorem dX3_step_14 : decode prog_13_method_4_code 14 = .ok (.iload_n 1, 1) := by decide +kernel
theorem dX3_step_15 : decode prog_13_method_4_code 15 = .ok (.invokevirtual 109, 3) := by decide +kernel
theorem dX3_step_18 : decode prog_13_method_4_code 18 = .ok (.athrow, 1) := by decide +kernel
theorem dX3_step_19 : decode prog_13_method_4_code 19 = .ok (.aload_n 0, 1) := by decide +kernel
theorem dX3_step_20 : decode prog_13_method_4_code 20 = .ok (.dup, 1) := by decide +kernel
theorem dX3_step_21 : decode prog_13_method_4_code 21 = .ok (.getfield 85, 3) := by decide +kernel
theorem dX3_step_24 : decode prog_13_method_4_code 24 = .ok (.iconst 1, 1) := by decide +kernel
theorem dX3_step_25 : decode prog_13_method_4_code 25 = .ok (.iadd, 1) := by decide +kernel
theorem dX3_step_26 : decode prog_13_method_4_code 26 = .ok (.putfield 85, 3) := by decide +kernel
theorem dX3_step_29 : decode prog_13_method_4_code 29 = .ok (.return_, 1) := by decide +kernel
theorem dX3_value_0 : decode prog_13_method_17_code 0 = .ok (.iload_n 1, 1) := by decide +kernel
theorem dX3_value_1 : decode prog_13_method_17_code 1 = .ok (.bipush 8, 2) := by decide +kernel
theorem dX3_value_3 : decode prog_13_method_17_code 3 = .ok (.if_icmp .ge 57, 3) := by decide +kernel
theorem dX3_value_6 : decode prog_13_method_17_code 6 = .ok (.aload_n 0, 1) := by decide +kernel
theorem dX3_value_7 : decode prog_13_method_17_code 7 = .ok (.getfield 34, 3) := by decide +kernel
theorem dX3_value_10 : decode prog_13_method_17_code 10 = .ok (.getfield 138, 3) := by decide +kernel
theorem dX3_value_13 : decode prog_13_method_17_code 13 = .ok (.iload_n 1, 1) := by decide +kernel
theorem dX3_value_14 : decode prog_13_method_17_code 14 = .ok (.baload, 1) := by decide +kernel
theorem dX3_value_15 : decode prog_13_method_17_code 15 = .ok (.ifCond .ne 11, 3) := by decide +kernel
theorem dX3_value_18 : decode prog_13_method_17_code 18 = .ok (.aload_n 0, 1) := by decide +kernel
theorem dX3_value_19 : decode prog_13_method_17_code 19 = .ok (.bipush 7, 2) := by decide +kernel
theorem dX3_value_21 : decode prog_13_method_17_code 21 = .ok (.iload_n 2, 1) := by decide +kernel
theorem dX3_value_22 : decode prog_13_method_17_code 22 = .ok (.invokevirtual 109, 3) := by decide +kernel
theorem dX3_value_25 : decode prog_13_method_17_code 25 = .ok (.athrow, 1) := by decide +kernel
theorem dX3_value_26 : decode prog_13_method_17_code 26 = .ok (.aload_n 0, 1) := by decide +kernel
theorem dX3_value_27 : decode prog_13_method_17_code 27 = .ok (.aload_n 0, 1) := by decide +kernel
theorem dX3_value_28 : decode prog_13_method_17_code 28 = .ok (.getfield 34, 3) := by decide +kernel
theorem dX3_value_31 : decode prog_13_method_17_code 31 = .ok (.getfield 141, 3) := by decide +kernel
theorem dX3_value_34 : decode prog_13_method_17_code 34 = .ok (.iload_n 1, 1) := by decide +kernel
theorem dX3_value_35 : decode prog_13_method_17_code 35 = .ok (.iaload, 1) := by decide +kernel
theorem dX3_value_36 : decode prog_13_method_17_code 36 = .ok (.invokevirtual 129, 3) := by decide +kernel
theorem dX3_value_39 : decode prog_13_method_17_code 39 = .ok (.aload_n 0, 1) := by decide +kernel
theorem dX3_value_40 : decode prog_13_method_17_code 40 = .ok (.getfield 17, 3) := by decide +kernel
theorem dX3_value_43 : decode prog_13_method_17_code 43 = .ok (.aload_n 0, 1) := by decide +kernel
theorem dX3_value_44 : decode prog_13_method_17_code 44 = .ok (.getfield 75, 3) := by decide +kernel
theorem dX3_value_47 : decode prog_13_method_17_code 47 = .ok (.iconst 1, 1) := by decide +kernel
theorem dX3_value_48 : decode prog_13_method_17_code 48 = .ok (.isub, 1) := by decide +kernel
theorem dX3_value_49 : decode prog_13_method_17_code 49 = .ok (.aload_n 0, 1) := by decide +kernel
theorem dX3_value_50 : decode prog_13_method_17_code 50 = .ok (.getfield 34, 3) := by decide +kernel
theorem dX3_value_53 : decode prog_13_method_17_code 53 = .ok (.getfield 142, 3) := by decide +kernel
theorem dX3_value_56 : decode prog_13_method_17_code 56 = .ok (.iload_n 1, 1) := by decide +kernel
theorem dX3_value_57 : decode prog_13_method_17_code 57 = .ok (.aaload, 1) := by decide +kernel
theorem dX3_value_58 : decode prog_13_method_17_code 58 = .ok (.aastore, 1) := by decide +kernel
theorem dX3_value_59 : decode prog_13_method_17_code 59 = .ok (.return_, 1) := by decide +kernel
theorem dX3_value_60 : decode prog_13_method_17_code 60 = .ok (.bipush 14, 2) := by decide +kernel
theorem dX3_value_62 : decode prog_13_method_17_code 62 = .ok (.aload_n 0, 1) := by decide +kernel
theorem dX3_value_63 : decode prog_13_method_17_code 63 = .ok (.getfield 79, 3) := by decide +kernel
theorem dX3_value_66 : decode prog_13_method_17_code 66 = .ok (.iconst 1, 1) := by decide +kernel
theorem dX3_value_67 : decode prog_13_method_17_code 67 = .ok (.isub, 1) := by decide +kernel
theorem dX3_value_68 : decode prog_13_method_17_code 68 = .ok (.imul, 1) := by decide +kernel
theorem dX3_value_69 : decode prog_13_method_17_code 69 = .ok (.iload_n 1, 1) := by decide +kernel
theorem dX3_value_70 : decode prog_13_method_17_code 70 = .ok (.iadd, 1) := by decide +kernel
theorem dX3_value_71 : decode prog_13_method_17_code 71 = .ok (.bipush 8, 2) := by decide +kernel
theorem dX3_value_73 : decode prog_13_method_17_code 73 = .ok (.isub, 1) := by decide +kernel
theorem dX3_value_74 : decode prog_13_method_17_code 74 = .ok (.istore_n 3, 1) := by decide +kernel
theorem dX3_value_75 : decode prog_13_method_17_code 75 = .ok (.aload_n 0, 1) := by decide +kernel
theorem dX3_value_76 : decode prog_13_method_17_code 76 = .ok (.getfield 27, 3) := by decide +kernel
theorem dX3_value_79 : decode prog_13_method_17_code 79 = .ok (.iload_n 3, 1) := by decide +kernel
theorem dX3_value_80 : decode prog_13_method_17_code 80 = .ok (.baload, 1) := by decide +kernel
theorem dX3_value_81 : decode prog_13_method_17_code 81 = .ok (.ifCond .ne 11, 3) := by decide +kernel
theorem dX3_value_84 : decode prog_13_method_17_code 84 = .ok (.aload_n 0, 1) := by decide +kernel
theorem dX3_value_85 : decode prog_13_method_17_code 85 = .ok (.bipush 7, 2) := by decide +kernel
theorem dX3_value_87 : decode prog_13_method_17_code 87 = .ok (.iload_n 2, 1) := by decide +kernel
theorem dX3_value_88 : decode prog_13_method_17_code 88 = .ok (.invokevirtual 109, 3) := by decide +kernel
theorem dX3_value_91 : decode prog_13_method_17_code 91 = .ok (.athrow, 1) := by decide +kernel
theorem dX3_value_92 : decode prog_13_method_17_code 92 = .ok (.aload_n 0, 1) := by decide +kernel
theorem dX3_value_93 : decode prog_13_method_17_code 93 = .ok (.aload_n 0, 1) := by decide +kernel
theorem dX3_value_94 : decode prog_13_method_17_code 94 = .ok (.getfield 21, 3) := by decide +kernel
theorem dX3_value_97 : decode prog_13_method_17_code 97 = .ok (.iload_n 3, 1) := by decide +kernel
theorem dX3_value_98 : decode prog_13_method_17_code 98 = .ok (.iaload, 1) := by decide +kernel
theorem dX3_value_99 : decode prog_13_method_17_code 99 = .ok (.invokevirtual 129, 3) := by decide +kernel
theorem dX3_value_102 : decode prog_13_method_17_code 102 = .ok (.aload_n 0, 1) := by decide +kernel
theorem dX3_value_103 : decode prog_13_method_17_code 103 = .ok (.getfield 17, 3) := by decide +kernel
theorem dX3_value_106 : decode prog_13_method_17_code 106 = .ok (.aload_n 0, 1) := by decide +kernel
theorem dX3_value_107 : decode prog_13_method_17_code 107 = .ok (.getfield 75, 3) := by decide +kernel
theorem dX3_value_110 : decode prog_13_method_17_code 110 = .ok (.iconst 1, 1) := by decide +kernel
theorem dX3_value_111 : decode prog_13_method_17_code 111 = .ok (.isub, 1) := by decide +kernel
theorem dX3_value_112 : decode prog_13_method_17_code 112 = .ok (.aload_n 0, 1) := by decide +kernel
theorem dX3_value_113 : decode prog_13_method_17_code 113 = .ok (.getfield 24, 3) := by decide +kernel
theorem dX3_value_116 : decode prog_13_method_17_code 116 = .ok (.iload_n 3, 1) := by decide +kernel
theorem dX3_value_117 : decode prog_13_method_17_code 117 = .ok (.aaload, 1) := by decide +kernel
theorem dX3_value_118 : decode prog_13_method_17_code 118 = .ok (.aastore, 1) := by decide +kernel
theorem dX3_value_119 : decode prog_13_method_17_code 119 = .ok (.return_, 1) := by decide +kernel
theorem dX3_push_0 : decode prog_13_method_6_code 0 = .ok (.aload_n 0, 1) := by decide +kernel
theorem dX3_push_1 : decode prog_13_method_6_code 1 = .ok (.getfield 9, 3) := by decide +kernel
theorem dX3_push_4 : decode prog_13_method_6_code 4 = .ok (.aload_n 0, 1) := by decide +kernel
theorem dX3_push_5 : decode prog_13_method_6_code 5 = .ok (.getfield 75, 3) := by decide +kernel
theorem dX3_push_8 : decode prog_13_method_6_code 8 = .ok (.iload_n 1, 1) := by decide +kernel
theorem dX3_push_9 : decode prog_13_method_6_code 9 = .ok (.iastore, 1) := by decide +kernel
theorem dX3_push_10 : decode prog_13_method_6_code 10 = .ok (.aload_n 0, 1) := by decide +kernel
theorem dX3_push_11 : decode prog_13_method_6_code 11 = .ok (.getfield 17, 3) := by decide +kernel
theorem dX3_push_14 : decode prog_13_method_6_code 14 = .ok (.aload_n 0, 1) := by decide +kernel
theorem dX3_push_15 : decode prog_13_method_6_code 15 = .ok (.getfield 75, 3) := by decide +kernel
theorem dX3_push_18 : decode prog_13_method_6_code 18 = .ok (.aconst_null, 1) := by decide +kernel
theorem dX3_push_19 : decode prog_13_method_6_code 19 = .ok (.aastore, 1) := by decide +kernel
theorem dX3_push_20 : decode prog_13_method_6_code 20 = .ok (.aload_n 0, 1) := by decide +kernel
theorem dX3_push_21 : decode prog_13_method_6_code 21 = .ok (.dup, 1) := by decide +kernel
theorem dX3_push_22 : decode prog_13_method_6_code 22 = .ok (.getfield 75, 3) := by decide +kernel
theorem dX3_push_25 : decode prog_13_method_6_code 25 = .ok (.iconst 1, 1) := by decide +kernel
theorem dX3_push_26 : decode prog_13_method_6_code 26 = .ok (.iadd, 1) := by decide +kernel
theorem dX3_push_27 : decode prog_13_method_6_code 27 = .ok (.putfield 75, 3) := by decide +kernel
theorem dX3_push_30 : decode prog_13_method_6_code 30 = .ok (.return_, 1) := by decide +kernel
theorem dX3_give_0 : decode prog_13_method_11_code 0 = .ok (.aload_n 0, 1) := by decide +kernel
theorem dX3_give_1 : decode prog_13_method_11_code 1 = .ok (.dup, 1) := by decide +kernel
theorem dX3_give_2 : decode prog_13_method_11_code 2 = .ok (.getfield 75, 3) := by decide +kernel
theorem dX3_give_5 : decode prog_13_method_11_code 5 = .ok (.iload_n 2, 1) := by decide +kernel
theorem dX3_give_6 : decode prog_13_method_11_code 6 = .ok (.isub, 1) := by decide +kernel
theorem dX3_give_7 : decode prog_13_method_11_code 7 = .ok (.putfield 75, 3) := by decide +kernel
theorem dX3_give_10 : decode prog_13_method_11_code 10 = .ok (.aload_n 0, 1) := by decide +kernel
theorem dX3_give_11 : decode prog_13_method_11_code 11 = .ok (.iload_n 1, 1) := by decide +kernel
theorem dX3_give_12 : decode prog_13_method_11_code 12 = .ok (.invokevirtual 129, 3) := by decide +kernel
theorem dX3_give_15 : decode prog_13_method_11_code 15 = .ok (.return_, 1) := by decide +kernel
theorem dX3_give_2_0 : decode prog_13_method_10_code 0 = .ok (.aload_n 0, 1) := by decide +kernel
theorem dX3_give_2_1 : decode prog_13_method_10_code 1 = .ok (.aload_n 1, 1) := by decide +kernel
theorem dX3_give_2_2 : decode prog_13_method_10_code 2 = .ok (.invokevirtual 118, 3) := by decide +kernel
theorem dX3_give_2_5 : decode prog_13_method_10_code 5 = .ok (.iload_n 3, 1) := by decide +kernel
theorem dX3_give_2_6 : decode prog_13_method_10_code 6 = .ok (.invokevirtual 121, 3) := by decide +kernel
theorem dX3_give_2_9 : decode prog_13_method_10_code 9 = .ok (.aload_n 0, 1) := by decide +kernel
theorem dX3_give_2_10 : decode prog_13_method_10_code 10 = .ok (.dup, 1) := by decide +kernel
theorem dX3_give_2_11 : decode prog_13_method_10_code 11 = .ok (.getfield 75, 3) := by decide +kernel
theorem dX3_give_2_14 : decode prog_13_method_10_code 14 = .ok (.iload_n 2, 1) := by decide +kernel
theorem dX3_give_2_15 : decode prog_13_method_10_code 15 = .ok (.isub, 1) := by decide +kernel
theorem dX3_give_2_16 : decode prog_13_method_10_code 16 = .ok (.putfield 75, 3) := by decide +kernel
theorem dX3_give_2_19 : decode prog_13_method_10_code 19 = .ok (.aload_n 0, 1) := by decide +kernel
theorem dX3_give_2_20 : decode prog_13_method_10_code 20 = .ok (.aload_n 1, 1) := by decide +kernel
theorem dX3_give_2_21 : decode prog_13_method_10_code 21 = .ok (.invokevirtual 125, 3) := by decide +kernel
theorem dX3_give_2_24 : decode prog_13_method_10_code 24 = .ok (.return_, 1) := by decide +kernel
theorem dX3_makes_0 : decode prog_13_method_5_code 0 = .ok (.aload_n 0, 1) := by decide +kernel
theorem dX3_makes_1 : decode prog_13_method_5_code 1 = .ok (.dup, 1) := by decide +kernel
theorem dX3_makes_2 : decode prog_13_method_5_code 2 = .ok (.getfield 91, 3) := by decide +kernel
theorem dX3_makes_5 : decode prog_13_method_5_code 5 = .ok (.iload_n 1, 1) := by decide +kernel
theorem dX3_makes_6 : decode prog_13_method_5_code 6 = .ok (.iadd, 1) := by decide +kernel
theorem dX3_makes_7 : decode prog_13_method_5_code 7 = .ok (.putfield 91, 3) := by decide +kernel
theorem dX3_makes_10 : decode prog_13_method_5_code 10 = .ok (.aload_n 0, 1) := by decide +kernel
theorem dX3_makes_11 : decode prog_13_method_5_code 11 = .ok (.getfield 91, 3) := by decide +kernel
theorem dX3_makes_14 : decode prog_13_method_5_code 14 = .ok (.sipush 3000, 3) := by decide +kernel
theorem dX3_makes_17 : decode prog_13_method_5_code 17 = .ok (.if_icmp .le 11, 3) := by decide +kernel
theorem dX3_makes_20 : decode prog_13_method_5_code 20 = .ok (.aload_n 0, 1) := by decide +kernel
theorem dX3_makes_21 : decode prog_13_method_5_code 21 = .ok (.bipush 11, 2) := by decide +kernel
theorem dX3_makes_23 : decode prog_13_method_5_code 23 = .ok (.iload_n 2, 1) := by decide +kernel
theorem dX3_makes_24 : decode prog_13_method_5_code 24 = .ok (.invokevirtual 109, 3) := by decide +kernel
theorem dX3_makes_27 : decode prog_13_method_5_code 27 = .ok (.athrow, 1) := by decide +kernel
theorem dX3_makes_28 : decode prog_13_method_5_code 28 = .ok (.return_, 1) := by decide +kernel
theorem dX3_push_2_0 : decode prog_13_method_7_code 0 = .ok (.aload_n 0, 1) := by decide +kernel
theorem dX3_push_2_1 : decode prog_13_method_7_code 1 = .ok (.getfield 9, 3) := by decide +kernel
theorem dX3_push_2_4 : decode prog_13_method_7_code 4 = .ok (.aload_n 0, 1) := by decide +kernel
theorem dX3_push_2_5 : decode prog_13_method_7_code 5 = .ok (.getfield 75, 3) := by decide +kernel
theorem dX3_push_2_8 : decode prog_13_method_7_code 8 = .ok (.aload_n 1, 1) := by decide +kernel
theorem dX3_push_2_9 : decode prog_13_method_7_code 9 = .ok (.instanceof 113, 3) := by decide +kernel
theorem dX3_push_2_12 : decode prog_13_method_7_code 12 = .ok (.ifCond .eq 15, 3) := by decide +kernel
theorem dX3_push_2_15 : decode prog_13_method_7_code 15 = .ok (.aload_n 1, 1) := by decide +kernel
theorem dX3_push_2_16 : decode prog_13_method_7_code 16 = .ok (.checkcast 113, 3) := by decide +kernel
theorem dX3_push_2_19 : decode prog_13_method_7_code 19 = .ok (.astore_n 2, 1) := by decide +kernel
theorem dX3_push_2_20 : decode prog_13_method_7_code 20 = .ok (.aload_n 2, 1) := by decide +kernel
theorem dX3_push_2_21 : decode prog_13_method_7_code 21 = .ok (.getfield 115, 3) := by decide +kernel
theorem dX3_push_2_24 : decode prog_13_method_7_code 24 = .ok (.goto 4, 3) := by decide +kernel
theorem dX3_push_2_27 : decode prog_13_method_7_code 27 = .ok (.iconst 0, 1) := by decide +kernel
theorem dX3_push_2_28 : decode prog_13_method_7_code 28 = .ok (.iastore, 1) := by decide +kernel
theorem dX3_push_2_29 : decode prog_13_method_7_code 29 = .ok (.aload_n 0, 1) := by decide +kernel
theorem dX3_push_2_30 : decode prog_13_method_7_code 30 = .ok (.getfield 17, 3) := by decide +kernel
theorem dX3_push_2_33 : decode prog_13_method_7_code 33 = .ok (.aload_n 0, 1) := by decide +kernel
theorem dX3_push_2_34 : decode prog_13_method_7_code 34 = .ok (.getfield 75, 3) := by decide +kernel
theorem dX3_push_2_37 : decode prog_13_method_7_code 37 = .ok (.aload_n 1, 1) := by decide +kernel
theorem dX3_push_2_38 : decode prog_13_method_7_code 38 = .ok (.instanceof 113, 3) := by decide +kernel
theorem dX3_push_2_41 : decode prog_13_method_7_code 41 = .ok (.ifCond .eq 7, 3) := by decide +kernel
theorem dX3_push_2_44 : decode prog_13_method_7_code 44 = .ok (.aconst_null, 1) := by decide +kernel
theorem dX3_push_2_45 : decode prog_13_method_7_code 45 = .ok (.goto 4, 3) := by decide +kernel
theorem dX3_push_2_48 : decode prog_13_method_7_code 48 = .ok (.aload_n 1, 1) := by decide +kernel
theorem dX3_push_2_49 : decode prog_13_method_7_code 49 = .ok (.aastore, 1) := by decide +kernel
theorem dX3_push_2_50 : decode prog_13_method_7_code 50 = .ok (.aload_n 0, 1) := by decide +kernel
theorem dX3_push_2_51 : decode prog_13_method_7_code 51 = .ok (.dup, 1) := by decide +kernel
theorem dX3_push_2_52 : decode prog_13_method_7_code 52 = .ok (.getfield 75, 3) := by decide +kernel
theorem dX3_push_2_55 : decode prog_13_method_7_code 55 = .ok (.iconst 1, 1) := by decide +kernel
theorem dX3_push_2_56 : decode prog_13_method_7_code 56 = .ok (.iadd, 1) := by decide +kernel
theorem dX3_push_2_57 : decode prog_13_method_7_code 57 = .ok (.putfield 75, 3) := by decide +kernel
theorem dX3_push_2_60 : decode prog_13_method_7_code 60 = .ok (.return_, 1) := by decide +kernel
theorem dX3_at_0 : decode prog_13_method_29_code 0 = .ok (.aload_n 0, 1) := by decide +kernel
theorem dX3_at_1 : decode prog_13_method_29_code 1 = .ok (.getfield 17, 3) := by decide +kernel
theorem dX3_at_4 : decode prog_13_method_29_code 4 = .ok (.aload_n 0, 1) := by decide +kernel
theorem dX3_at_5 : decode prog_13_method_29_code 5 = .ok (.getfield 75, 3) := by decide +kernel
theorem dX3_at_8 : decode prog_13_method_29_code 8 = .ok (.iconst 2, 1) := by decide +kernel
theorem dX3_at_9 : decode prog_13_method_29_code 9 = .ok (.isub, 1) := by decide +kernel
theorem dX3_at_10 : decode prog_13_method_29_code 10 = .ok (.aaload, 1) := by decide +kernel
theorem dX3_at_11 : decode prog_13_method_29_code 11 = .ok (.astore_n 2, 1) := by decide +kernel
theorem dX3_at_12 : decode prog_13_method_29_code 12 = .ok (.aload_n 0, 1) := by decide +kernel
theorem dX3_at_13 : decode prog_13_method_29_code 13 = .ok (.getfield 17, 3) := by decide +kernel
theorem dX3_at_16 : decode prog_13_method_29_code 16 = .ok (.aload_n 0, 1) := by decide +kernel
theorem dX3_at_17 : decode prog_13_method_29_code 17 = .ok (.getfield 75, 3) := by decide +kernel
theorem dX3_at_20 : decode prog_13_method_29_code 20 = .ok (.iconst 1, 1) := by decide +kernel
theorem dX3_at_21 : decode prog_13_method_29_code 21 = .ok (.isub, 1) := by decide +kernel
theorem dX3_at_22 : decode prog_13_method_29_code 22 = .ok (.aaload, 1) := by decide +kernel
theorem dX3_at_23 : decode prog_13_method_29_code 23 = .ok (.astore_n 3, 1) := by decide +kernel
theorem dX3_at_24 : decode prog_13_method_29_code 24 = .ok (.aload_n 2, 1) := by decide +kernel
theorem dX3_at_25 : decode prog_13_method_29_code 25 = .ok (.ifnull 14, 3) := by decide +kernel
theorem dX3_at_28 : decode prog_13_method_29_code 28 = .ok (.aload_n 3, 1) := by decide +kernel
theorem dX3_at_29 : decode prog_13_method_29_code 29 = .ok (.ifnull 17, 3) := by decide +kernel
theorem dX3_at_32 : decode prog_13_method_29_code 32 = .ok (.aload_n 3, 1) := by decide +kernel
theorem dX3_at_33 : decode prog_13_method_29_code 33 = .ok (.instanceof 132, 3) := by decide +kernel
theorem dX3_at_36 : decode prog_13_method_29_code 36 = .ok (.ifCond .ne 10, 3) := by decide +kernel
theorem dX3_at_39 : decode prog_13_method_29_code 39 = .ok (.aload_n 0, 1) := by decide +kernel
theorem dX3_at_40 : decode prog_13_method_29_code 40 = .ok (.iconst 3, 1) := by decide +kernel
theorem dX3_at_41 : decode prog_13_method_29_code 41 = .ok (.iload_n 1, 1) := by decide +kernel
theorem dX3_at_42 : decode prog_13_method_29_code 42 = .ok (.invokevirtual 109, 3) := by decide +kernel
theorem dX3_at_45 : decode prog_13_method_29_code 45 = .ok (.athrow, 1) := by decide +kernel
theorem dX3_at_46 : decode prog_13_method_29_code 46 = .ok (.aload_n 3, 1) := by decide +kernel
theorem dX3_at_47 : decode prog_13_method_29_code 47 = .ok (.ifnonnull 23, 3) := by decide +kernel
theorem dX3_at_50 : decode prog_13_method_29_code 50 = .ok (.aload_n 0, 1) := by decide +kernel
theorem dX3_at_51 : decode prog_13_method_29_code 51 = .ok (.aload_n 2, 1) := by decide +kernel
theorem dX3_at_52 : decode prog_13_method_29_code 52 = .ok (.aload_n 0, 1) := by decide +kernel
theorem dX3_at_53 : decode prog_13_method_29_code 53 = .ok (.getfield 9, 3) := by decide +kernel
theorem dX3_at_56 : decode prog_13_method_29_code 56 = .ok (.aload_n 0, 1) := by decide +kernel
theorem dX3_at_57 : decode prog_13_method_29_code 57 = .ok (.getfield 75, 3) := by decide +kernel
theorem dX3_at_60 : decode prog_13_method_29_code 60 = .ok (.iconst 1, 1) := by decide +kernel
theorem dX3_at_61 : decode prog_13_method_29_code 61 = .ok (.isub, 1) := by decide +kernel
theorem dX3_at_62 : decode prog_13_method_29_code 62 = .ok (.iaload, 1) := by decide +kernel
theorem dX3_at_63 : decode prog_13_method_29_code 63 = .ok (.iload_n 1, 1) := by decide +kernel
theorem dX3_at_64 : decode prog_13_method_29_code 64 = .ok (.invokevirtual 238, 3) := by decide +kernel
theorem dX3_at_67 : decode prog_13_method_29_code 67 = .ok (.goto 25, 3) := by decide +kernel
theorem dX3_at_70 : decode prog_13_method_29_code 70 = .ok (.aload_n 0, 1) := by decide +kernel
theorem dX3_at_71 : decode prog_13_method_29_code 71 = .ok (.aload_n 0, 1) := by decide +kernel
theorem dX3_at_72 : decode prog_13_method_29_code 72 = .ok (.getfield 50, 3) := by decide +kernel
theorem dX3_at_75 : decode prog_13_method_29_code 75 = .ok (.aload_n 2, 1) := by decide +kernel
theorem dX3_at_76 : decode prog_13_method_29_code 76 = .ok (.aload_n 3, 1) := by decide +kernel
theorem dX3_at_77 : decode prog_13_method_29_code 77 = .ok (.checkcast 132, 3) := by decide +kernel
theorem dX3_at_80 : decode prog_13_method_29_code 80 = .ok (.getfield 164, 3) := by decide +kernel
theorem dX3_at_83 : decode prog_13_method_29_code 83 = .ok (.iload_n 1, 1) := by decide +kernel
theorem dX3_at_84 : decode prog_13_method_29_code 84 = .ok (.invokevirtual 241, 3) := by decide +kernel
theorem dX3_at_87 : decode prog_13_method_29_code 87 = .ok (.iconst 2, 1) := by decide +kernel
theorem dX3_at_88 : decode prog_13_method_29_code 88 = .ok (.iload_n 1, 1) := by decide +kernel
theorem dX3_at_89 : decode prog_13_method_29_code 89 = .ok (.invokevirtual 231, 3) := by decide +kernel
theorem dX3_at_92 : decode prog_13_method_29_code 92 = .ok (.goto 12, 3) := by decide +kernel
theorem dX3_at_95 : decode prog_13_method_29_code 95 = .ok (.astore 4, 2) := by decide +kernel
theorem dX3_at_97 : decode prog_13_method_29_code 97 = .ok (.aload_n 0, 1) := by decide +kernel
theorem dX3_at_98 : decode prog_13_method_29_code 98 = .ok (.iconst 5, 1) := by decide +kernel
theorem dX3_at_99 : decode prog_13_method_29_code 99 = .ok (.iload_n 1, 1) := by decide +kernel
theorem dX3_at_100 : decode prog_13_method_29_code 100 = .ok (.invokevirtual 109, 3) := by decide +kernel
theorem dX3_at_103 : decode prog_13_method_29_code 103 = .ok (.athrow, 1) := by decide +kernel
theorem dX3_at_104 : decode prog_13_method_29_code 104 = .ok (.return_, 1) := by decide +kernel
theorem dX3_one_0 : decode prog_13_method_30_code 0 = .ok (.aload_n 1, 1) := by decide +kernel
theorem dX3_one_1 : decode prog_13_method_30_code 1 = .ok (.instanceof 132, 3) := by decide +kernel
theorem dX3_one_4 : decode prog_13_method_30_code 4 = .ok (.ifCond .eq 22, 3) := by decide +kernel
theorem dX3_one_7 : decode prog_13_method_30_code 7 = .ok (.aload_n 1, 1) := by decide +kernel
theorem dX3_one_8 : decode prog_13_method_30_code 8 = .ok (.checkcast 132, 3) := by decide +kernel
theorem dX3_one_11 : decode prog_13_method_30_code 11 = .ok (.astore 4, 2) := by decide +kernel
theorem dX3_one_13 : decode prog_13_method_30_code 13 = .ok (.aload_n 0, 1) := by decide +kernel
theorem dX3_one_14 : decode prog_13_method_30_code 14 = .ok (.aload 4, 2) := by decide +kernel
theorem dX3_one_16 : decode prog_13_method_30_code 16 = .ok (.getfield 164, 3) := by decide +kernel
theorem dX3_one_19 : decode prog_13_method_30_code 19 = .ok (.iload_n 2, 1) := by decide +kernel
theorem dX3_one_20 : decode prog_13_method_30_code 20 = .ok (.iaload, 1) := by decide +kernel
theorem dX3_one_21 : decode prog_13_method_30_code 21 = .ok (.iconst 2, 1) := by decide +kernel
theorem dX3_one_22 : decode prog_13_method_30_code 22 = .ok (.invokevirtual 247, 3) := by decide +kernel
theorem dX3_one_25 : decode prog_13_method_30_code 25 = .ok (.return_, 1) := by decide +kernel
theorem dX3_one_26 : decode prog_13_method_30_code 26 = .ok (.aload_n 1, 1) := by decide +kernel
theorem dX3_one_27 : decode prog_13_method_30_code 27 = .ok (.instanceof 134, 3) := by decide +kernel
theorem dX3_one_30 : decode prog_13_method_30_code 30 = .ok (.ifCond .eq 18, 3) := by decide +kernel
theorem dX3_one_33 : decode prog_13_method_30_code 33 = .ok (.aload_n 1, 1) := by decide +kernel
theorem dX3_one_34 : decode prog_13_method_30_code 34 = .ok (.checkcast 134, 3) := by decide +kernel
theorem dX3_one_37 : decode prog_13_method_30_code 37 = .ok (.astore 5, 2) := by decide +kernel
theorem dX3_one_39 : decode prog_13_method_30_code 39 = .ok (.aload 5, 2) := by decide +kernel
theorem dX3_one_41 : decode prog_13_method_30_code 41 = .ok (.iload_n 2, 1) := by decide +kernel
theorem dX3_one_42 : decode prog_13_method_30_code 42 = .ok (.invokevirtual 167, 3) := by decide +kernel
theorem dX3_one_45 : decode prog_13_method_30_code 45 = .ok (.goto 12, 3) := by decide +kernel
theorem dX3_one_48 : decode prog_13_method_30_code 48 = .ok (.aload_n 1, 1) := by decide +kernel
theorem dX3_one_49 : decode prog_13_method_30_code 49 = .ok (.checkcast 171, 3) := by decide +kernel
theorem dX3_one_52 : decode prog_13_method_30_code 52 = .ok (.getfield 173, 3) := by decide +kernel
theorem dX3_one_55 : decode prog_13_method_30_code 55 = .ok (.iload_n 2, 1) := by decide +kernel
theorem dX3_one_56 : decode prog_13_method_30_code 56 = .ok (.aaload, 1) := by decide +kernel
theorem dX3_one_57 : decode prog_13_method_30_code 57 = .ok (.astore 4, 2) := by decide +kernel
theorem dX3_one_59 : decode prog_13_method_30_code 59 = .ok (.aload 4, 2) := by decide +kernel
theorem dX3_one_61 : decode prog_13_method_30_code 61 = .ok (.instanceof 113, 3) := by decide +kernel
theorem dX3_one_64 : decode prog_13_method_30_code 64 = .ok (.ifCond .eq 23, 3) := by decide +kernel
theorem dX3_one_67 : decode prog_13_method_30_code 67 = .ok (.aload 4, 2) := by decide +kernel
theorem dX3_one_69 : decode prog_13_method_30_code 69 = .ok (.checkcast 113, 3) := by decide +kernel
theorem dX3_one_72 : decode prog_13_method_30_code 72 = .ok (.astore 5, 2) := by decide +kernel
theorem dX3_one_74 : decode prog_13_method_30_code 74 = .ok (.aload_n 0, 1) := by decide +kernel
theorem dX3_one_75 : decode prog_13_method_30_code 75 = .ok (.aload 5, 2) := by decide +kernel
theorem dX3_one_77 : decode prog_13_method_30_code 77 = .ok (.getfield 115, 3) := by decide +kernel
theorem dX3_one_80 : decode prog_13_method_30_code 80 = .ok (.iconst 2, 1) := by decide +kernel
theorem dX3_one_81 : decode prog_13_method_30_code 81 = .ok (.invokevirtual 247, 3) := by decide +kernel
theorem dX3_one_84 : decode prog_13_method_30_code 84 = .ok (.goto 11, 3) := by decide +kernel
theorem dX3_one_87 : decode prog_13_method_30_code 87 = .ok (.aload_n 0, 1) := by decide +kernel
theorem dX3_one_88 : decode prog_13_method_30_code 88 = .ok (.aload 4, 2) := by decide +kernel
theorem dX3_one_90 : decode prog_13_method_30_code 90 = .ok (.iconst 2, 1) := by decide +kernel
theorem dX3_one_91 : decode prog_13_method_30_code 91 = .ok (.iload_n 3, 1) := by decide +kernel
theorem dX3_one_92 : decode prog_13_method_30_code 92 = .ok (.invokevirtual 231, 3) := by decide +kernel
theorem dX3_one_95 : decode prog_13_method_30_code 95 = .ok (.return_, 1) := by decide +kernel
theorem dX3_literal_0 : decode prog_13_method_28_code 0 = .ok (.iconst 1, 1) := by decide +kernel
theorem dX3_literal_1 : decode prog_13_method_28_code 1 = .ok (.istore_n 3, 1) := by decide +kernel
theorem dX3_literal_2 : decode prog_13_method_28_code 2 = .ok (.iload_n 1, 1) := by decide +kernel
theorem dX3_literal_3 : decode prog_13_method_28_code 3 = .ok (.ifCond .le 7, 3) := by decide +kernel
theorem dX3_literal_6 : decode prog_13_method_28_code 6 = .ok (.iconst 1, 1) := by decide +kernel
theorem dX3_literal_7 : decode prog_13_method_28_code 7 = .ok (.goto 4, 3) := by decide +kernel
theorem dX3_literal_10 : decode prog_13_method_28_code 10 = .ok (.iconst 0, 1) := by decide +kernel
theorem dX3_literal_11 : decode prog_13_method_28_code 11 = .ok (.istore 4, 2) := by decide +kernel
theorem dX3_literal_13 : decode prog_13_method_28_code 13 = .ok (.aload_n 0, 1) := by decide +kernel
theorem dX3_literal_14 : decode prog_13_method_28_code 14 = .ok (.getfield 75, 3) := by decide +kernel
theorem dX3_literal_17 : decode prog_13_method_28_code 17 = .ok (.iload_n 1, 1) := by decide +kernel
theorem dX3_literal_18 : decode prog_13_method_28_code 18 = .ok (.isub, 1) := by decide +kernel
theorem dX3_literal_19 : decode prog_13_method_28_code 19 = .ok (.istore 5, 2) := by decide +kernel
theorem dX3_literal_21 : decode prog_13_method_28_code 21 = .ok (.iload 5, 2) := by decide +kernel
theorem dX3_literal_23 : decode prog_13_method_28_code 23 = .ok (.aload_n 0, 1) := by decide +kernel
theorem dX3_literal_24 : decode prog_13_method_28_code 24 = .ok (.getfield 75, 3) := by decide +kernel
theorem dX3_literal_27 : decode prog_13_method_28_code 27 = .ok (.if_icmp .ge 53, 3) := by decide +kernel
theorem dX3_literal_30 : decode prog_13_method_28_code 30 = .ok (.iload_n 3, 1) := by decide +kernel
theorem dX3_literal_31 : decode prog_13_method_28_code 31 = .ok (.ifCond .eq 16, 3) := by decide +kernel
theorem dX3_literal_34 : decode prog_13_method_28_code 34 = .ok (.aload_n 0, 1) := by decide +kernel
theorem dX3_literal_35 : decode prog_13_method_28_code 35 = .ok (.iload 5, 2) := by decide +kernel
theorem dX3_literal_37 : decode prog_13_method_28_code 37 = .ok (.invokevirtual 208, 3) := by decide +kernel
theorem dX3_literal_40 : decode prog_13_method_28_code 40 = .ok (.ifCond .eq 7, 3) := by decide +kernel
theorem dX3_literal_43 : decode prog_13_method_28_code 43 = .ok (.iconst 1, 1) := by decide +kernel
theorem dX3_literal_44 : decode prog_13_method_28_code 44 = .ok (.goto 4, 3) := by decide +kernel
theorem dX3_literal_47 : decode prog_13_method_28_code 47 = .ok (.iconst 0, 1) := by decide +kernel
theorem dX3_literal_48 : decode prog_13_method_28_code 48 = .ok (.istore_n 3, 1) := by decide +kernel
theorem dX3_literal_49 : decode prog_13_method_28_code 49 = .ok (.iload 4, 2) := by decide +kernel
theorem dX3_literal_51 : decode prog_13_method_28_code 51 = .ok (.ifCond .eq 20, 3) := by decide +kernel
theorem dX3_literal_54 : decode prog_13_method_28_code 54 = .ok (.aload_n 0, 1) := by decide +kernel
theorem dX3_literal_55 : decode prog_13_method_28_code 55 = .ok (.getfield 17, 3) := by decide +kernel
theorem dX3_literal_58 : decode prog_13_method_28_code 58 = .ok (.iload 5, 2) := by decide +kernel
theorem dX3_literal_60 : decode prog_13_method_28_code 60 = .ok (.aaload, 1) := by decide +kernel
theorem dX3_literal_61 : decode prog_13_method_28_code 61 = .ok (.instanceof 132, 3) := by decide +kernel
theorem dX3_literal_64 : decode prog_13_method_28_code 64 = .ok (.ifCond .eq 7, 3) := by decide +kernel
theorem dX3_literal_67 : decode prog_13_method_28_code 67 = .ok (.iconst 1, 1) := by decide +kernel
theorem dX3_literal_68 : decode prog_13_method_28_code 68 = .ok (.goto 4, 3) := by decide +kernel
theorem dX3_literal_71 : decode prog_13_method_28_code 71 = .ok (.iconst 0, 1) := by decide +kernel
theorem dX3_literal_72 : decode prog_13_method_28_code 72 = .ok (.istore 4, 2) := by decide +kernel
theorem dX3_literal_74 : decode prog_13_method_28_code 74 = .ok (.iinc 5 1, 3) := by decide +kernel
theorem dX3_literal_77 : decode prog_13_method_28_code 77 = .ok (.goto (-56), 3) := by decide +kernel
theorem dX3_literal_80 : decode prog_13_method_28_code 80 = .ok (.iload_n 3, 1) := by decide +kernel
theorem dX3_literal_81 : decode prog_13_method_28_code 81 = .ok (.ifCond .eq 27, 3) := by decide +kernel
theorem dX3_literal_84 : decode prog_13_method_28_code 84 = .ok (.aload_n 0, 1) := by decide +kernel
theorem dX3_literal_85 : decode prog_13_method_28_code 85 = .ok (.aload_n 0, 1) := by decide +kernel
theorem dX3_literal_86 : decode prog_13_method_28_code 86 = .ok (.getfield 50, 3) := by decide +kernel
theorem dX3_literal_89 : decode prog_13_method_28_code 89 = .ok (.aload_n 0, 1) := by decide +kernel
theorem dX3_literal_90 : decode prog_13_method_28_code 90 = .ok (.getfield 75, 3) := by decide +kernel
theorem dX3_literal_93 : decode prog_13_method_28_code 93 = .ok (.iload_n 1, 1) := by decide +kernel
theorem dX3_literal_94 : decode prog_13_method_28_code 94 = .ok (.isub, 1) := by decide +kernel
theorem dX3_literal_95 : decode prog_13_method_28_code 95 = .ok (.iload_n 1, 1) := by decide +kernel
theorem dX3_literal_96 : decode prog_13_method_28_code 96 = .ok (.iload_n 2, 1) := by decide +kernel
theorem dX3_literal_97 : decode prog_13_method_28_code 97 = .ok (.invokevirtual 223, 3) := by decide +kernel
theorem dX3_literal_100 : decode prog_13_method_28_code 100 = .ok (.iload_n 1, 1) := by decide +kernel
theorem dX3_literal_101 : decode prog_13_method_28_code 101 = .ok (.iload_n 2, 1) := by decide +kernel
theorem dX3_literal_102 : decode prog_13_method_28_code 102 = .ok (.invokevirtual 231, 3) := by decide +kernel
theorem dX3_literal_105 : decode prog_13_method_28_code 105 = .ok (.goto 39, 3) := by decide +kernel
theorem dX3_literal_108 : decode prog_13_method_28_code 108 = .ok (.iload 4, 2) := by decide +kernel
theorem dX3_literal_110 : decode prog_13_method_28_code 110 = .ok (.ifCond .eq 27, 3) := by decide +kernel
theorem dX3_literal_113 : decode prog_13_method_28_code 113 = .ok (.aload_n 0, 1) := by decide +kernel
theorem dX3_literal_114 : decode prog_13_method_28_code 114 = .ok (.aload_n 0, 1) := by decide +kernel
theorem dX3_literal_115 : decode prog_13_method_28_code 115 = .ok (.getfield 50, 3) := by decide +kernel
theorem dX3_literal_118 : decode prog_13_method_28_code 118 = .ok (.aload_n 0, 1) := by decide +kernel
theorem dX3_literal_119 : decode prog_13_method_28_code 119 = .ok (.getfield 75, 3) := by decide +kernel
theorem dX3_literal_122 : decode prog_13_method_28_code 122 = .ok (.iload_n 1, 1) := by decide +kernel
theorem dX3_literal_123 : decode prog_13_method_28_code 123 = .ok (.isub, 1) := by decide +kernel
theorem dX3_literal_124 : decode prog_13_method_28_code 124 = .ok (.iload_n 1, 1) := by decide +kernel
theorem dX3_literal_125 : decode prog_13_method_28_code 125 = .ok (.iload_n 2, 1) := by decide +kernel
theorem dX3_literal_126 : decode prog_13_method_28_code 126 = .ok (.invokevirtual 227, 3) := by decide +kernel
theorem dX3_literal_129 : decode prog_13_method_28_code 129 = .ok (.iload_n 1, 1) := by decide +kernel
theorem dX3_literal_130 : decode prog_13_method_28_code 130 = .ok (.iload_n 2, 1) := by decide +kernel
theorem dX3_literal_131 : decode prog_13_method_28_code 131 = .ok (.invokevirtual 231, 3) := by decide +kernel
theorem dX3_literal_134 : decode prog_13_method_28_code 134 = .ok (.goto 10, 3) := by decide +kernel
theorem dX3_literal_137 : decode prog_13_method_28_code 137 = .ok (.aload_n 0, 1) := by decide +kernel
theorem dX3_literal_138 : decode prog_13_method_28_code 138 = .ok (.iconst 3, 1) := by decide +kernel
theorem dX3_literal_139 : decode prog_13_method_28_code 139 = .ok (.iload_n 2, 1) := by decide +kernel
theorem dX3_literal_140 : decode prog_13_method_28_code 140 = .ok (.invokevirtual 109, 3) := by decide +kernel
theorem dX3_literal_143 : decode prog_13_method_28_code 143 = .ok (.athrow, 1) := by decide +kernel
theorem dX3_literal_144 : decode prog_13_method_28_code 144 = .ok (.return_, 1) := by decide +kernel
theorem dX3_isInt_0 : decode prog_13_method_12_code 0 = .ok (.aload_n 0, 1) := by decide +kernel
theorem dX3_isInt_1 : decode prog_13_method_12_code 1 = .ok (.getfield 17, 3) := by decide +kernel
theorem dX3_isInt_4 : decode prog_13_method_12_code 4 = .ok (.iload_n 1, 1) := by decide +kernel
theorem dX3_isInt_5 : decode prog_13_method_12_code 5 = .ok (.aaload, 1) := by decide +kernel
theorem dX3_isInt_6 : decode prog_13_method_12_code 6 = .ok (.ifnonnull 7, 3) := by decide +kernel
theorem dX3_isInt_9 : decode prog_13_method_12_code 9 = .ok (.iconst 1, 1) := by decide +kernel
theorem dX3_isInt_10 : decode prog_13_method_12_code 10 = .ok (.goto 4, 3) := by decide +kernel
theorem dX3_isInt_13 : decode prog_13_method_12_code 13 = .ok (.iconst 0, 1) := by decide +kernel
theorem dX3_isInt_14 : decode prog_13_method_12_code 14 = .ok (.ireturn, 1) := by decide +kernel
theorem dX3_each_0 : decode prog_13_method_26_code 0 = .ok (.aload_n 0, 1) := by decide +kernel
theorem dX3_each_1 : decode prog_13_method_26_code 1 = .ok (.getfield 75, 3) := by decide +kernel
theorem dX3_each_4 : decode prog_13_method_26_code 4 = .ok (.iconst 1, 1) := by decide +kernel
theorem dX3_each_5 : decode prog_13_method_26_code 5 = .ok (.isub, 1) := by decide +kernel
theorem dX3_each_6 : decode prog_13_method_26_code 6 = .ok (.istore_n 3, 1) := by decide +kernel
theorem dX3_each_7 : decode prog_13_method_26_code 7 = .ok (.aload_n 0, 1) := by decide +kernel
theorem dX3_each_8 : decode prog_13_method_26_code 8 = .ok (.getfield 17, 3) := by decide +kernel
