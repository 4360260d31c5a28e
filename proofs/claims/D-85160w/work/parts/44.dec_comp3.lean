/-! decode rows -/
theorem dX3_each_11 : decode prog_13_method_26_code 11 = .ok (.iload_n 3, 1) := by decide +kernel
theorem dX3_each_12 : decode prog_13_method_26_code 12 = .ok (.aaload, 1) := by decide +kernel
theorem dX3_each_13 : decode prog_13_method_26_code 13 = .ok (.astore 4, 2) := by decide +kernel
theorem dX3_each_15 : decode prog_13_method_26_code 15 = .ok (.aload 4, 2) := by decide +kernel
theorem dX3_each_17 : decode prog_13_method_26_code 17 = .ok (.ifnonnull 10, 3) := by decide +kernel
theorem dX3_each_20 : decode prog_13_method_26_code 20 = .ok (.aload_n 0, 1) := by decide +kernel
theorem dX3_each_21 : decode prog_13_method_26_code 21 = .ok (.iconst 3, 1) := by decide +kernel
theorem dX3_each_22 : decode prog_13_method_26_code 22 = .ok (.iload_n 2, 1) := by decide +kernel
theorem dX3_each_23 : decode prog_13_method_26_code 23 = .ok (.invokevirtual 109, 3) := by decide +kernel
theorem dX3_each_26 : decode prog_13_method_26_code 26 = .ok (.athrow, 1) := by decide +kernel
theorem dX3_each_27 : decode prog_13_method_26_code 27 = .ok (.aload 4, 2) := by decide +kernel
theorem dX3_each_29 : decode prog_13_method_26_code 29 = .ok (.invokevirtual 161, 3) := by decide +kernel
theorem dX3_each_32 : decode prog_13_method_26_code 32 = .ok (.istore 5, 2) := by decide +kernel
theorem dX3_each_34 : decode prog_13_method_26_code 34 = .ok (.iconst 1, 1) := by decide +kernel
theorem dX3_each_35 : decode prog_13_method_26_code 35 = .ok (.istore 6, 2) := by decide +kernel
theorem dX3_each_37 : decode prog_13_method_26_code 37 = .ok (.iconst 1, 1) := by decide +kernel
theorem dX3_each_38 : decode prog_13_method_26_code 38 = .ok (.istore 7, 2) := by decide +kernel
theorem dX3_each_40 : decode prog_13_method_26_code 40 = .ok (.iconst 0, 1) := by decide +kernel
theorem dX3_each_41 : decode prog_13_method_26_code 41 = .ok (.istore 8, 2) := by decide +kernel
theorem dX3_each_43 : decode prog_13_method_26_code 43 = .ok (.iload 8, 2) := by decide +kernel
theorem dX3_each_45 : decode prog_13_method_26_code 45 = .ok (.iload 5, 2) := by decide +kernel
theorem dX3_each_47 : decode prog_13_method_26_code 47 = .ok (.if_icmp .ge 81, 3) := by decide +kernel
theorem dX3_each_50 : decode prog_13_method_26_code 50 = .ok (.aload_n 0, 1) := by decide +kernel
theorem dX3_each_51 : decode prog_13_method_26_code 51 = .ok (.iload_n 3, 1) := by decide +kernel
theorem dX3_each_52 : decode prog_13_method_26_code 52 = .ok (.iload 8, 2) := by decide +kernel
theorem dX3_each_54 : decode prog_13_method_26_code 54 = .ok (.invokevirtual 198, 3) := by decide +kernel
theorem dX3_each_57 : decode prog_13_method_26_code 57 = .ok (.aload_n 0, 1) := by decide +kernel
theorem dX3_each_58 : decode prog_13_method_26_code 58 = .ok (.iload_n 2, 1) := by decide +kernel
theorem dX3_each_59 : decode prog_13_method_26_code 59 = .ok (.invokevirtual 201, 3) := by decide +kernel
theorem dX3_each_62 : decode prog_13_method_26_code 62 = .ok (.aload_n 0, 1) := by decide +kernel
theorem dX3_each_63 : decode prog_13_method_26_code 63 = .ok (.aload_n 1, 1) := by decide +kernel
theorem dX3_each_64 : decode prog_13_method_26_code 64 = .ok (.iload_n 2, 1) := by decide +kernel
theorem dX3_each_65 : decode prog_13_method_26_code 65 = .ok (.invokevirtual 204, 3) := by decide +kernel
theorem dX3_each_68 : decode prog_13_method_26_code 68 = .ok (.iload 6, 2) := by decide +kernel
theorem dX3_each_70 : decode prog_13_method_26_code 70 = .ok (.ifCond .eq 20, 3) := by decide +kernel
theorem dX3_each_73 : decode prog_13_method_26_code 73 = .ok (.aload_n 0, 1) := by decide +kernel
theorem dX3_each_74 : decode prog_13_method_26_code 74 = .ok (.aload_n 0, 1) := by decide +kernel
theorem dX3_each_75 : decode prog_13_method_26_code 75 = .ok (.getfield 75, 3) := by decide +kernel
theorem dX3_each_78 : decode prog_13_method_26_code 78 = .ok (.iconst 1, 1) := by decide +kernel
theorem dX3_each_79 : decode prog_13_method_26_code 79 = .ok (.isub, 1) := by decide +kernel
theorem dX3_each_80 : decode prog_13_method_26_code 80 = .ok (.invokevirtual 208, 3) := by decide +kernel
theorem dX3_each_83 : decode prog_13_method_26_code 83 = .ok (.ifCond .eq 7, 3) := by decide +kernel
theorem dX3_each_86 : decode prog_13_method_26_code 86 = .ok (.iconst 1, 1) := by decide +kernel
theorem dX3_each_87 : decode prog_13_method_26_code 87 = .ok (.goto 4, 3) := by decide +kernel
theorem dX3_each_90 : decode prog_13_method_26_code 90 = .ok (.iconst 0, 1) := by decide +kernel
theorem dX3_each_91 : decode prog_13_method_26_code 91 = .ok (.istore 6, 2) := by decide +kernel
theorem dX3_each_93 : decode prog_13_method_26_code 93 = .ok (.iload 7, 2) := by decide +kernel
theorem dX3_each_95 : decode prog_13_method_26_code 95 = .ok (.ifCond .eq 24, 3) := by decide +kernel
theorem dX3_each_98 : decode prog_13_method_26_code 98 = .ok (.aload_n 0, 1) := by decide +kernel
theorem dX3_each_99 : decode prog_13_method_26_code 99 = .ok (.getfield 17, 3) := by decide +kernel
theorem dX3_each_102 : decode prog_13_method_26_code 102 = .ok (.aload_n 0, 1) := by decide +kernel
theorem dX3_each_103 : decode prog_13_method_26_code 103 = .ok (.getfield 75, 3) := by decide +kernel
theorem dX3_each_106 : decode prog_13_method_26_code 106 = .ok (.iconst 1, 1) := by decide +kernel
theorem dX3_each_107 : decode prog_13_method_26_code 107 = .ok (.isub, 1) := by decide +kernel
theorem dX3_each_108 : decode prog_13_method_26_code 108 = .ok (.aaload, 1) := by decide +kernel
theorem dX3_each_109 : decode prog_13_method_26_code 109 = .ok (.instanceof 132, 3) := by decide +kernel
theorem dX3_each_112 : decode prog_13_method_26_code 112 = .ok (.ifCond .eq 7, 3) := by decide +kernel
theorem dX3_each_115 : decode prog_13_method_26_code 115 = .ok (.iconst 1, 1) := by decide +kernel
theorem dX3_each_116 : decode prog_13_method_26_code 116 = .ok (.goto 4, 3) := by decide +kernel
theorem dX3_each_119 : decode prog_13_method_26_code 119 = .ok (.iconst 0, 1) := by decide +kernel
theorem dX3_each_120 : decode prog_13_method_26_code 120 = .ok (.istore 7, 2) := by decide +kernel
theorem dX3_each_122 : decode prog_13_method_26_code 122 = .ok (.iinc 8 1, 3) := by decide +kernel
theorem dX3_each_125 : decode prog_13_method_26_code 125 = .ok (.goto (-82), 3) := by decide +kernel
theorem dX3_each_128 : decode prog_13_method_26_code 128 = .ok (.aload 4, 2) := by decide +kernel
theorem dX3_each_130 : decode prog_13_method_26_code 130 = .ok (.instanceof 171, 3) := by decide +kernel
theorem dX3_each_133 : decode prog_13_method_26_code 133 = .ok (.ifCond .eq 21, 3) := by decide +kernel
theorem dX3_each_136 : decode prog_13_method_26_code 136 = .ok (.aload_n 0, 1) := by decide +kernel
theorem dX3_each_137 : decode prog_13_method_26_code 137 = .ok (.getfield 50, 3) := by decide +kernel
theorem dX3_each_140 : decode prog_13_method_26_code 140 = .ok (.iload_n 3, 1) := by decide +kernel
theorem dX3_each_141 : decode prog_13_method_26_code 141 = .ok (.iconst 1, 1) := by decide +kernel
theorem dX3_each_142 : decode prog_13_method_26_code 142 = .ok (.iadd, 1) := by decide +kernel
theorem dX3_each_143 : decode prog_13_method_26_code 143 = .ok (.iload 5, 2) := by decide +kernel
theorem dX3_each_145 : decode prog_13_method_26_code 145 = .ok (.iload_n 2, 1) := by decide +kernel
theorem dX3_each_146 : decode prog_13_method_26_code 146 = .ok (.invokevirtual 212, 3) := by decide +kernel
theorem dX3_each_149 : decode prog_13_method_26_code 149 = .ok (.astore 8, 2) := by decide +kernel
theorem dX3_each_151 : decode prog_13_method_26_code 151 = .ok (.goto 98, 3) := by decide +kernel
theorem dX3_each_154 : decode prog_13_method_26_code 154 = .ok (.iload 5, 2) := by decide +kernel
theorem dX3_each_156 : decode prog_13_method_26_code 156 = .ok (.ifCond .ne 40, 3) := by decide +kernel
theorem dX3_each_159 : decode prog_13_method_26_code 159 = .ok (.aload 4, 2) := by decide +kernel
theorem dX3_each_161 : decode prog_13_method_26_code 161 = .ok (.instanceof 132, 3) := by decide +kernel
theorem dX3_each_164 : decode prog_13_method_26_code 164 = .ok (.ifCond .eq 16, 3) := by decide +kernel
theorem dX3_each_167 : decode prog_13_method_26_code 167 = .ok (.new 132, 3) := by decide +kernel
theorem dX3_each_170 : decode prog_13_method_26_code 170 = .ok (.dup, 1) := by decide +kernel
theorem dX3_each_171 : decode prog_13_method_26_code 171 = .ok (.iconst 0, 1) := by decide +kernel
theorem dX3_each_172 : decode prog_13_method_26_code 172 = .ok (.newarray .int, 2) := by decide +kernel
theorem dX3_each_174 : decode prog_13_method_26_code 174 = .ok (.invokespecial 216, 3) := by decide +kernel
theorem dX3_each_177 : decode prog_13_method_26_code 177 = .ok (.goto 14, 3) := by decide +kernel
theorem dX3_each_180 : decode prog_13_method_26_code 180 = .ok (.new 134, 3) := by decide +kernel
theorem dX3_each_183 : decode prog_13_method_26_code 183 = .ok (.dup, 1) := by decide +kernel
theorem dX3_each_184 : decode prog_13_method_26_code 184 = .ok (.iconst 0, 1) := by decide +kernel
theorem dX3_each_185 : decode prog_13_method_26_code 185 = .ok (.anewarray 219, 3) := by decide +kernel
theorem dX3_each_188 : decode prog_13_method_26_code 188 = .ok (.invokespecial 220, 3) := by decide +kernel
theorem dX3_each_191 : decode prog_13_method_26_code 191 = .ok (.astore 8, 2) := by decide +kernel
theorem dX3_each_193 : decode prog_13_method_26_code 193 = .ok (.goto 56, 3) := by decide +kernel
theorem dX3_each_196 : decode prog_13_method_26_code 196 = .ok (.iload 6, 2) := by decide +kernel
theorem dX3_each_198 : decode prog_13_method_26_code 198 = .ok (.ifCond .eq 21, 3) := by decide +kernel
theorem dX3_each_201 : decode prog_13_method_26_code 201 = .ok (.aload_n 0, 1) := by decide +kernel
theorem dX3_each_202 : decode prog_13_method_26_code 202 = .ok (.getfield 50, 3) := by decide +kernel
theorem dX3_each_205 : decode prog_13_method_26_code 205 = .ok (.iload_n 3, 1) := by decide +kernel
theorem dX3_each_206 : decode prog_13_method_26_code 206 = .ok (.iconst 1, 1) := by decide +kernel
theorem dX3_each_207 : decode prog_13_method_26_code 207 = .ok (.iadd, 1) := by decide +kernel
theorem dX3_each_208 : decode prog_13_method_26_code 208 = .ok (.iload 5, 2) := by decide +kernel
theorem dX3_each_210 : decode prog_13_method_26_code 210 = .ok (.iload_n 2, 1) := by decide +kernel
theorem dX3_each_211 : decode prog_13_method_26_code 211 = .ok (.invokevirtual 223, 3) := by decide +kernel
theorem dX3_each_214 : decode prog_13_method_26_code 214 = .ok (.astore 8, 2) := by decide +kernel
theorem dX3_each_216 : decode prog_13_method_26_code 216 = .ok (.goto 33, 3) := by decide +kernel
theorem dX3_each_219 : decode prog_13_method_26_code 219 = .ok (.iload 7, 2) := by decide +kernel
theorem dX3_each_221 : decode prog_13_method_26_code 221 = .ok (.ifCond .eq 21, 3) := by decide +kernel
theorem dX3_each_224 : decode prog_13_method_26_code 224 = .ok (.aload_n 0, 1) := by decide +kernel
theorem dX3_each_225 : decode prog_13_method_26_code 225 = .ok (.getfield 50, 3) := by decide +kernel
theorem dX3_each_228 : decode prog_13_method_26_code 228 = .ok (.iload_n 3, 1) := by decide +kernel
theorem dX3_each_229 : decode prog_13_method_26_code 229 = .ok (.iconst 1, 1) := by decide +kernel
theorem dX3_each_230 : decode prog_13_method_26_code 230 = .ok (.iadd, 1) := by decide +kernel
theorem dX3_each_231 : decode prog_13_method_26_code 231 = .ok (.iload 5, 2) := by decide +kernel
theorem dX3_each_233 : decode prog_13_method_26_code 233 = .ok (.iload_n 2, 1) := by decide +kernel
theorem dX3_each_234 : decode prog_13_method_26_code 234 = .ok (.invokevirtual 227, 3) := by decide +kernel
theorem dX3_each_237 : decode prog_13_method_26_code 237 = .ok (.astore 8, 2) := by decide +kernel
theorem dX3_each_239 : decode prog_13_method_26_code 239 = .ok (.goto 10, 3) := by decide +kernel
theorem dX3_each_242 : decode prog_13_method_26_code 242 = .ok (.aload_n 0, 1) := by decide +kernel
theorem dX3_each_243 : decode prog_13_method_26_code 243 = .ok (.iconst 3, 1) := by decide +kernel
theorem dX3_each_244 : decode prog_13_method_26_code 244 = .ok (.iload_n 2, 1) := by decide +kernel
theorem dX3_each_245 : decode prog_13_method_26_code 245 = .ok (.invokevirtual 109, 3) := by decide +kernel
theorem dX3_each_248 : decode prog_13_method_26_code 248 = .ok (.athrow, 1) := by decide +kernel
theorem dX3_each_249 : decode prog_13_method_26_code 249 = .ok (.aload_n 0, 1) := by decide +kernel
theorem dX3_each_250 : decode prog_13_method_26_code 250 = .ok (.aload 8, 2) := by decide +kernel
theorem dX3_each_252 : decode prog_13_method_26_code 252 = .ok (.iload 5, 2) := by decide +kernel
theorem dX3_each_254 : decode prog_13_method_26_code 254 = .ok (.iconst 1, 1) := by decide +kernel
theorem dX3_each_255 : decode prog_13_method_26_code 255 = .ok (.iadd, 1) := by decide +kernel
theorem dX3_each_256 : decode prog_13_method_26_code 256 = .ok (.iload_n 2, 1) := by decide +kernel
theorem dX3_each_257 : decode prog_13_method_26_code 257 = .ok (.invokevirtual 231, 3) := by decide +kernel
theorem dX3_each_260 : decode prog_13_method_26_code 260 = .ok (.return_, 1) := by decide +kernel
theorem dX3_item_0 : decode prog_13_method_24_code 0 = .ok (.aload_n 0, 1) := by decide +kernel
theorem dX3_item_1 : decode prog_13_method_24_code 1 = .ok (.getfield 17, 3) := by decide +kernel
theorem dX3_item_4 : decode prog_13_method_24_code 4 = .ok (.iload_n 1, 1) := by decide +kernel
theorem dX3_item_5 : decode prog_13_method_24_code 5 = .ok (.aaload, 1) := by decide +kernel
theorem dX3_item_6 : decode prog_13_method_24_code 6 = .ok (.astore_n 3, 1) := by decide +kernel
theorem dX3_item_7 : decode prog_13_method_24_code 7 = .ok (.aload_n 3, 1) := by decide +kernel
theorem dX3_item_8 : decode prog_13_method_24_code 8 = .ok (.ifnonnull 11, 3) := by decide +kernel
theorem dX3_item_11 : decode prog_13_method_24_code 11 = .ok (.aload_n 0, 1) := by decide +kernel
theorem dX3_item_12 : decode prog_13_method_24_code 12 = .ok (.iload_n 2, 1) := by decide +kernel
theorem dX3_item_13 : decode prog_13_method_24_code 13 = .ok (.invokevirtual 129, 3) := by decide +kernel
theorem dX3_item_16 : decode prog_13_method_24_code 16 = .ok (.goto 69, 3) := by decide +kernel
theorem dX3_item_19 : decode prog_13_method_24_code 19 = .ok (.aload_n 3, 1) := by decide +kernel
theorem dX3_item_20 : decode prog_13_method_24_code 20 = .ok (.instanceof 132, 3) := by decide +kernel
theorem dX3_item_23 : decode prog_13_method_24_code 23 = .ok (.ifCond .eq 23, 3) := by decide +kernel
theorem dX3_item_26 : decode prog_13_method_24_code 26 = .ok (.aload_n 3, 1) := by decide +kernel
theorem dX3_item_27 : decode prog_13_method_24_code 27 = .ok (.checkcast 132, 3) := by decide +kernel
theorem dX3_item_30 : decode prog_13_method_24_code 30 = .ok (.astore 4, 2) := by decide +kernel
theorem dX3_item_32 : decode prog_13_method_24_code 32 = .ok (.aload_n 0, 1) := by decide +kernel
theorem dX3_item_33 : decode prog_13_method_24_code 33 = .ok (.aload 4, 2) := by decide +kernel
theorem dX3_item_35 : decode prog_13_method_24_code 35 = .ok (.getfield 164, 3) := by decide +kernel
theorem dX3_item_38 : decode prog_13_method_24_code 38 = .ok (.iload_n 2, 1) := by decide +kernel
theorem dX3_item_39 : decode prog_13_method_24_code 39 = .ok (.iaload, 1) := by decide +kernel
theorem dX3_item_40 : decode prog_13_method_24_code 40 = .ok (.invokevirtual 129, 3) := by decide +kernel
theorem dX3_item_43 : decode prog_13_method_24_code 43 = .ok (.goto 42, 3) := by decide +kernel
theorem dX3_item_46 : decode prog_13_method_24_code 46 = .ok (.aload_n 3, 1) := by decide +kernel
theorem dX3_item_47 : decode prog_13_method_24_code 47 = .ok (.instanceof 134, 3) := by decide +kernel
theorem dX3_item_50 : decode prog_13_method_24_code 50 = .ok (.ifCond .eq 22, 3) := by decide +kernel
theorem dX3_item_53 : decode prog_13_method_24_code 53 = .ok (.aload_n 3, 1) := by decide +kernel
theorem dX3_item_54 : decode prog_13_method_24_code 54 = .ok (.checkcast 134, 3) := by decide +kernel
theorem dX3_item_57 : decode prog_13_method_24_code 57 = .ok (.astore 5, 2) := by decide +kernel
theorem dX3_item_59 : decode prog_13_method_24_code 59 = .ok (.aload_n 0, 1) := by decide +kernel
theorem dX3_item_60 : decode prog_13_method_24_code 60 = .ok (.aload 5, 2) := by decide +kernel
theorem dX3_item_62 : decode prog_13_method_24_code 62 = .ok (.iload_n 2, 1) := by decide +kernel
theorem dX3_item_63 : decode prog_13_method_24_code 63 = .ok (.invokevirtual 167, 3) := by decide +kernel
theorem dX3_item_66 : decode prog_13_method_24_code 66 = .ok (.invokevirtual 125, 3) := by decide +kernel
theorem dX3_item_69 : decode prog_13_method_24_code 69 = .ok (.goto 16, 3) := by decide +kernel
theorem dX3_item_72 : decode prog_13_method_24_code 72 = .ok (.aload_n 0, 1) := by decide +kernel
theorem dX3_item_73 : decode prog_13_method_24_code 73 = .ok (.aload_n 3, 1) := by decide +kernel
theorem dX3_item_74 : decode prog_13_method_24_code 74 = .ok (.checkcast 171, 3) := by decide +kernel
theorem dX3_item_77 : decode prog_13_method_24_code 77 = .ok (.getfield 173, 3) := by decide +kernel
theorem dX3_item_80 : decode prog_13_method_24_code 80 = .ok (.iload_n 2, 1) := by decide +kernel
theorem dX3_item_81 : decode prog_13_method_24_code 81 = .ok (.aaload, 1) := by decide +kernel
theorem dX3_item_82 : decode prog_13_method_24_code 82 = .ok (.invokevirtual 125, 3) := by decide +kernel
theorem dX3_item_85 : decode prog_13_method_24_code 85 = .ok (.return_, 1) := by decide +kernel
theorem dX3_asThing_0 : decode prog_13_method_16_code 0 = .ok (.aload_n 0, 1) := by decide +kernel
theorem dX3_asThing_1 : decode prog_13_method_16_code 1 = .ok (.getfield 17, 3) := by decide +kernel
theorem dX3_asThing_4 : decode prog_13_method_16_code 4 = .ok (.iload_n 1, 1) := by decide +kernel
theorem dX3_asThing_5 : decode prog_13_method_16_code 5 = .ok (.aaload, 1) := by decide +kernel
theorem dX3_asThing_6 : decode prog_13_method_16_code 6 = .ok (.ifnonnull 19, 3) := by decide +kernel
theorem dX3_asThing_9 : decode prog_13_method_16_code 9 = .ok (.new 113, 3) := by decide +kernel
theorem dX3_asThing_12 : decode prog_13_method_16_code 12 = .ok (.dup, 1) := by decide +kernel
theorem dX3_asThing_13 : decode prog_13_method_16_code 13 = .ok (.aload_n 0, 1) := by decide +kernel
theorem dX3_asThing_14 : decode prog_13_method_16_code 14 = .ok (.getfield 9, 3) := by decide +kernel
theorem dX3_asThing_17 : decode prog_13_method_16_code 17 = .ok (.iload_n 1, 1) := by decide +kernel
theorem dX3_asThing_18 : decode prog_13_method_16_code 18 = .ok (.iaload, 1) := by decide +kernel
theorem dX3_asThing_19 : decode prog_13_method_16_code 19 = .ok (.invokespecial 136, 3) := by decide +kernel
theorem dX3_asThing_22 : decode prog_13_method_16_code 22 = .ok (.goto 9, 3) := by decide +kernel
theorem dX3_asThing_25 : decode prog_13_method_16_code 25 = .ok (.aload_n 0, 1) := by decide +kernel
theorem dX3_asThing_26 : decode prog_13_method_16_code 26 = .ok (.getfield 17, 3) := by decide +kernel
theorem dX3_asThing_29 : decode prog_13_method_16_code 29 = .ok (.iload_n 1, 1) := by decide +kernel
theorem dX3_asThing_30 : decode prog_13_method_16_code 30 = .ok (.aaload, 1) := by decide +kernel
theorem dX3_asThing_31 : decode prog_13_method_16_code 31 = .ok (.areturn, 1) := by decide +kernel
theorem dX3_fold_0 : decode prog_13_method_27_code 0 = .ok (.aload_n 0, 1) := by decide +kernel
theorem dX3_fold_1 : decode prog_13_method_27_code 1 = .ok (.getfield 75, 3) := by decide +kernel
theorem dX3_fold_4 : decode prog_13_method_27_code 4 = .ok (.iconst 1, 1) := by decide +kernel
theorem dX3_fold_5 : decode prog_13_method_27_code 5 = .ok (.isub, 1) := by decide +kernel
theorem dX3_fold_6 : decode prog_13_method_27_code 6 = .ok (.istore_n 3, 1) := by decide +kernel
theorem dX3_fold_7 : decode prog_13_method_27_code 7 = .ok (.aload_n 0, 1) := by decide +kernel
theorem dX3_fold_8 : decode prog_13_method_27_code 8 = .ok (.getfield 17, 3) := by decide +kernel
theorem dX3_fold_11 : decode prog_13_method_27_code 11 = .ok (.iload_n 3, 1) := by decide +kernel
theorem dX3_fold_12 : decode prog_13_method_27_code 12 = .ok (.aaload, 1) := by decide +kernel
theorem dX3_fold_13 : decode prog_13_method_27_code 13 = .ok (.astore 4, 2) := by decide +kernel
theorem dX3_fold_15 : decode prog_13_method_27_code 15 = .ok (.aload 4, 2) := by decide +kernel
theorem dX3_fold_17 : decode prog_13_method_27_code 17 = .ok (.ifnonnull 10, 3) := by decide +kernel
theorem dX3_fold_20 : decode prog_13_method_27_code 20 = .ok (.aload_n 0, 1) := by decide +kernel
theorem dX3_fold_21 : decode prog_13_method_27_code 21 = .ok (.iconst 3, 1) := by decide +kernel
theorem dX3_fold_22 : decode prog_13_method_27_code 22 = .ok (.iload_n 2, 1) := by decide +kernel
theorem dX3_fold_23 : decode prog_13_method_27_code 23 = .ok (.invokevirtual 109, 3) := by decide +kernel
theorem dX3_fold_26 : decode prog_13_method_27_code 26 = .ok (.athrow, 1) := by decide +kernel
theorem dX3_fold_27 : decode prog_13_method_27_code 27 = .ok (.aload 4, 2) := by decide +kernel
theorem dX3_fold_29 : decode prog_13_method_27_code 29 = .ok (.invokevirtual 161, 3) := by decide +kernel
theorem dX3_fold_32 : decode prog_13_method_27_code 32 = .ok (.istore 5, 2) := by decide +kernel
theorem dX3_fold_34 : decode prog_13_method_27_code 34 = .ok (.aload_n 0, 1) := by decide +kernel
theorem dX3_fold_35 : decode prog_13_method_27_code 35 = .ok (.aload_n 0, 1) := by decide +kernel
theorem dX3_fold_36 : decode prog_13_method_27_code 36 = .ok (.getfield 9, 3) := by decide +kernel
theorem dX3_fold_39 : decode prog_13_method_27_code 39 = .ok (.iload_n 3, 1) := by decide +kernel
theorem dX3_fold_40 : decode prog_13_method_27_code 40 = .ok (.iconst 1, 1) := by decide +kernel
theorem dX3_fold_41 : decode prog_13_method_27_code 41 = .ok (.isub, 1) := by decide +kernel
theorem dX3_fold_42 : decode prog_13_method_27_code 42 = .ok (.iaload, 1) := by decide +kernel
theorem dX3_fold_43 : decode prog_13_method_27_code 43 = .ok (.invokevirtual 129, 3) := by decide +kernel
theorem dX3_fold_46 : decode prog_13_method_27_code 46 = .ok (.aload_n 0, 1) := by decide +kernel
theorem dX3_fold_47 : decode prog_13_method_27_code 47 = .ok (.getfield 17, 3) := by decide +kernel
theorem dX3_fold_50 : decode prog_13_method_27_code 50 = .ok (.aload_n 0, 1) := by decide +kernel
theorem dX3_fold_51 : decode prog_13_method_27_code 51 = .ok (.getfield 75, 3) := by decide +kernel
theorem dX3_fold_54 : decode prog_13_method_27_code 54 = .ok (.iconst 1, 1) := by decide +kernel
theorem dX3_fold_55 : decode prog_13_method_27_code 55 = .ok (.isub, 1) := by decide +kernel
theorem dX3_fold_56 : decode prog_13_method_27_code 56 = .ok (.aload_n 0, 1) := by decide +kernel
theorem dX3_fold_57 : decode prog_13_method_27_code 57 = .ok (.getfield 17, 3) := by decide +kernel
theorem dX3_fold_60 : decode prog_13_method_27_code 60 = .ok (.iload_n 3, 1) := by decide +kernel
theorem dX3_fold_61 : decode prog_13_method_27_code 61 = .ok (.iconst 1, 1) := by decide +kernel
theorem dX3_fold_62 : decode prog_13_method_27_code 62 = .ok (.isub, 1) := by decide +kernel
theorem dX3_fold_63 : decode prog_13_method_27_code 63 = .ok (.aaload, 1) := by decide +kernel
theorem dX3_fold_64 : decode prog_13_method_27_code 64 = .ok (.aastore, 1) := by decide +kernel
theorem dX3_fold_65 : decode prog_13_method_27_code 65 = .ok (.iconst 0, 1) := by decide +kernel
theorem dX3_fold_66 : decode prog_13_method_27_code 66 = .ok (.istore 6, 2) := by decide +kernel
theorem dX3_fold_68 : decode prog_13_method_27_code 68 = .ok (.iload 6, 2) := by decide +kernel
theorem dX3_fold_70 : decode prog_13_method_27_code 70 = .ok (.iload 5, 2) := by decide +kernel
theorem dX3_fold_72 : decode prog_13_method_27_code 72 = .ok (.if_icmp .ge 27, 3) := by decide +kernel
theorem dX3_fold_75 : decode prog_13_method_27_code 75 = .ok (.aload_n 0, 1) := by decide +kernel
theorem dX3_fold_76 : decode prog_13_method_27_code 76 = .ok (.iload_n 3, 1) := by decide +kernel
theorem dX3_fold_77 : decode prog_13_method_27_code 77 = .ok (.iload 6, 2) := by decide +kernel
theorem dX3_fold_79 : decode prog_13_method_27_code 79 = .ok (.invokevirtual 198, 3) := by decide +kernel
theorem dX3_fold_82 : decode prog_13_method_27_code 82 = .ok (.aload_n 0, 1) := by decide +kernel
theorem dX3_fold_83 : decode prog_13_method_27_code 83 = .ok (.iload_n 2, 1) := by decide +kernel
theorem dX3_fold_84 : decode prog_13_method_27_code 84 = .ok (.invokevirtual 201, 3) := by decide +kernel
theorem dX3_fold_87 : decode prog_13_method_27_code 87 = .ok (.aload_n 0, 1) := by decide +kernel
theorem dX3_fold_88 : decode prog_13_method_27_code 88 = .ok (.aload_n 1, 1) := by decide +kernel
theorem dX3_fold_89 : decode prog_13_method_27_code 89 = .ok (.iload_n 2, 1) := by decide +kernel
theorem dX3_fold_90 : decode prog_13_method_27_code 90 = .ok (.invokevirtual 204, 3) := by decide +kernel
theorem dX3_fold_93 : decode prog_13_method_27_code 93 = .ok (.iinc 6 1, 3) := by decide +kernel
theorem dX3_fold_96 : decode prog_13_method_27_code 96 = .ok (.goto (-28), 3) := by decide +kernel
theorem dX3_fold_99 : decode prog_13_method_27_code 99 = .ok (.aload_n 0, 1) := by decide +kernel
theorem dX3_fold_100 : decode prog_13_method_27_code 100 = .ok (.iload_n 3, 1) := by decide +kernel
theorem dX3_fold_101 : decode prog_13_method_27_code 101 = .ok (.iconst 1, 1) := by decide +kernel
theorem dX3_fold_102 : decode prog_13_method_27_code 102 = .ok (.isub, 1) := by decide +kernel
theorem dX3_fold_103 : decode prog_13_method_27_code 103 = .ok (.invokevirtual 235, 3) := by decide +kernel
theorem dX3_fold_106 : decode prog_13_method_27_code 106 = .ok (.return_, 1) := by decide +kernel
theorem dX3_down_0 : decode prog_13_method_9_code 0 = .ok (.aload_n 0, 1) := by decide +kernel
theorem dX3_down_1 : decode prog_13_method_9_code 1 = .ok (.getfield 9, 3) := by decide +kernel
theorem dX3_down_4 : decode prog_13_method_9_code 4 = .ok (.iload_n 1, 1) := by decide +kernel
theorem dX3_down_5 : decode prog_13_method_9_code 5 = .ok (.aload_n 0, 1) := by decide +kernel
theorem dX3_down_6 : decode prog_13_method_9_code 6 = .ok (.getfield 9, 3) := by decide +kernel
theorem dX3_down_9 : decode prog_13_method_9_code 9 = .ok (.aload_n 0, 1) := by decide +kernel
theorem dX3_down_10 : decode prog_13_method_9_code 10 = .ok (.getfield 75, 3) := by decide +kernel
theorem dX3_down_13 : decode prog_13_method_9_code 13 = .ok (.iconst 1, 1) := by decide +kernel
theorem dX3_down_14 : decode prog_13_method_9_code 14 = .ok (.isub, 1) := by decide +kernel
theorem dX3_down_15 : decode prog_13_method_9_code 15 = .ok (.iaload, 1) := by decide +kernel
theorem dX3_down_16 : decode prog_13_method_9_code 16 = .ok (.iastore, 1) := by decide +kernel
theorem dX3_down_17 : decode prog_13_method_9_code 17 = .ok (.aload_n 0, 1) := by decide +kernel
theorem dX3_down_18 : decode prog_13_method_9_code 18 = .ok (.getfield 17, 3) := by decide +kernel
theorem dX3_down_21 : decode prog_13_method_9_code 21 = .ok (.iload_n 1, 1) := by decide +kernel
theorem dX3_down_22 : decode prog_13_method_9_code 22 = .ok (.aload_n 0, 1) := by decide +kernel
theorem dX3_down_23 : decode prog_13_method_9_code 23 = .ok (.getfield 17, 3) := by decide +kernel
theorem dX3_down_26 : decode prog_13_method_9_code 26 = .ok (.aload_n 0, 1) := by decide +kernel
theorem dX3_down_27 : decode prog_13_method_9_code 27 = .ok (.getfield 75, 3) := by decide +kernel
theorem dX3_down_30 : decode prog_13_method_9_code 30 = .ok (.iconst 1, 1) := by decide +kernel
theorem dX3_down_31 : decode prog_13_method_9_code 31 = .ok (.isub, 1) := by decide +kernel
theorem dX3_down_32 : decode prog_13_method_9_code 32 = .ok (.aaload, 1) := by decide +kernel
theorem dX3_down_33 : decode prog_13_method_9_code 33 = .ok (.aastore, 1) := by decide +kernel
theorem dX3_down_34 : decode prog_13_method_9_code 34 = .ok (.aload_n 0, 1) := by decide +kernel
theorem dX3_down_35 : decode prog_13_method_9_code 35 = .ok (.iload_n 1, 1) := by decide +kernel
theorem dX3_down_36 : decode prog_13_method_9_code 36 = .ok (.iconst 1, 1) := by decide +kernel
theorem dX3_down_37 : decode prog_13_method_9_code 37 = .ok (.iadd, 1) := by decide +kernel
theorem dX3_down_38 : decode prog_13_method_9_code 38 = .ok (.putfield 75, 3) := by decide +kernel
theorem dX3_down_41 : decode prog_13_method_9_code 41 = .ok (.return_, 1) := by decide +kernel
theorem dX3_builtIn_0 : decode prog_13_method_32_code 0 = .ok (.iload_n 1, 1) := by decide +kernel
theorem dX3_builtIn_1 : decode prog_13_method_32_code 1 = .ok (.bipush 6, 2) := by decide +kernel
theorem dX3_builtIn_3 : decode prog_13_method_32_code 3 = .ok (.if_icmp .ge 16, 3) := by decide +kernel
theorem dX3_builtIn_6 : decode prog_13_method_32_code 6 = .ok (.aload_n 0, 1) := by decide +kernel
theorem dX3_builtIn_7 : decode prog_13_method_32_code 7 = .ok (.getfield 50, 3) := by decide +kernel
theorem dX3_builtIn_10 : decode prog_13_method_32_code 10 = .ok (.iload_n 1, 1) := by decide +kernel
theorem dX3_builtIn_11 : decode prog_13_method_32_code 11 = .ok (.iload_n 2, 1) := by decide +kernel
theorem dX3_builtIn_12 : decode prog_13_method_32_code 12 = .ok (.iload_n 3, 1) := by decide +kernel
theorem dX3_builtIn_13 : decode prog_13_method_32_code 13 = .ok (.invokevirtual 272, 3) := by decide +kernel
theorem dX3_builtIn_16 : decode prog_13_method_32_code 16 = .ok (.goto 12, 3) := by decide +kernel
theorem dX3_builtIn_19 : decode prog_13_method_32_code 19 = .ok (.aload_n 0, 1) := by decide +kernel
theorem dX3_builtIn_20 : decode prog_13_method_32_code 20 = .ok (.getfield 57, 3) := by decide +kernel
theorem dX3_builtIn_23 : decode prog_13_method_32_code 23 = .ok (.iload_n 1, 1) := by decide +kernel
theorem dX3_builtIn_24 : decode prog_13_method_32_code 24 = .ok (.iload_n 3, 1) := by decide +kernel
theorem dX3_builtIn_25 : decode prog_13_method_32_code 25 = .ok (.invokevirtual 276, 3) := by decide +kernel
theorem dX3_builtIn_28 : decode prog_13_method_32_code 28 = .ok (.return_, 1) := by decide +kernel
theorem dX3_asInt_0 : decode prog_13_method_13_code 0 = .ok (.aload_n 0, 1) := by decide +kernel
theorem dX3_asInt_1 : decode prog_13_method_13_code 1 = .ok (.getfield 17, 3) := by decide +kernel
theorem dX3_asInt_4 : decode prog_13_method_13_code 4 = .ok (.iload_n 1, 1) := by decide +kernel
theorem dX3_asInt_5 : decode prog_13_method_13_code 5 = .ok (.aaload, 1) := by decide +kernel
theorem dX3_asInt_6 : decode prog_13_method_13_code 6 = .ok (.ifnull 10, 3) := by decide +kernel
theorem dX3_asInt_9 : decode prog_13_method_13_code 9 = .ok (.aload_n 0, 1) := by decide +kernel
theorem dX3_asInt_10 : decode prog_13_method_13_code 10 = .ok (.iconst 3, 1) := by decide +kernel
theorem dX3_asInt_11 : decode prog_13_method_13_code 11 = .ok (.iload_n 2, 1) := by decide +kernel
theorem dX3_asInt_12 : decode prog_13_method_13_code 12 = .ok (.invokevirtual 109, 3) := by decide +kernel
theorem dX3_asInt_15 : decode prog_13_method_13_code 15 = .ok (.athrow, 1) := by decide +kernel
theorem dX3_asInt_16 : decode prog_13_method_13_code 16 = .ok (.aload_n 0, 1) := by decide +kernel
theorem dX3_asInt_17 : decode prog_13_method_13_code 17 = .ok (.getfield 9, 3) := by decide +kernel
theorem dX3_asInt_20 : decode prog_13_method_13_code 20 = .ok (.iload_n 1, 1) := by decide +kernel
theorem dX3_asInt_21 : decode prog_13_method_13_code 21 = .ok (.iaload, 1) := by decide +kernel
theorem dX3_asInt_22 : decode prog_13_method_13_code 22 = .ok (.ireturn, 1) := by decide +kernel
theorem dX3_asRow_0 : decode prog_13_method_14_code 0 = .ok (.aload_n 0, 1) := by decide +kernel
theorem dX3_asRow_1 : decode prog_13_method_14_code 1 = .ok (.getfield 17, 3) := by decide +kernel
theorem dX3_asRow_4 : decode prog_13_method_14_code 4 = .ok (.iload_n 1, 1) := by decide +kernel
theorem dX3_asRow_5 : decode prog_13_method_14_code 5 = .ok (.aaload, 1) := by decide +kernel
theorem dX3_asRow_6 : decode prog_13_method_14_code 6 = .ok (.astore 4, 2) := by decide +kernel
theorem dX3_asRow_8 : decode prog_13_method_14_code 8 = .ok (.aload 4, 2) := by decide +kernel
theorem dX3_asRow_10 : decode prog_13_method_14_code 10 = .ok (.instanceof 132, 3) := by decide +kernel
theorem dX3_asRow_13 : decode prog_13_method_14_code 13 = .ok (.ifCond .eq 11, 3) := by decide +kernel
theorem dX3_asRow_16 : decode prog_13_method_14_code 16 = .ok (.aload 4, 2) := by decide +kernel
theorem dX3_asRow_18 : decode prog_13_method_14_code 18 = .ok (.checkcast 132, 3) := by decide +kernel
theorem dX3_asRow_21 : decode prog_13_method_14_code 21 = .ok (.astore_n 3, 1) := by decide +kernel
theorem dX3_asRow_22 : decode prog_13_method_14_code 22 = .ok (.aload_n 3, 1) := by decide +kernel
theorem dX3_asRow_23 : decode prog_13_method_14_code 23 = .ok (.areturn, 1) := by decide +kernel
theorem dX3_asRow_24 : decode prog_13_method_14_code 24 = .ok (.aload_n 0, 1) := by decide +kernel
theorem dX3_asRow_25 : decode prog_13_method_14_code 25 = .ok (.iconst 3, 1) := by decide +kernel
theorem dX3_asRow_26 : decode prog_13_method_14_code 26 = .ok (.iload_n 2, 1) := by decide +kernel
theorem dX3_asRow_27 : decode prog_13_method_14_code 27 = .ok (.invokevirtual 109, 3) := by decide +kernel
theorem dX3_asRow_30 : decode prog_13_method_14_code 30 = .ok (.athrow, 1) := by decide +kernel
theorem dX3_asTable_0 : decode prog_13_method_15_code 0 = .ok (.aload_n 0, 1) := by decide +kernel
theorem dX3_asTable_1 : decode prog_13_method_15_code 1 = .ok (.getfield 17, 3) := by decide +kernel
theorem dX3_asTable_4 : decode prog_13_method_15_code 4 = .ok (.iload_n 1, 1) := by decide +kernel
theorem dX3_asTable_5 : decode prog_13_method_15_code 5 = .ok (.aaload, 1) := by decide +kernel
theorem dX3_asTable_6 : decode prog_13_method_15_code 6 = .ok (.astore 4, 2) := by decide +kernel
theorem dX3_asTable_8 : decode prog_13_method_15_code 8 = .ok (.aload 4, 2) := by decide +kernel
theorem dX3_asTable_10 : decode prog_13_method_15_code 10 = .ok (.instanceof 134, 3) := by decide +kernel
theorem dX3_asTable_13 : decode prog_13_method_15_code 13 = .ok (.ifCond .eq 11, 3) := by decide +kernel
theorem dX3_asTable_16 : decode prog_13_method_15_code 16 = .ok (.aload 4, 2) := by decide +kernel
theorem dX3_asTable_18 : decode prog_13_method_15_code 18 = .ok (.checkcast 134, 3) := by decide +kernel
theorem dX3_asTable_21 : decode prog_13_method_15_code 21 = .ok (.astore_n 3, 1) := by decide +kernel
theorem dX3_asTable_22 : decode prog_13_method_15_code 22 = .ok (.aload_n 3, 1) := by decide +kernel
theorem dX3_asTable_23 : decode prog_13_method_15_code 23 = .ok (.areturn, 1) := by decide +kernel
theorem dX3_asTable_24 : decode prog_13_method_15_code 24 = .ok (.aload_n 0, 1) := by decide +kernel
theorem dX3_asTable_25 : decode prog_13_method_15_code 25 = .ok (.iconst 3, 1) := by decide +kernel
theorem dX3_asTable_26 : decode prog_13_method_15_code 26 = .ok (.iload_n 2, 1) := by decide +kernel
theorem dX3_asTable_27 : decode prog_13_method_15_code 27 = .ok (.invokevirtual 109, 3) := by decide +kernel
theorem dX3_asTable_30 : decode prog_13_method_15_code 30 = .ok (.athrow, 1) := by decide +kernel
theorem dX3_put_0 : decode prog_13_method_18_code 0 = .ok (.aload_n 0, 1) := by decide +kernel
theorem dX3_put_1 : decode prog_13_method_18_code 1 = .ok (.dup, 1) := by decide +kernel
theorem dX3_put_2 : decode prog_13_method_18_code 2 = .ok (.getfield 75, 3) := by decide +kernel
theorem dX3_put_5 : decode prog_13_method_18_code 5 = .ok (.iconst 1, 1) := by decide +kernel
theorem dX3_put_6 : decode prog_13_method_18_code 6 = .ok (.isub, 1) := by decide +kernel
theorem dX3_put_7 : decode prog_13_method_18_code 7 = .ok (.putfield 75, 3) := by decide +kernel
theorem dX3_put_10 : decode prog_13_method_18_code 10 = .ok (.iload_n 1, 1) := by decide +kernel
theorem dX3_put_11 : decode prog_13_method_18_code 11 = .ok (.bipush 8, 2) := by decide +kernel
theorem dX3_put_13 : decode prog_13_method_18_code 13 = .ok (.if_icmp .ge 30, 3) := by decide +kernel
theorem dX3_put_16 : decode prog_13_method_18_code 16 = .ok (.aload_n 0, 1) := by decide +kernel
theorem dX3_put_17 : decode prog_13_method_18_code 17 = .ok (.getfield 34, 3) := by decide +kernel
theorem dX3_put_20 : decode prog_13_method_18_code 20 = .ok (.iload_n 1, 1) := by decide +kernel
theorem dX3_put_21 : decode prog_13_method_18_code 21 = .ok (.aload_n 0, 1) := by decide +kernel
theorem dX3_put_22 : decode prog_13_method_18_code 22 = .ok (.getfield 9, 3) := by decide +kernel
theorem dX3_put_25 : decode prog_13_method_18_code 25 = .ok (.aload_n 0, 1) := by decide +kernel
theorem dX3_put_26 : decode prog_13_method_18_code 26 = .ok (.getfield 75, 3) := by decide +kernel
theorem dX3_put_29 : decode prog_13_method_18_code 29 = .ok (.iaload, 1) := by decide +kernel
theorem dX3_put_30 : decode prog_13_method_18_code 30 = .ok (.aload_n 0, 1) := by decide +kernel
theorem dX3_put_31 : decode prog_13_method_18_code 31 = .ok (.getfield 17, 3) := by decide +kernel
theorem dX3_put_34 : decode prog_13_method_18_code 34 = .ok (.aload_n 0, 1) := by decide +kernel
theorem dX3_put_35 : decode prog_13_method_18_code 35 = .ok (.getfield 75, 3) := by decide +kernel
theorem dX3_put_38 : decode prog_13_method_18_code 38 = .ok (.aaload, 1) := by decide +kernel
theorem dX3_put_39 : decode prog_13_method_18_code 39 = .ok (.invokevirtual 143, 3) := by decide +kernel
theorem dX3_put_42 : decode prog_13_method_18_code 42 = .ok (.return_, 1) := by decide +kernel
theorem dX3_put_43 : decode prog_13_method_18_code 43 = .ok (.bipush 14, 2) := by decide +kernel
theorem dX3_put_45 : decode prog_13_method_18_code 45 = .ok (.aload_n 0, 1) := by decide +kernel
theorem dX3_put_46 : decode prog_13_method_18_code 46 = .ok (.getfield 79, 3) := by decide +kernel
theorem dX3_put_49 : decode prog_13_method_18_code 49 = .ok (.iconst 1, 1) := by decide +kernel
theorem dX3_put_50 : decode prog_13_method_18_code 50 = .ok (.isub, 1) := by decide +kernel
theorem dX3_put_51 : decode prog_13_method_18_code 51 = .ok (.imul, 1) := by decide +kernel
theorem dX3_put_52 : decode prog_13_method_18_code 52 = .ok (.iload_n 1, 1) := by decide +kernel
theorem dX3_put_53 : decode prog_13_method_18_code 53 = .ok (.iadd, 1) := by decide +kernel
theorem dX3_put_54 : decode prog_13_method_18_code 54 = .ok (.bipush 8, 2) := by decide +kernel
theorem dX3_put_56 : decode prog_13_method_18_code 56 = .ok (.isub, 1) := by decide +kernel
theorem dX3_put_57 : decode prog_13_method_18_code 57 = .ok (.istore_n 2, 1) := by decide +kernel
theorem dX3_put_58 : decode prog_13_method_18_code 58 = .ok (.aload_n 0, 1) := by decide +kernel
theorem dX3_put_59 : decode prog_13_method_18_code 59 = .ok (.getfield 21, 3) := by decide +kernel
theorem dX3_put_62 : decode prog_13_method_18_code 62 = .ok (.iload_n 2, 1) := by decide +kernel
theorem dX3_put_63 : decode prog_13_method_18_code 63 = .ok (.aload_n 0, 1) := by decide +kernel
theorem dX3_put_64 : decode prog_13_method_18_code 64 = .ok (.getfield 9, 3) := by decide +kernel
theorem dX3_put_67 : decode prog_13_method_18_code 67 = .ok (.aload_n 0, 1) := by decide +kernel
theorem dX3_put_68 : decode prog_13_method_18_code 68 = .ok (.getfield 75, 3) := by decide +kernel
theorem dX3_put_71 : decode prog_13_method_18_code 71 = .ok (.iaload, 1) := by decide +kernel
theorem dX3_put_72 : decode prog_13_method_18_code 72 = .ok (.iastore, 1) := by decide +kernel
theorem dX3_put_73 : decode prog_13_method_18_code 73 = .ok (.aload_n 0, 1) := by decide +kernel
theorem dX3_put_74 : decode prog_13_method_18_code 74 = .ok (.getfield 24, 3) := by decide +kernel
theorem dX3_put_77 : decode prog_13_method_18_code 77 = .ok (.iload_n 2, 1) := by decide +kernel
theorem dX3_put_78 : decode prog_13_method_18_code 78 = .ok (.aload_n 0, 1) := by decide +kernel
theorem dX3_put_79 : decode prog_13_method_18_code 79 = .ok (.getfield 17, 3) := by decide +kernel
theorem dX3_put_82 : decode prog_13_method_18_code 82 = .ok (.aload_n 0, 1) := by decide +kernel
theorem dX3_put_83 : decode prog_13_method_18_code 83 = .ok (.getfield 75, 3) := by decide +kernel
theorem dX3_put_86 : decode prog_13_method_18_code 86 = .ok (.aaload, 1) := by decide +kernel
theorem dX3_put_87 : decode prog_13_method_18_code 87 = .ok (.aastore, 1) := by decide +kernel
theorem dX3_put_88 : decode prog_13_method_18_code 88 = .ok (.aload_n 0, 1) := by decide +kernel
theorem dX3_put_89 : decode prog_13_method_18_code 89 = .ok (.getfield 27, 3) := by decide +kernel
theorem dX3_put_92 : decode prog_13_method_18_code 92 = .ok (.iload_n 2, 1) := by decide +kernel
theorem dX3_put_93 : decode prog_13_method_18_code 93 = .ok (.iconst 1, 1) := by decide +kernel
theorem dX3_put_94 : decode prog_13_method_18_code 94 = .ok (.bastore, 1) := by decide +kernel
theorem dX3_put_95 : decode prog_13_method_18_code 95 = .ok (.return_, 1) := by decide +kernel
theorem dX3_change_0 : decode prog_13_method_31_code 0 = .ok (.aload_n 1, 1) := by decide +kernel
theorem dX3_change_1 : decode prog_13_method_31_code 1 = .ok (.getfield 249, 3) := by decide +kernel
theorem dX3_change_4 : decode prog_13_method_31_code 4 = .ok (.ifnonnull 7, 3) := by decide +kernel
theorem dX3_change_7 : decode prog_13_method_31_code 7 = .ok (.iconst 2, 1) := by decide +kernel
theorem dX3_change_8 : decode prog_13_method_31_code 8 = .ok (.goto 4, 3) := by decide +kernel
theorem dX3_change_11 : decode prog_13_method_31_code 11 = .ok (.iconst 3, 1) := by decide +kernel
theorem dX3_change_12 : decode prog_13_method_31_code 12 = .ok (.istore_n 2, 1) := by decide +kernel
theorem dX3_change_13 : decode prog_13_method_31_code 13 = .ok (.aload_n 0, 1) := by decide +kernel
theorem dX3_change_14 : decode prog_13_method_31_code 14 = .ok (.getfield 75, 3) := by decide +kernel
theorem dX3_change_17 : decode prog_13_method_31_code 17 = .ok (.iload_n 2, 1) := by decide +kernel
theorem dX3_change_18 : decode prog_13_method_31_code 18 = .ok (.isub, 1) := by decide +kernel
theorem dX3_change_19 : decode prog_13_method_31_code 19 = .ok (.istore_n 3, 1) := by decide +kernel
theorem dX3_change_20 : decode prog_13_method_31_code 20 = .ok (.aload_n 0, 1) := by decide +kernel
theorem dX3_change_21 : decode prog_13_method_31_code 21 = .ok (.aload_n 1, 1) := by decide +kernel
theorem dX3_change_22 : decode prog_13_method_31_code 22 = .ok (.getfield 255, 3) := by decide +kernel
theorem dX3_change_25 : decode prog_13_method_31_code 25 = .ok (.aload_n 1, 1) := by decide +kernel
theorem dX3_change_26 : decode prog_13_method_31_code 26 = .ok (.getfield 257, 3) := by decide +kernel
theorem dX3_change_29 : decode prog_13_method_31_code 29 = .ok (.invokevirtual 260, 3) := by decide +kernel
theorem dX3_change_32 : decode prog_13_method_31_code 32 = .ok (.aload_n 0, 1) := by decide +kernel
theorem dX3_change_33 : decode prog_13_method_31_code 33 = .ok (.getfield 17, 3) := by decide +kernel
theorem dX3_change_36 : decode prog_13_method_31_code 36 = .ok (.aload_n 0, 1) := by decide +kernel
theorem dX3_change_37 : decode prog_13_method_31_code 37 = .ok (.getfield 75, 3) := by decide +kernel
theorem dX3_change_40 : decode prog_13_method_31_code 40 = .ok (.iconst 1, 1) := by decide +kernel
theorem dX3_change_41 : decode prog_13_method_31_code 41 = .ok (.isub, 1) := by decide +kernel
theorem dX3_change_42 : decode prog_13_method_31_code 42 = .ok (.aaload, 1) := by decide +kernel
theorem dX3_change_43 : decode prog_13_method_31_code 43 = .ok (.astore 4, 2) := by decide +kernel
theorem dX3_change_45 : decode prog_13_method_31_code 45 = .ok (.aload_n 0, 1) := by decide +kernel
theorem dX3_change_46 : decode prog_13_method_31_code 46 = .ok (.dup, 1) := by decide +kernel
theorem dX3_change_47 : decode prog_13_method_31_code 47 = .ok (.getfield 75, 3) := by decide +kernel
theorem dX3_change_50 : decode prog_13_method_31_code 50 = .ok (.iconst 1, 1) := by decide +kernel
theorem dX3_change_51 : decode prog_13_method_31_code 51 = .ok (.isub, 1) := by decide +kernel
theorem dX3_change_52 : decode prog_13_method_31_code 52 = .ok (.putfield 75, 3) := by decide +kernel
theorem dX3_change_55 : decode prog_13_method_31_code 55 = .ok (.aload_n 1, 1) := by decide +kernel
theorem dX3_change_56 : decode prog_13_method_31_code 56 = .ok (.getfield 263, 3) := by decide +kernel
theorem dX3_change_59 : decode prog_13_method_31_code 59 = .ok (.istore 5, 2) := by decide +kernel
theorem dX3_change_61 : decode prog_13_method_31_code 61 = .ok (.aload_n 0, 1) := by decide +kernel
theorem dX3_change_62 : decode prog_13_method_31_code 62 = .ok (.iload_n 3, 1) := by decide +kernel
theorem dX3_change_63 : decode prog_13_method_31_code 63 = .ok (.invokevirtual 208, 3) := by decide +kernel
theorem dX3_change_66 : decode prog_13_method_31_code 66 = .ok (.ifCond .eq 22, 3) := by decide +kernel
theorem dX3_change_69 : decode prog_13_method_31_code 69 = .ok (.iload_n 2, 1) := by decide +kernel
theorem dX3_change_70 : decode prog_13_method_31_code 70 = .ok (.iconst 2, 1) := by decide +kernel
theorem dX3_change_71 : decode prog_13_method_31_code 71 = .ok (.if_icmp .eq 13, 3) := by decide +kernel
theorem dX3_change_74 : decode prog_13_method_31_code 74 = .ok (.aload_n 0, 1) := by decide +kernel
theorem dX3_change_75 : decode prog_13_method_31_code 75 = .ok (.iload_n 3, 1) := by decide +kernel
theorem dX3_change_76 : decode prog_13_method_31_code 76 = .ok (.iconst 1, 1) := by decide +kernel
theorem dX3_change_77 : decode prog_13_method_31_code 77 = .ok (.iadd, 1) := by decide +kernel
theorem dX3_change_78 : decode prog_13_method_31_code 78 = .ok (.invokevirtual 208, 3) := by decide +kernel
theorem dX3_change_81 : decode prog_13_method_31_code 81 = .ok (.ifCond .eq 7, 3) := by decide +kernel
theorem dX3_change_84 : decode prog_13_method_31_code 84 = .ok (.iconst 1, 1) := by decide +kernel
theorem dX3_change_85 : decode prog_13_method_31_code 85 = .ok (.goto 4, 3) := by decide +kernel
theorem dX3_change_88 : decode prog_13_method_31_code 88 = .ok (.iconst 0, 1) := by decide +kernel
theorem dX3_change_89 : decode prog_13_method_31_code 89 = .ok (.istore 6, 2) := by decide +kernel
theorem dX3_change_91 : decode prog_13_method_31_code 91 = .ok (.iload_n 2, 1) := by decide +kernel
theorem dX3_change_92 : decode prog_13_method_31_code 92 = .ok (.iconst 3, 1) := by decide +kernel
theorem dX3_change_93 : decode prog_13_method_31_code 93 = .ok (.if_icmp .ne 29, 3) := by decide +kernel
theorem dX3_change_96 : decode prog_13_method_31_code 96 = .ok (.aload 4, 2) := by decide +kernel
theorem dX3_change_98 : decode prog_13_method_31_code 98 = .ok (.instanceof 134, 3) := by decide +kernel
theorem dX3_change_101 : decode prog_13_method_31_code 101 = .ok (.ifCond .eq 17, 3) := by decide +kernel
theorem dX3_change_104 : decode prog_13_method_31_code 104 = .ok (.aload_n 0, 1) := by decide +kernel
theorem dX3_change_105 : decode prog_13_method_31_code 105 = .ok (.iload_n 3, 1) := by decide +kernel
theorem dX3_change_106 : decode prog_13_method_31_code 106 = .ok (.iconst 2, 1) := by decide +kernel
theorem dX3_change_107 : decode prog_13_method_31_code 107 = .ok (.iadd, 1) := by decide +kernel
theorem dX3_change_108 : decode prog_13_method_31_code 108 = .ok (.invokevirtual 208, 3) := by decide +kernel
theorem dX3_change_111 : decode prog_13_method_31_code 111 = .ok (.ifCond .eq 7, 3) := by decide +kernel
theorem dX3_change_114 : decode prog_13_method_31_code 114 = .ok (.iconst 1, 1) := by decide +kernel
theorem dX3_change_115 : decode prog_13_method_31_code 115 = .ok (.goto 66, 3) := by decide +kernel
theorem dX3_change_118 : decode prog_13_method_31_code 118 = .ok (.iconst 0, 1) := by decide +kernel
theorem dX3_change_119 : decode prog_13_method_31_code 119 = .ok (.goto 62, 3) := by decide +kernel
theorem dX3_change_122 : decode prog_13_method_31_code 122 = .ok (.aload 4, 2) := by decide +kernel
theorem dX3_change_124 : decode prog_13_method_31_code 124 = .ok (.instanceof 132, 3) := by decide +kernel
theorem dX3_change_127 : decode prog_13_method_31_code 127 = .ok (.ifCond .eq 16, 3) := by decide +kernel
theorem dX3_change_130 : decode prog_13_method_31_code 130 = .ok (.aload_n 0, 1) := by decide +kernel
theorem dX3_change_131 : decode prog_13_method_31_code 131 = .ok (.aload_n 0, 1) := by decide +kernel
theorem dX3_change_132 : decode prog_13_method_31_code 132 = .ok (.getfield 75, 3) := by decide +kernel
theorem dX3_change_135 : decode prog_13_method_31_code 135 = .ok (.iconst 1, 1) := by decide +kernel
theorem dX3_change_136 : decode prog_13_method_31_code 136 = .ok (.isub, 1) := by decide +kernel
theorem dX3_change_137 : decode prog_13_method_31_code 137 = .ok (.invokevirtual 208, 3) := by decide +kernel
theorem dX3_change_140 : decode prog_13_method_31_code 140 = .ok (.ifCond .ne 36, 3) := by decide +kernel
theorem dX3_change_143 : decode prog_13_method_31_code 143 = .ok (.aload 4, 2) := by decide +kernel
theorem dX3_change_145 : decode prog_13_method_31_code 145 = .ok (.instanceof 134, 3) := by decide +kernel
theorem dX3_change_148 : decode prog_13_method_31_code 148 = .ok (.ifCond .eq 20, 3) := by decide +kernel
theorem dX3_change_151 : decode prog_13_method_31_code 151 = .ok (.aload_n 0, 1) := by decide +kernel
theorem dX3_change_152 : decode prog_13_method_31_code 152 = .ok (.getfield 17, 3) := by decide +kernel
theorem dX3_change_155 : decode prog_13_method_31_code 155 = .ok (.aload_n 0, 1) := by decide +kernel
theorem dX3_change_156 : decode prog_13_method_31_code 156 = .ok (.getfield 75, 3) := by decide +kernel
theorem dX3_change_159 : decode prog_13_method_31_code 159 = .ok (.iconst 1, 1) := by decide +kernel
theorem dX3_change_160 : decode prog_13_method_31_code 160 = .ok (.isub, 1) := by decide +kernel
theorem dX3_change_161 : decode prog_13_method_31_code 161 = .ok (.aaload, 1) := by decide +kernel
theorem dX3_change_162 : decode prog_13_method_31_code 162 = .ok (.instanceof 132, 3) := by decide +kernel
theorem dX3_change_165 : decode prog_13_method_31_code 165 = .ok (.ifCond .ne 11, 3) := by decide +kernel
theorem dX3_change_168 : decode prog_13_method_31_code 168 = .ok (.aload 4, 2) := by decide +kernel
theorem dX3_change_170 : decode prog_13_method_31_code 170 = .ok (.instanceof 171, 3) := by decide +kernel
theorem dX3_change_173 : decode prog_13_method_31_code 173 = .ok (.ifCond .eq 7, 3) := by decide +kernel
theorem dX3_change_176 : decode prog_13_method_31_code 176 = .ok (.iconst 1, 1) := by decide +kernel
theorem dX3_change_177 : decode prog_13_method_31_code 177 = .ok (.goto 4, 3) := by decide +kernel
theorem dX3_change_180 : decode prog_13_method_31_code 180 = .ok (.iconst 0, 1) := by decide +kernel
theorem dX3_change_181 : decode prog_13_method_31_code 181 = .ok (.istore 7, 2) := by decide +kernel
theorem dX3_change_183 : decode prog_13_method_31_code 183 = .ok (.iload 6, 2) := by decide +kernel
theorem dX3_change_185 : decode prog_13_method_31_code 185 = .ok (.ifCond .eq 8, 3) := by decide +kernel
theorem dX3_change_188 : decode prog_13_method_31_code 188 = .ok (.iload 7, 2) := by decide +kernel
theorem dX3_change_190 : decode prog_13_method_31_code 190 = .ok (.ifCond .ne 11, 3) := by decide +kernel
theorem dX3_change_193 : decode prog_13_method_31_code 193 = .ok (.aload_n 0, 1) := by decide +kernel
theorem dX3_change_194 : decode prog_13_method_31_code 194 = .ok (.iconst 3, 1) := by decide +kernel
theorem dX3_change_195 : decode prog_13_method_31_code 195 = .ok (.iload 5, 2) := by decide +kernel
theorem dX3_change_197 : decode prog_13_method_31_code 197 = .ok (.invokevirtual 109, 3) := by decide +kernel
theorem dX3_change_200 : decode prog_13_method_31_code 200 = .ok (.athrow, 1) := by decide +kernel
theorem dX3_change_201 : decode prog_13_method_31_code 201 = .ok (.aload_n 0, 1) := by decide +kernel
theorem dX3_change_202 : decode prog_13_method_31_code 202 = .ok (.getfield 50, 3) := by decide +kernel
theorem dX3_change_205 : decode prog_13_method_31_code 205 = .ok (.aload 4, 2) := by decide +kernel
theorem dX3_change_207 : decode prog_13_method_31_code 207 = .ok (.aload_n 0, 1) := by decide +kernel
theorem dX3_change_208 : decode prog_13_method_31_code 208 = .ok (.getfield 9, 3) := by decide +kernel
theorem dX3_change_211 : decode prog_13_method_31_code 211 = .ok (.iload_n 3, 1) := by decide +kernel
theorem dX3_change_212 : decode prog_13_method_31_code 212 = .ok (.iaload, 1) := by decide +kernel
theorem dX3_change_213 : decode prog_13_method_31_code 213 = .ok (.aload_n 0, 1) := by decide +kernel
theorem dX3_change_214 : decode prog_13_method_31_code 214 = .ok (.getfield 75, 3) := by decide +kernel
theorem dX3_change_217 : decode prog_13_method_31_code 217 = .ok (.iconst 1, 1) := by decide +kernel
theorem dX3_change_218 : decode prog_13_method_31_code 218 = .ok (.isub, 1) := by decide +kernel
theorem dX3_change_219 : decode prog_13_method_31_code 219 = .ok (.iload_n 2, 1) := by decide +kernel
theorem dX3_change_220 : decode prog_13_method_31_code 220 = .ok (.iconst 3, 1) := by decide +kernel
theorem dX3_change_221 : decode prog_13_method_31_code 221 = .ok (.if_icmp .ne 14, 3) := by decide +kernel
theorem dX3_change_224 : decode prog_13_method_31_code 224 = .ok (.aload_n 0, 1) := by decide +kernel
theorem dX3_change_225 : decode prog_13_method_31_code 225 = .ok (.getfield 9, 3) := by decide +kernel
theorem dX3_change_228 : decode prog_13_method_31_code 228 = .ok (.iload_n 3, 1) := by decide +kernel
theorem dX3_change_229 : decode prog_13_method_31_code 229 = .ok (.iconst 1, 1) := by decide +kernel
theorem dX3_change_230 : decode prog_13_method_31_code 230 = .ok (.iadd, 1) := by decide +kernel
theorem dX3_change_231 : decode prog_13_method_31_code 231 = .ok (.iaload, 1) := by decide +kernel
theorem dX3_change_232 : decode prog_13_method_31_code 232 = .ok (.goto 4, 3) := by decide +kernel
theorem dX3_change_235 : decode prog_13_method_31_code 235 = .ok (.iconst (-1), 1) := by decide +kernel
theorem dX3_change_236 : decode prog_13_method_31_code 236 = .ok (.aload_n 1, 1) := by decide +kernel
theorem dX3_change_237 : decode prog_13_method_31_code 237 = .ok (.invokevirtual 266, 3) := by decide +kernel
theorem dX3_change_240 : decode prog_13_method_31_code 240 = .ok (.astore 8, 2) := by decide +kernel
theorem dX3_change_242 : decode prog_13_method_31_code 242 = .ok (.goto 13, 3) := by decide +kernel
theorem dX3_change_245 : decode prog_13_method_31_code 245 = .ok (.astore 9, 2) := by decide +kernel
theorem dX3_change_247 : decode prog_13_method_31_code 247 = .ok (.aload_n 0, 1) := by decide +kernel
theorem dX3_change_248 : decode prog_13_method_31_code 248 = .ok (.iconst 5, 1) := by decide +kernel
theorem dX3_change_249 : decode prog_13_method_31_code 249 = .ok (.iload 5, 2) := by decide +kernel
theorem dX3_change_251 : decode prog_13_method_31_code 251 = .ok (.invokevirtual 109, 3) := by decide +kernel
theorem dX3_change_254 : decode prog_13_method_31_code 254 = .ok (.athrow, 1) := by decide +kernel
theorem dX3_change_255 : decode prog_13_method_31_code 255 = .ok (.aload_n 0, 1) := by decide +kernel
theorem dX3_change_256 : decode prog_13_method_31_code 256 = .ok (.aload 8, 2) := by decide +kernel
theorem dX3_change_258 : decode prog_13_method_31_code 258 = .ok (.iload_n 2, 1) := by decide +kernel
theorem dX3_change_259 : decode prog_13_method_31_code 259 = .ok (.iload 5, 2) := by decide +kernel
theorem dX3_change_261 : decode prog_13_method_31_code 261 = .ok (.invokevirtual 231, 3) := by decide +kernel
theorem dX3_change_264 : decode prog_13_method_31_code 264 = .ok (.aload_n 0, 1) := by decide +kernel
theorem dX3_change_265 : decode prog_13_method_31_code 265 = .ok (.aload_n 1, 1) := by decide +kernel
theorem dX3_change_266 : decode prog_13_method_31_code 266 = .ok (.getfield 255, 3) := by decide +kernel
theorem dX3_change_269 : decode prog_13_method_31_code 269 = .ok (.invokevirtual 270, 3) := by decide +kernel
theorem dX3_change_272 : decode prog_13_method_31_code 272 = .ok (.return_, 1) := by decide +kernel
theorem dX3_rounds_0 : decode prog_13_method_23_code 0 = .ok (.aload_n 0, 1) := by decide +kernel
theorem dX3_rounds_1 : decode prog_13_method_23_code 1 = .ok (.getfield 17, 3) := by decide +kernel
theorem dX3_rounds_4 : decode prog_13_method_23_code 4 = .ok (.aload_n 0, 1) := by decide +kernel
theorem dX3_rounds_5 : decode prog_13_method_23_code 5 = .ok (.getfield 75, 3) := by decide +kernel
theorem dX3_rounds_8 : decode prog_13_method_23_code 8 = .ok (.iconst 1, 1) := by decide +kernel
theorem dX3_rounds_9 : decode prog_13_method_23_code 9 = .ok (.isub, 1) := by decide +kernel
theorem dX3_rounds_10 : decode prog_13_method_23_code 10 = .ok (.aaload, 1) := by decide +kernel
theorem dX3_rounds_11 : decode prog_13_method_23_code 11 = .ok (.ifnull 18, 3) := by decide +kernel
theorem dX3_rounds_14 : decode prog_13_method_23_code 14 = .ok (.aload_n 0, 1) := by decide +kernel
theorem dX3_rounds_15 : decode prog_13_method_23_code 15 = .ok (.getfield 17, 3) := by decide +kernel
theorem dX3_rounds_18 : decode prog_13_method_23_code 18 = .ok (.aload_n 0, 1) := by decide +kernel
theorem dX3_rounds_19 : decode prog_13_method_23_code 19 = .ok (.getfield 75, 3) := by decide +kernel
theorem dX3_rounds_22 : decode prog_13_method_23_code 22 = .ok (.iconst 1, 1) := by decide +kernel
theorem dX3_rounds_23 : decode prog_13_method_23_code 23 = .ok (.isub, 1) := by decide +kernel
theorem dX3_rounds_24 : decode prog_13_method_23_code 24 = .ok (.aaload, 1) := by decide +kernel
theorem dX3_rounds_25 : decode prog_13_method_23_code 25 = .ok (.invokevirtual 161, 3) := by decide +kernel
theorem dX3_rounds_28 : decode prog_13_method_23_code 28 = .ok (.ireturn, 1) := by decide +kernel
theorem dX3_rounds_29 : decode prog_13_method_23_code 29 = .ok (.aload_n 0, 1) := by decide +kernel
theorem dX3_rounds_30 : decode prog_13_method_23_code 30 = .ok (.getfield 9, 3) := by decide +kernel
theorem dX3_rounds_33 : decode prog_13_method_23_code 33 = .ok (.aload_n 0, 1) := by decide +kernel
theorem dX3_rounds_34 : decode prog_13_method_23_code 34 = .ok (.getfield 75, 3) := by decide +kernel
theorem dX3_rounds_37 : decode prog_13_method_23_code 37 = .ok (.iconst 1, 1) := by decide +kernel
theorem dX3_rounds_38 : decode prog_13_method_23_code 38 = .ok (.isub, 1) := by decide +kernel
theorem dX3_rounds_39 : decode prog_13_method_23_code 39 = .ok (.iaload, 1) := by decide +kernel
theorem dX3_rounds_40 : decode prog_13_method_23_code 40 = .ok (.ifCond .ge 10, 3) := by decide +kernel
theorem dX3_rounds_43 : decode prog_13_method_23_code 43 = .ok (.aload_n 0, 1) := by decide +kernel
theorem dX3_rounds_44 : decode prog_13_method_23_code 44 = .ok (.iconst 1, 1) := by decide +kernel
theorem dX3_rounds_45 : decode prog_13_method_23_code 45 = .ok (.iload_n 1, 1) := by decide +kernel
theorem dX3_rounds_46 : decode prog_13_method_23_code 46 = .ok (.invokevirtual 109, 3) := by decide +kernel
theorem dX3_rounds_49 : decode prog_13_method_23_code 49 = .ok (.athrow, 1) := by decide +kernel
theorem dX3_rounds_50 : decode prog_13_method_23_code 50 = .ok (.aload_n 0, 1) := by decide +kernel
theorem dX3_rounds_51 : decode prog_13_method_23_code 51 = .ok (.getfield 9, 3) := by decide +kernel
theorem dX3_rounds_54 : decode prog_13_method_23_code 54 = .ok (.aload_n 0, 1) := by decide +kernel
theorem dX3_rounds_55 : decode prog_13_method_23_code 55 = .ok (.getfield 75, 3) := by decide +kernel
theorem dX3_rounds_58 : decode prog_13_method_23_code 58 = .ok (.iconst 1, 1) := by decide +kernel
theorem dX3_rounds_59 : decode prog_13_method_23_code 59 = .ok (.isub, 1) := by decide +kernel
theorem dX3_rounds_60 : decode prog_13_method_23_code 60 = .ok (.iaload, 1) := by decide +kernel
theorem dX3_rounds_61 : decode prog_13_method_23_code 61 = .ok (.ireturn, 1) := by decide +kernel
theorem dX3_drop_0 : decode prog_13_method_8_code 0 = .ok (.aload_n 0, 1) := by decide +kernel
theorem dX3_drop_1 : decode prog_13_method_8_code 1 = .ok (.dup, 1) := by decide +kernel
theorem dX3_drop_2 : decode prog_13_method_8_code 2 = .ok (.getfield 75, 3) := by decide +kernel
theorem dX3_drop_5 : decode prog_13_method_8_code 5 = .ok (.iconst 1, 1) := by decide +kernel
theorem dX3_drop_6 : decode prog_13_method_8_code 6 = .ok (.isub, 1) := by decide +kernel
theorem dX3_drop_7 : decode prog_13_method_8_code 7 = .ok (.putfield 75, 3) := by decide +kernel
theorem dX3_drop_10 : decode prog_13_method_8_code 10 = .ok (.return_, 1) := by decide +kernel
theorem dX3_isTrue_0 : decode prog_13_method_19_code 0 = .ok (.aload_n 0, 1) := by decide +kernel
theorem dX3_isTrue_1 : decode prog_13_method_19_code 1 = .ok (.aload_n 0, 1) := by decide +kernel
theorem dX3_isTrue_2 : decode prog_13_method_19_code 2 = .ok (.getfield 75, 3) := by decide +kernel
theorem dX3_isTrue_5 : decode prog_13_method_19_code 5 = .ok (.iconst 1, 1) := by decide +kernel
theorem dX3_isTrue_6 : decode prog_13_method_19_code 6 = .ok (.isub, 1) := by decide +kernel
theorem dX3_isTrue_7 : decode prog_13_method_19_code 7 = .ok (.iload_n 1, 1) := by decide +kernel
theorem dX3_isTrue_8 : decode prog_13_method_19_code 8 = .ok (.invokevirtual 147, 3) := by decide +kernel
theorem dX3_isTrue_11 : decode prog_13_method_19_code 11 = .ok (.istore_n 2, 1) := by decide +kernel
theorem dX3_isTrue_12 : decode prog_13_method_19_code 12 = .ok (.aload_n 0, 1) := by decide +kernel
theorem dX3_isTrue_13 : decode prog_13_method_19_code 13 = .ok (.dup, 1) := by decide +kernel
theorem dX3_isTrue_14 : decode prog_13_method_19_code 14 = .ok (.getfield 75, 3) := by decide +kernel
theorem dX3_isTrue_17 : decode prog_13_method_19_code 17 = .ok (.iconst 1, 1) := by decide +kernel
theorem dX3_isTrue_18 : decode prog_13_method_19_code 18 = .ok (.isub, 1) := by decide +kernel
theorem dX3_isTrue_19 : decode prog_13_method_19_code 19 = .ok (.putfield 75, 3) := by decide +kernel
theorem dX3_isTrue_22 : decode prog_13_method_19_code 22 = .ok (.iload_n 2, 1) := by decide +kernel
theorem dX3_isTrue_23 : decode prog_13_method_19_code 23 = .ok (.ifCond .eq 7, 3) := by decide +kernel
theorem dX3_isTrue_26 : decode prog_13_method_19_code 26 = .ok (.iconst 1, 1) := by decide +kernel
theorem dX3_isTrue_27 : decode prog_13_method_19_code 27 = .ok (.goto 4, 3) := by decide +kernel
theorem dX3_isTrue_30 : decode prog_13_method_19_code 30 = .ok (.iconst 0, 1) := by decide +kernel
theorem dX3_isTrue_31 : decode prog_13_method_19_code 31 = .ok (.ireturn, 1) := by decide +kernel
theorem dX3_say_0 : decode prog_13_method_20_code 0 = .ok (.aload_n 0, 1) := by decide +kernel
theorem dX3_say_1 : decode prog_13_method_20_code 1 = .ok (.dup, 1) := by decide +kernel
theorem dX3_say_2 : decode prog_13_method_20_code 2 = .ok (.getfield 75, 3) := by decide +kernel
theorem dX3_say_5 : decode prog_13_method_20_code 5 = .ok (.iconst 1, 1) := by decide +kernel
theorem dX3_say_6 : decode prog_13_method_20_code 6 = .ok (.isub, 1) := by decide +kernel
theorem dX3_say_7 : decode prog_13_method_20_code 7 = .ok (.putfield 75, 3) := by decide +kernel
theorem dX3_say_10 : decode prog_13_method_20_code 10 = .ok (.aload_n 0, 1) := by decide +kernel
theorem dX3_say_11 : decode prog_13_method_20_code 11 = .ok (.getfield 17, 3) := by decide +kernel
theorem dX3_say_14 : decode prog_13_method_20_code 14 = .ok (.aload_n 0, 1) := by decide +kernel
theorem dX3_say_15 : decode prog_13_method_20_code 15 = .ok (.getfield 75, 3) := by decide +kernel
theorem dX3_say_18 : decode prog_13_method_20_code 18 = .ok (.aaload, 1) := by decide +kernel
theorem dX3_say_19 : decode prog_13_method_20_code 19 = .ok (.ifnonnull 22, 3) := by decide +kernel
theorem dX3_say_22 : decode prog_13_method_20_code 22 = .ok (.aload_n 0, 1) := by decide +kernel
theorem dX3_say_23 : decode prog_13_method_20_code 23 = .ok (.getfield 64, 3) := by decide +kernel
theorem dX3_say_26 : decode prog_13_method_20_code 26 = .ok (.aload_n 0, 1) := by decide +kernel
theorem dX3_say_27 : decode prog_13_method_20_code 27 = .ok (.getfield 9, 3) := by decide +kernel
theorem dX3_say_30 : decode prog_13_method_20_code 30 = .ok (.aload_n 0, 1) := by decide +kernel
theorem dX3_say_31 : decode prog_13_method_20_code 31 = .ok (.getfield 75, 3) := by decide +kernel
theorem dX3_say_34 : decode prog_13_method_20_code 34 = .ok (.iaload, 1) := by decide +kernel
theorem dX3_say_35 : decode prog_13_method_20_code 35 = .ok (.invokevirtual 151, 3) := by decide +kernel
theorem dX3_say_38 : decode prog_13_method_20_code 38 = .ok (.goto 19, 3) := by decide +kernel
theorem dX3_say_41 : decode prog_13_method_20_code 41 = .ok (.aload_n 0, 1) := by decide +kernel
theorem dX3_say_42 : decode prog_13_method_20_code 42 = .ok (.getfield 17, 3) := by decide +kernel
theorem dX3_say_45 : decode prog_13_method_20_code 45 = .ok (.aload_n 0, 1) := by decide +kernel
theorem dX3_say_46 : decode prog_13_method_20_code 46 = .ok (.getfield 75, 3) := by decide +kernel
theorem dX3_say_49 : decode prog_13_method_20_code 49 = .ok (.aaload, 1) := by decide +kernel
theorem dX3_say_50 : decode prog_13_method_20_code 50 = .ok (.aload_n 0, 1) := by decide +kernel
theorem dX3_say_51 : decode prog_13_method_20_code 51 = .ok (.getfield 64, 3) := by decide +kernel
theorem dX3_say_54 : decode prog_13_method_20_code 54 = .ok (.invokevirtual 154, 3) := by decide +kernel
theorem dX3_say_57 : decode prog_13_method_20_code 57 = .ok (.aload_n 0, 1) := by decide +kernel
theorem dX3_say_58 : decode prog_13_method_20_code 58 = .ok (.getfield 64, 3) := by decide +kernel
theorem dX3_say_61 : decode prog_13_method_20_code 61 = .ok (.bipush 10, 2) := by decide +kernel
theorem dX3_say_63 : decode prog_13_method_20_code 63 = .ok (.invokevirtual 158, 3) := by decide +kernel
theorem dX3_say_66 : decode prog_13_method_20_code 66 = .ok (.return_, 1) := by decide +kernel
theorem dX3_raise_0 : decode prog_13_method_21_code 0 = .ok (.aload_n 0, 1) := by decide +kernel
theorem dX3_raise_1 : decode prog_13_method_21_code 1 = .ok (.aload_n 0, 1) := by decide +kernel
theorem dX3_raise_2 : decode prog_13_method_21_code 2 = .ok (.getfield 75, 3) := by decide +kernel
theorem dX3_raise_5 : decode prog_13_method_21_code 5 = .ok (.iconst 1, 1) := by decide +kernel
theorem dX3_raise_6 : decode prog_13_method_21_code 6 = .ok (.isub, 1) := by decide +kernel
theorem dX3_raise_7 : decode prog_13_method_21_code 7 = .ok (.iload_n 1, 1) := by decide +kernel
theorem dX3_raise_8 : decode prog_13_method_21_code 8 = .ok (.invokevirtual 147, 3) := by decide +kernel
theorem dX3_raise_11 : decode prog_13_method_21_code 11 = .ok (.istore_n 2, 1) := by decide +kernel
theorem dX3_raise_12 : decode prog_13_method_21_code 12 = .ok (.aload_n 0, 1) := by decide +kernel
theorem dX3_raise_13 : decode prog_13_method_21_code 13 = .ok (.bipush 9, 2) := by decide +kernel
theorem dX3_raise_15 : decode prog_13_method_21_code 15 = .ok (.iload_n 1, 1) := by decide +kernel
theorem dX3_raise_16 : decode prog_13_method_21_code 16 = .ok (.invokevirtual 109, 3) := by decide +kernel
theorem dX3_raise_19 : decode prog_13_method_21_code 19 = .ok (.pop, 1) := by decide +kernel
theorem dX3_raise_20 : decode prog_13_method_21_code 20 = .ok (.aload_n 0, 1) := by decide +kernel
theorem dX3_raise_21 : decode prog_13_method_21_code 21 = .ok (.getfield 71, 3) := by decide +kernel
theorem dX3_raise_24 : decode prog_13_method_21_code 24 = .ok (.iload_n 2, 1) := by decide +kernel
theorem dX3_raise_25 : decode prog_13_method_21_code 25 = .ok (.putfield 106, 3) := by decide +kernel
theorem dX3_raise_28 : decode prog_13_method_21_code 28 = .ok (.aload_n 0, 1) := by decide +kernel
theorem dX3_raise_29 : decode prog_13_method_21_code 29 = .ok (.getfield 71, 3) := by decide +kernel
theorem dX3_raise_32 : decode prog_13_method_21_code 32 = .ok (.athrow, 1) := by decide +kernel
theorem dX3_taken_0 : decode prog_13_method_22_code 0 = .ok (.aload_n 1, 1) := by decide +kernel
theorem dX3_taken_1 : decode prog_13_method_22_code 1 = .ok (.getfield 100, 3) := by decide +kernel
theorem dX3_taken_4 : decode prog_13_method_22_code 4 = .ok (.bipush 10, 2) := by decide +kernel
theorem dX3_taken_6 : decode prog_13_method_22_code 6 = .ok (.if_icmp .lt 5, 3) := by decide +kernel
theorem dX3_taken_9 : decode prog_13_method_22_code 9 = .ok (.aload_n 1, 1) := by decide +kernel
theorem dX3_taken_10 : decode prog_13_method_22_code 10 = .ok (.athrow, 1) := by decide +kernel
theorem dX3_taken_11 : decode prog_13_method_22_code 11 = .ok (.aload_n 1, 1) := by decide +kernel
theorem dX3_taken_12 : decode prog_13_method_22_code 12 = .ok (.getfield 100, 3) := by decide +kernel
theorem dX3_taken_15 : decode prog_13_method_22_code 15 = .ok (.bipush 9, 2) := by decide +kernel
theorem dX3_taken_17 : decode prog_13_method_22_code 17 = .ok (.if_icmp .ne 10, 3) := by decide +kernel
theorem dX3_taken_20 : decode prog_13_method_22_code 20 = .ok (.aload_n 1, 1) := by decide +kernel
theorem dX3_taken_21 : decode prog_13_method_22_code 21 = .ok (.getfield 106, 3) := by decide +kernel
theorem dX3_taken_24 : decode prog_13_method_22_code 24 = .ok (.goto 7, 3) := by decide +kernel
theorem dX3_taken_27 : decode prog_13_method_22_code 27 = .ok (.aload_n 1, 1) := by decide +kernel
theorem dX3_taken_28 : decode prog_13_method_22_code 28 = .ok (.getfield 100, 3) := by decide +kernel
theorem dX3_taken_31 : decode prog_13_method_22_code 31 = .ok (.istore 5, 2) := by decide +kernel
theorem dX3_taken_33 : decode prog_13_method_22_code 33 = .ok (.aload_n 0, 1) := by decide +kernel
theorem dX3_taken_34 : decode prog_13_method_22_code 34 = .ok (.iload_n 2, 1) := by decide +kernel
theorem dX3_taken_35 : decode prog_13_method_22_code 35 = .ok (.putfield 75, 3) := by decide +kernel
theorem dX3_taken_38 : decode prog_13_method_22_code 38 = .ok (.aload_n 0, 1) := by decide +kernel
theorem dX3_taken_39 : decode prog_13_method_22_code 39 = .ok (.iload_n 3, 1) := by decide +kernel
theorem dX3_taken_40 : decode prog_13_method_22_code 40 = .ok (.putfield 79, 3) := by decide +kernel
theorem dX3_taken_43 : decode prog_13_method_22_code 43 = .ok (.aload_n 0, 1) := by decide +kernel
theorem dX3_taken_44 : decode prog_13_method_22_code 44 = .ok (.dup, 1) := by decide +kernel
theorem dX3_taken_45 : decode prog_13_method_22_code 45 = .ok (.getfield 94, 3) := by decide +kernel
theorem dX3_taken_48 : decode prog_13_method_22_code 48 = .ok (.iconst 1, 1) := by decide +kernel
theorem dX3_taken_49 : decode prog_13_method_22_code 49 = .ok (.iadd, 1) := by decide +kernel
theorem dX3_taken_50 : decode prog_13_method_22_code 50 = .ok (.putfield 94, 3) := by decide +kernel
theorem dX3_taken_53 : decode prog_13_method_22_code 53 = .ok (.aload_n 0, 1) := by decide +kernel
theorem dX3_taken_54 : decode prog_13_method_22_code 54 = .ok (.sipush 300, 3) := by decide +kernel
theorem dX3_taken_57 : decode prog_13_method_22_code 57 = .ok (.iload 4, 2) := by decide +kernel
theorem dX3_taken_59 : decode prog_13_method_22_code 59 = .ok (.invokevirtual 121, 3) := by decide +kernel
theorem dX3_taken_62 : decode prog_13_method_22_code 62 = .ok (.aload_n 0, 1) := by decide +kernel
theorem dX3_taken_63 : decode prog_13_method_22_code 63 = .ok (.iload 5, 2) := by decide +kernel
theorem dX3_taken_65 : decode prog_13_method_22_code 65 = .ok (.invokevirtual 129, 3) := by decide +kernel
theorem dX3_taken_68 : decode prog_13_method_22_code 68 = .ok (.return_, 1) := by decide +kernel
theorem dX30_init_0 : decode prog_2_method_1_code 0 = .ok (.aload_n 0, 1) := by decide +kernel
theorem dX30_init_1 : decode prog_2_method_1_code 1 = .ok (.invokespecial 1, 3) := by decide +kernel
theorem dX30_init_4 : decode prog_2_method_1_code 4 = .ok (.return_, 1) := by decide +kernel
theorem dX30_act_0 : decode prog_2_method_2_code 0 = .ok (.aload_n 0, 1) := by decide +kernel
theorem dX30_act_1 : decode prog_2_method_2_code 1 = .ok (.getfield 7, 3) := by decide +kernel
theorem dX30_act_4 : decode prog_2_method_2_code 4 = .ok (.ifnull 11, 3) := by decide +kernel
theorem dX30_act_7 : decode prog_2_method_2_code 7 = .ok (.aload_n 0, 1) := by decide +kernel
theorem dX30_act_8 : decode prog_2_method_2_code 8 = .ok (.getfield 7, 3) := by decide +kernel
theorem dX30_act_11 : decode prog_2_method_2_code 11 = .ok (.aload_n 1, 1) := by decide +kernel
theorem dX30_act_12 : decode prog_2_method_2_code 12 = .ok (.invokevirtual 13, 3) := by decide +kernel
theorem dX30_act_15 : decode prog_2_method_2_code 15 = .ok (.aload_n 0, 1) := by decide +kernel
theorem dX30_act_16 : decode prog_2_method_2_code 16 = .ok (.getfield 19, 3) := by decide +kernel
theorem dX30_act_19 : decode prog_2_method_2_code 19 = .ok (.ifnull 11, 3) := by decide +kernel
theorem dX30_act_22 : decode prog_2_method_2_code 22 = .ok (.aload_n 0, 1) := by decide +kernel
theorem dX30_act_23 : decode prog_2_method_2_code 23 = .ok (.getfield 19, 3) := by decide +kernel
theorem dX30_act_26 : decode prog_2_method_2_code 26 = .ok (.aload_n 1, 1) := by decide +kernel
theorem dX30_act_27 : decode prog_2_method_2_code 27 = .ok (.invokevirtual 13, 3) := by decide +kernel
theorem dX30_act_30 : decode prog_2_method_2_code 30 = .ok (.aload_n 0, 1) := by decide +kernel
theorem dX30_act_31 : decode prog_2_method_2_code 31 = .ok (.getfield 22, 3) := by decide +kernel
theorem dX30_act_34 : decode prog_2_method_2_code 34 = .ok (.aload_n 1, 1) := by decide +kernel
theorem dX30_act_35 : decode prog_2_method_2_code 35 = .ok (.invokevirtual 13, 3) := by decide +kernel
theorem dX30_act_38 : decode prog_2_method_2_code 38 = .ok (.aload_n 0, 1) := by decide +kernel
theorem dX30_act_39 : decode prog_2_method_2_code 39 = .ok (.getfield 7, 3) := by decide +kernel
theorem dX30_act_42 : decode prog_2_method_2_code 42 = .ok (.ifnonnull 14, 3) := by decide +kernel
theorem dX30_act_45 : decode prog_2_method_2_code 45 = .ok (.aload_n 1, 1) := by decide +kernel
theorem dX30_act_46 : decode prog_2_method_2_code 46 = .ok (.aload_n 0, 1) := by decide +kernel
theorem dX30_act_47 : decode prog_2_method_2_code 47 = .ok (.getfield 25, 3) := by decide +kernel
theorem dX30_act_50 : decode prog_2_method_2_code 50 = .ok (.invokevirtual 29, 3) := by decide +kernel
theorem dX30_act_53 : decode prog_2_method_2_code 53 = .ok (.goto 8, 3) := by decide +kernel
theorem dX30_act_56 : decode prog_2_method_2_code 56 = .ok (.aload_n 1, 1) := by decide +kernel
theorem dX30_act_57 : decode prog_2_method_2_code 57 = .ok (.aload_n 0, 1) := by decide +kernel
theorem dX30_act_58 : decode prog_2_method_2_code 58 = .ok (.invokevirtual 35, 3) := by decide +kernel
theorem dX30_act_61 : decode prog_2_method_2_code 61 = .ok (.iconst 0, 1) := by decide +kernel
theorem dX30_act_62 : decode prog_2_method_2_code 62 = .ok (.ireturn, 1) := by decide +kernel
theorem dX31_init_0 : decode prog_30_method_1_code 0 = .ok (.aload_n 0, 1) := by decide +kernel
theorem dX31_init_1 : decode prog_30_method_1_code 1 = .ok (.invokespecial 1, 3) := by decide +kernel
theorem dX31_init_4 : decode prog_30_method_1_code 4 = .ok (.return_, 1) := by decide +kernel
theorem dX31_depth_0 : decode prog_30_method_9_code 0 = .ok (.iconst 0, 1) := by decide +kernel
theorem dX31_depth_1 : decode prog_30_method_9_code 1 = .ok (.ireturn, 1) := by decide +kernel
theorem dX33_made_0 : decode prog_29_method_8_code 0 = .ok (.iconst 4, 1) := by decide +kernel
theorem dX33_made_1 : decode prog_29_method_8_code 1 = .ok (.iconst 4, 1) := by decide +kernel
theorem dX33_made_2 : decode prog_29_method_8_code 2 = .ok (.aload_n 0, 1) := by decide +kernel
theorem dX33_made_3 : decode prog_29_method_8_code 3 = .ok (.getfield 9, 3) := by decide +kernel
theorem dX33_made_6 : decode prog_29_method_8_code 6 = .ok (.arraylength, 1) := by decide +kernel
theorem dX33_made_7 : decode prog_29_method_8_code 7 = .ok (.imul, 1) := by decide +kernel
theorem dX33_made_8 : decode prog_29_method_8_code 8 = .ok (.iadd, 1) := by decide +kernel
theorem dX33_made_9 : decode prog_29_method_8_code 9 = .ok (.aload_n 0, 1) := by decide +kernel
theorem dX33_made_10 : decode prog_29_method_8_code 10 = .ok (.invokevirtual 30, 3) := by decide +kernel
theorem dX33_made_13 : decode prog_29_method_8_code 13 = .ok (.iadd, 1) := by decide +kernel
theorem dX33_made_14 : decode prog_29_method_8_code 14 = .ok (.ireturn, 1) := by decide +kernel
theorem dX33_ints_0 : decode prog_29_method_5_code 0 = .ok (.iconst 0, 1) := by decide +kernel
theorem dX33_ints_1 : decode prog_29_method_5_code 1 = .ok (.istore_n 1, 1) := by decide +kernel
theorem dX33_ints_2 : decode prog_29_method_5_code 2 = .ok (.iconst 0, 1) := by decide +kernel
theorem dX33_ints_3 : decode prog_29_method_5_code 3 = .ok (.istore_n 2, 1) := by decide +kernel
theorem dX33_ints_4 : decode prog_29_method_5_code 4 = .ok (.iload_n 2, 1) := by decide +kernel
theorem dX33_ints_5 : decode prog_29_method_5_code 5 = .ok (.aload_n 0, 1) := by decide +kernel
theorem dX33_ints_6 : decode prog_29_method_5_code 6 = .ok (.getfield 9, 3) := by decide +kernel
theorem dX33_ints_9 : decode prog_29_method_5_code 9 = .ok (.arraylength, 1) := by decide +kernel
theorem dX33_ints_10 : decode prog_29_method_5_code 10 = .ok (.if_icmp .ge 19, 3) := by decide +kernel
theorem dX33_ints_13 : decode prog_29_method_5_code 13 = .ok (.iload_n 1, 1) := by decide +kernel
theorem dX33_ints_14 : decode prog_29_method_5_code 14 = .ok (.aload_n 0, 1) := by decide +kernel
theorem dX33_ints_15 : decode prog_29_method_5_code 15 = .ok (.getfield 9, 3) := by decide +kernel
theorem dX33_ints_18 : decode prog_29_method_5_code 18 = .ok (.iload_n 2, 1) := by decide +kernel
theorem dX33_ints_19 : decode prog_29_method_5_code 19 = .ok (.aaload, 1) := by decide +kernel
theorem dX33_ints_20 : decode prog_29_method_5_code 20 = .ok (.arraylength, 1) := by decide +kernel
theorem dX33_ints_21 : decode prog_29_method_5_code 21 = .ok (.iadd, 1) := by decide +kernel
theorem dX33_ints_22 : decode prog_29_method_5_code 22 = .ok (.istore_n 1, 1) := by decide +kernel
theorem dX33_ints_23 : decode prog_29_method_5_code 23 = .ok (.iinc 2 1, 3) := by decide +kernel
theorem dX33_ints_26 : decode prog_29_method_5_code 26 = .ok (.goto (-22), 3) := by decide +kernel
theorem dX33_ints_29 : decode prog_29_method_5_code 29 = .ok (.iload_n 1, 1) := by decide +kernel
theorem dX33_ints_30 : decode prog_29_method_5_code 30 = .ok (.ireturn, 1) := by decide +kernel
theorem dX33_size_0 : decode prog_29_method_4_code 0 = .ok (.aload_n 0, 1) := by decide +kernel
theorem dX33_size_1 : decode prog_29_method_4_code 1 = .ok (.getfield 9, 3) := by decide +kernel
theorem dX33_size_4 : decode prog_29_method_4_code 4 = .ok (.arraylength, 1) := by decide +kernel
theorem dX33_size_5 : decode prog_29_method_4_code 5 = .ok (.ireturn, 1) := by decide +kernel
theorem dX33_init_0 : decode prog_29_method_1_code 0 = .ok (.aload_n 0, 1) := by decide +kernel
theorem dX33_init_1 : decode prog_29_method_1_code 1 = .ok (.invokespecial 3, 3) := by decide +kernel
theorem dX33_init_4 : decode prog_29_method_1_code 4 = .ok (.aload_n 0, 1) := by decide +kernel
theorem dX33_init_5 : decode prog_29_method_1_code 5 = .ok (.aload_n 1, 1) := by decide +kernel
theorem dX33_init_6 : decode prog_29_method_1_code 6 = .ok (.putfield 9, 3) := by decide +kernel
theorem dX33_init_9 : decode prog_29_method_1_code 9 = .ok (.return_, 1) := by decide +kernel
theorem dX33_bulk_0 : decode prog_29_method_7_code 0 = .ok (.iconst 1, 1) := by decide +kernel
theorem dX33_bulk_1 : decode prog_29_method_7_code 1 = .ok (.aload_n 0, 1) := by decide +kernel
theorem dX33_bulk_2 : decode prog_29_method_7_code 2 = .ok (.getfield 9, 3) := by decide +kernel
theorem dX33_bulk_5 : decode prog_29_method_7_code 5 = .ok (.arraylength, 1) := by decide +kernel
theorem dX33_bulk_6 : decode prog_29_method_7_code 6 = .ok (.iadd, 1) := by decide +kernel
theorem dX33_bulk_7 : decode prog_29_method_7_code 7 = .ok (.aload_n 0, 1) := by decide +kernel
theorem dX33_bulk_8 : decode prog_29_method_7_code 8 = .ok (.invokevirtual 30, 3) := by decide +kernel
theorem dX33_bulk_11 : decode prog_29_method_7_code 11 = .ok (.iadd, 1) := by decide +kernel
theorem dX33_bulk_12 : decode prog_29_method_7_code 12 = .ok (.ireturn, 1) := by decide +kernel
theorem dX33_kind_0 : decode prog_29_method_3_code 0 = .ok (.iconst 2, 1) := by decide +kernel
theorem dX33_kind_1 : decode prog_29_method_3_code 1 = .ok (.ireturn, 1) := by decide +kernel
theorem dX33_widest_0 : decode prog_29_method_6_code 0 = .ok (.iconst 0, 1) := by decide +kernel
theorem dX33_widest_1 : decode prog_29_method_6_code 1 = .ok (.istore_n 1, 1) := by decide +kernel
theorem dX33_widest_2 : decode prog_29_method_6_code 2 = .ok (.iconst 0, 1) := by decide +kernel
theorem dX33_widest_3 : decode prog_29_method_6_code 3 = .ok (.istore_n 2, 1) := by decide +kernel
theorem dX33_widest_4 : decode prog_29_method_6_code 4 = .ok (.iload_n 2, 1) := by decide +kernel
theorem dX33_widest_5 : decode prog_29_method_6_code 5 = .ok (.aload_n 0, 1) := by decide +kernel
theorem dX33_widest_6 : decode prog_29_method_6_code 6 = .ok (.getfield 9, 3) := by decide +kernel
theorem dX33_widest_9 : decode prog_29_method_6_code 9 = .ok (.arraylength, 1) := by decide +kernel
theorem dX33_widest_10 : decode prog_29_method_6_code 10 = .ok (.if_icmp .ge 21, 3) := by decide +kernel
theorem dX33_widest_13 : decode prog_29_method_6_code 13 = .ok (.iload_n 1, 1) := by decide +kernel
theorem dX33_widest_14 : decode prog_29_method_6_code 14 = .ok (.aload_n 0, 1) := by decide +kernel
theorem dX33_widest_15 : decode prog_29_method_6_code 15 = .ok (.getfield 9, 3) := by decide +kernel
theorem dX33_widest_18 : decode prog_29_method_6_code 18 = .ok (.iload_n 2, 1) := by decide +kernel
theorem dX33_widest_19 : decode prog_29_method_6_code 19 = .ok (.aaload, 1) := by decide +kernel
theorem dX33_widest_20 : decode prog_29_method_6_code 20 = .ok (.arraylength, 1) := by decide +kernel
theorem dX33_widest_21 : decode prog_29_method_6_code 21 = .ok (.invokestatic 24, 3) := by decide +kernel
theorem dX33_widest_24 : decode prog_29_method_6_code 24 = .ok (.istore_n 1, 1) := by decide +kernel
theorem dX33_widest_25 : decode prog_29_method_6_code 25 = .ok (.iinc 2 1, 3) := by decide +kernel
theorem dX33_widest_28 : decode prog_29_method_6_code 28 = .ok (.goto (-24), 3) := by decide +kernel
theorem dX33_widest_31 : decode prog_29_method_6_code 31 = .ok (.iload_n 1, 1) := by decide +kernel
theorem dX33_widest_32 : decode prog_29_method_6_code 32 = .ok (.ireturn, 1) := by decide +kernel
theorem dX33_same_0 : decode prog_29_method_9_code 0 = .ok (.aload_n 1, 1) := by decide +kernel
theorem dX33_same_1 : decode prog_29_method_9_code 1 = .ok (.instanceof 10, 3) := by decide +kernel
theorem dX33_same_4 : decode prog_29_method_9_code 4 = .ok (.ifCond .eq 21, 3) := by decide +kernel
theorem dX33_same_7 : decode prog_29_method_9_code 7 = .ok (.aload_n 1, 1) := by decide +kernel
theorem dX33_same_8 : decode prog_29_method_9_code 8 = .ok (.checkcast 10, 3) := by decide +kernel
theorem dX33_same_11 : decode prog_29_method_9_code 11 = .ok (.astore_n 2, 1) := by decide +kernel
theorem dX33_same_12 : decode prog_29_method_9_code 12 = .ok (.aload_n 2, 1) := by decide +kernel
theorem dX33_same_13 : decode prog_29_method_9_code 13 = .ok (.getfield 9, 3) := by decide +kernel
theorem dX33_same_16 : decode prog_29_method_9_code 16 = .ok (.arraylength, 1) := by decide +kernel
theorem dX33_same_17 : decode prog_29_method_9_code 17 = .ok (.aload_n 0, 1) := by decide +kernel
theorem dX33_same_18 : decode prog_29_method_9_code 18 = .ok (.getfield 9, 3) := by decide +kernel
theorem dX33_same_21 : decode prog_29_method_9_code 21 = .ok (.arraylength, 1) := by decide +kernel
theorem dX33_same_22 : decode prog_29_method_9_code 22 = .ok (.if_icmp .eq 5, 3) := by decide +kernel
theorem dX33_same_25 : decode prog_29_method_9_code 25 = .ok (.iconst 0, 1) := by decide +kernel
theorem dX33_same_26 : decode prog_29_method_9_code 26 = .ok (.ireturn, 1) := by decide +kernel
theorem dX33_same_27 : decode prog_29_method_9_code 27 = .ok (.iconst 1, 1) := by decide +kernel
theorem dX33_same_28 : decode prog_29_method_9_code 28 = .ok (.istore_n 3, 1) := by decide +kernel
theorem dX33_same_29 : decode prog_29_method_9_code 29 = .ok (.iconst 0, 1) := by decide +kernel
theorem dX33_same_30 : decode prog_29_method_9_code 30 = .ok (.istore 4, 2) := by decide +kernel
theorem dX33_same_32 : decode prog_29_method_9_code 32 = .ok (.iload_n 3, 1) := by decide +kernel
theorem dX33_same_33 : decode prog_29_method_9_code 33 = .ok (.ifCond .eq 37, 3) := by decide +kernel
theorem dX33_same_36 : decode prog_29_method_9_code 36 = .ok (.iload 4, 2) := by decide +kernel
theorem dX33_same_38 : decode prog_29_method_9_code 38 = .ok (.aload_n 0, 1) := by decide +kernel
theorem dX33_same_39 : decode prog_29_method_9_code 39 = .ok (.getfield 9, 3) := by decide +kernel
theorem dX33_same_42 : decode prog_29_method_9_code 42 = .ok (.arraylength, 1) := by decide +kernel
theorem dX33_same_43 : decode prog_29_method_9_code 43 = .ok (.if_icmp .ge 27, 3) := by decide +kernel
theorem dX33_same_46 : decode prog_29_method_9_code 46 = .ok (.aload_n 0, 1) := by decide +kernel
theorem dX33_same_47 : decode prog_29_method_9_code 47 = .ok (.getfield 9, 3) := by decide +kernel
theorem dX33_same_50 : decode prog_29_method_9_code 50 = .ok (.iload 4, 2) := by decide +kernel
theorem dX33_same_52 : decode prog_29_method_9_code 52 = .ok (.aaload, 1) := by decide +kernel
theorem dX33_same_53 : decode prog_29_method_9_code 53 = .ok (.aload_n 2, 1) := by decide +kernel
theorem dX33_same_54 : decode prog_29_method_9_code 54 = .ok (.getfield 9, 3) := by decide +kernel
theorem dX33_same_57 : decode prog_29_method_9_code 57 = .ok (.iload 4, 2) := by decide +kernel
theorem dX33_same_59 : decode prog_29_method_9_code 59 = .ok (.aaload, 1) := by decide +kernel
theorem dX33_same_60 : decode prog_29_method_9_code 60 = .ok (.invokestatic 34, 3) := by decide +kernel
theorem dX33_same_63 : decode prog_29_method_9_code 63 = .ok (.istore_n 3, 1) := by decide +kernel
theorem dX33_same_64 : decode prog_29_method_9_code 64 = .ok (.iinc 4 1, 3) := by decide +kernel
theorem dX33_same_67 : decode prog_29_method_9_code 67 = .ok (.goto (-35), 3) := by decide +kernel
theorem dX33_same_70 : decode prog_29_method_9_code 70 = .ok (.iload_n 3, 1) := by decide +kernel
theorem dX33_same_71 : decode prog_29_method_9_code 71 = .ok (.ireturn, 1) := by decide +kernel
theorem dX33_form_0 : decode prog_29_method_10_code 0 = .ok (.aload_n 1, 1) := by decide +kernel
theorem dX33_form_1 : decode prog_29_method_10_code 1 = .ok (.bipush 123, 2) := by decide +kernel
theorem dX33_form_3 : decode prog_29_method_10_code 3 = .ok (.invokevirtual 38, 3) := by decide +kernel
theorem dX33_form_6 : decode prog_29_method_10_code 6 = .ok (.iconst 0, 1) := by decide +kernel
theorem dX33_form_7 : decode prog_29_method_10_code 7 = .ok (.istore_n 2, 1) := by decide +kernel
theorem dX33_form_8 : decode prog_29_method_10_code 8 = .ok (.iload_n 2, 1) := by decide +kernel
theorem dX33_form_9 : decode prog_29_method_10_code 9 = .ok (.aload_n 0, 1) := by decide +kernel
theorem dX33_form_10 : decode prog_29_method_10_code 10 = .ok (.getfield 9, 3) := by decide +kernel
theorem dX33_form_13 : decode prog_29_method_10_code 13 = .ok (.arraylength, 1) := by decide +kernel
theorem dX33_form_14 : decode prog_29_method_10_code 14 = .ok (.if_icmp .ge 19, 3) := by decide +kernel
theorem dX33_form_17 : decode prog_29_method_10_code 17 = .ok (.aload_n 0, 1) := by decide +kernel
theorem dX33_form_18 : decode prog_29_method_10_code 18 = .ok (.getfield 9, 3) := by decide +kernel
theorem dX33_form_21 : decode prog_29_method_10_code 21 = .ok (.iload_n 2, 1) := by decide +kernel
theorem dX33_form_22 : decode prog_29_method_10_code 22 = .ok (.aaload, 1) := by decide +kernel
theorem dX33_form_23 : decode prog_29_method_10_code 23 = .ok (.aload_n 1, 1) := by decide +kernel
theorem dX33_form_24 : decode prog_29_method_10_code 24 = .ok (.invokestatic 44, 3) := by decide +kernel
theorem dX33_form_27 : decode prog_29_method_10_code 27 = .ok (.iinc 2 1, 3) := by decide +kernel
theorem dX33_form_30 : decode prog_29_method_10_code 30 = .ok (.goto (-22), 3) := by decide +kernel
theorem dX33_form_33 : decode prog_29_method_10_code 33 = .ok (.aload_n 1, 1) := by decide +kernel
theorem dX33_form_34 : decode prog_29_method_10_code 34 = .ok (.bipush 125, 2) := by decide +kernel
theorem dX33_form_36 : decode prog_29_method_10_code 36 = .ok (.invokevirtual 38, 3) := by decide +kernel
theorem dX33_form_39 : decode prog_29_method_10_code 39 = .ok (.return_, 1) := by decide +kernel
theorem dX33_sum_0 : decode prog_29_method_11_code 0 = .ok (.lload_n 1, 1) := by decide +kernel
theorem dX33_sum_1 : decode prog_29_method_11_code 1 = .ok (.ldc2_w 48, 3) := by decide +kernel
theorem dX33_sum_4 : decode prog_29_method_11_code 4 = .ok (.invokestatic 50, 3) := by decide +kernel
theorem dX33_sum_7 : decode prog_29_method_11_code 7 = .ok (.aload_n 0, 1) := by decide +kernel
theorem dX33_sum_8 : decode prog_29_method_11_code 8 = .ok (.getfield 9, 3) := by decide +kernel
theorem dX33_sum_11 : decode prog_29_method_11_code 11 = .ok (.arraylength, 1) := by decide +kernel
theorem dX33_sum_12 : decode prog_29_method_11_code 12 = .ok (.i2l, 1) := by decide +kernel
theorem dX33_sum_13 : decode prog_29_method_11_code 13 = .ok (.invokestatic 50, 3) := by decide +kernel
theorem dX33_sum_16 : decode prog_29_method_11_code 16 = .ok (.lstore_n 3, 1) := by decide +kernel
theorem dX33_sum_17 : decode prog_29_method_11_code 17 = .ok (.iconst 0, 1) := by decide +kernel
theorem dX33_sum_18 : decode prog_29_method_11_code 18 = .ok (.istore 5, 2) := by decide +kernel
theorem dX33_sum_20 : decode prog_29_method_11_code 20 = .ok (.iload 5, 2) := by decide +kernel
theorem dX33_sum_22 : decode prog_29_method_11_code 22 = .ok (.aload_n 0, 1) := by decide +kernel
theorem dX33_sum_23 : decode prog_29_method_11_code 23 = .ok (.getfield 9, 3) := by decide +kernel
theorem dX33_sum_26 : decode prog_29_method_11_code 26 = .ok (.arraylength, 1) := by decide +kernel
theorem dX33_sum_27 : decode prog_29_method_11_code 27 = .ok (.if_icmp .ge 21, 3) := by decide +kernel
theorem dX33_sum_30 : decode prog_29_method_11_code 30 = .ok (.aload_n 0, 1) := by decide +kernel
theorem dX33_sum_31 : decode prog_29_method_11_code 31 = .ok (.getfield 9, 3) := by decide +kernel
theorem dX33_sum_34 : decode prog_29_method_11_code 34 = .ok (.iload 5, 2) := by decide +kernel
theorem dX33_sum_36 : decode prog_29_method_11_code 36 = .ok (.aaload, 1) := by decide +kernel
theorem dX33_sum_37 : decode prog_29_method_11_code 37 = .ok (.lload_n 3, 1) := by decide +kernel
theorem dX33_sum_38 : decode prog_29_method_11_code 38 = .ok (.invokestatic 54, 3) := by decide +kernel
theorem dX33_sum_41 : decode prog_29_method_11_code 41 = .ok (.lstore_n 3, 1) := by decide +kernel
theorem dX33_sum_42 : decode prog_29_method_11_code 42 = .ok (.iinc 5 1, 3) := by decide +kernel
theorem dX33_sum_45 : decode prog_29_method_11_code 45 = .ok (.goto (-25), 3) := by decide +kernel
theorem dX33_sum_48 : decode prog_29_method_11_code 48 = .ok (.lload_n 3, 1) := by decide +kernel
theorem dX33_sum_49 : decode prog_29_method_11_code 49 = .ok (.lreturn, 1) := by decide +kernel
theorem dX34_made_0 : decode prog_20_method_4_code 0 = .ok (.iconst 4, 1) := by decide +kernel
theorem dX34_made_1 : decode prog_20_method_4_code 1 = .ok (.iconst 2, 1) := by decide +kernel
theorem dX34_made_2 : decode prog_20_method_4_code 2 = .ok (.aload_n 0, 1) := by decide +kernel
theorem dX34_made_3 : decode prog_20_method_4_code 3 = .ok (.getfield 9, 3) := by decide +kernel
theorem dX34_made_6 : decode prog_20_method_4_code 6 = .ok (.arraylength, 1) := by decide +kernel
theorem dX34_made_7 : decode prog_20_method_4_code 7 = .ok (.imul, 1) := by decide +kernel
theorem dX34_made_8 : decode prog_20_method_4_code 8 = .ok (.iadd, 1) := by decide +kernel
theorem dX34_made_9 : decode prog_20_method_4_code 9 = .ok (.ireturn, 1) := by decide +kernel
theorem dX34_size_0 : decode prog_20_method_3_code 0 = .ok (.aload_n 0, 1) := by decide +kernel
theorem dX34_size_1 : decode prog_20_method_3_code 1 = .ok (.getfield 9, 3) := by decide +kernel
theorem dX34_size_4 : decode prog_20_method_3_code 4 = .ok (.arraylength, 1) := by decide +kernel
theorem dX34_size_5 : decode prog_20_method_3_code 5 = .ok (.ireturn, 1) := by decide +kernel
theorem dX34_init_0 : decode prog_20_method_1_code 0 = .ok (.aload_n 0, 1) := by decide +kernel
theorem dX34_init_1 : decode prog_20_method_1_code 1 = .ok (.invokespecial 3, 3) := by decide +kernel
theorem dX34_init_4 : decode prog_20_method_1_code 4 = .ok (.aload_n 0, 1) := by decide +kernel
theorem dX34_init_5 : decode prog_20_method_1_code 5 = .ok (.aload_n 1, 1) := by decide +kernel
theorem dX34_init_6 : decode prog_20_method_1_code 6 = .ok (.putfield 9, 3) := by decide +kernel
theorem dX34_init_9 : decode prog_20_method_1_code 9 = .ok (.iconst 0, 1) := by decide +kernel
theorem dX34_init_10 : decode prog_20_method_1_code 10 = .ok (.istore_n 2, 1) := by decide +kernel
theorem dX34_init_11 : decode prog_20_method_1_code 11 = .ok (.iconst 1, 1) := by decide +kernel
theorem dX34_init_12 : decode prog_20_method_1_code 12 = .ok (.istore_n 3, 1) := by decide +kernel
theorem dX34_init_13 : decode prog_20_method_1_code 13 = .ok (.iconst 0, 1) := by decide +kernel
theorem dX34_init_14 : decode prog_20_method_1_code 14 = .ok (.istore 4, 2) := by decide +kernel
theorem dX34_init_16 : decode prog_20_method_1_code 16 = .ok (.iload 4, 2) := by decide +kernel
theorem dX34_init_18 : decode prog_20_method_1_code 18 = .ok (.aload_n 1, 1) := by decide +kernel
theorem dX34_init_19 : decode prog_20_method_1_code 19 = .ok (.arraylength, 1) := by decide +kernel
theorem dX34_init_20 : decode prog_20_method_1_code 20 = .ok (.if_icmp .ge 31, 3) := by decide +kernel
theorem dX34_init_23 : decode prog_20_method_1_code 23 = .ok (.iload_n 2, 1) := by decide +kernel
theorem dX34_init_24 : decode prog_20_method_1_code 24 = .ok (.aload_n 1, 1) := by decide +kernel
theorem dX34_init_25 : decode prog_20_method_1_code 25 = .ok (.iload 4, 2) := by decide +kernel
theorem dX34_init_27 : decode prog_20_method_1_code 27 = .ok (.aaload, 1) := by decide +kernel
theorem dX34_init_28 : decode prog_20_method_1_code 28 = .ok (.invokevirtual 15, 3) := by decide +kernel
theorem dX34_init_31 : decode prog_20_method_1_code 31 = .ok (.invokestatic 19, 3) := by decide +kernel
theorem dX34_init_34 : decode prog_20_method_1_code 34 = .ok (.istore_n 2, 1) := by decide +kernel
theorem dX34_init_35 : decode prog_20_method_1_code 35 = .ok (.iload_n 3, 1) := by decide +kernel
theorem dX34_init_36 : decode prog_20_method_1_code 36 = .ok (.aload_n 1, 1) := by decide +kernel
theorem dX34_init_37 : decode prog_20_method_1_code 37 = .ok (.iload 4, 2) := by decide +kernel
theorem dX34_init_39 : decode prog_20_method_1_code 39 = .ok (.aaload, 1) := by decide +kernel
theorem dX34_init_40 : decode prog_20_method_1_code 40 = .ok (.invokevirtual 25, 3) := by decide +kernel
theorem dX34_init_43 : decode prog_20_method_1_code 43 = .ok (.iadd, 1) := by decide +kernel
theorem dX34_init_44 : decode prog_20_method_1_code 44 = .ok (.istore_n 3, 1) := by decide +kernel
theorem dX34_init_45 : decode prog_20_method_1_code 45 = .ok (.iinc 4 1, 3) := by decide +kernel
theorem dX34_init_48 : decode prog_20_method_1_code 48 = .ok (.goto (-32), 3) := by decide +kernel
theorem dX34_init_51 : decode prog_20_method_1_code 51 = .ok (.aload_n 0, 1) := by decide +kernel
theorem dX34_init_52 : decode prog_20_method_1_code 52 = .ok (.iload_n 2, 1) := by decide +kernel
theorem dX34_init_53 : decode prog_20_method_1_code 53 = .ok (.iconst 1, 1) := by decide +kernel
theorem dX34_init_54 : decode prog_20_method_1_code 54 = .ok (.iadd, 1) := by decide +kernel
theorem dX34_init_55 : decode prog_20_method_1_code 55 = .ok (.putfield 28, 3) := by decide +kernel
theorem dX34_init_58 : decode prog_20_method_1_code 58 = .ok (.aload_n 0, 1) := by decide +kernel
theorem dX34_init_59 : decode prog_20_method_1_code 59 = .ok (.iload_n 3, 1) := by decide +kernel
theorem dX34_init_60 : decode prog_20_method_1_code 60 = .ok (.putfield 31, 3) := by decide +kernel
theorem dX34_init_63 : decode prog_20_method_1_code 63 = .ok (.return_, 1) := by decide +kernel
theorem dX34_depth_0 : decode prog_20_method_5_code 0 = .ok (.aload_n 0, 1) := by decide +kernel
theorem dX34_depth_1 : decode prog_20_method_5_code 1 = .ok (.getfield 28, 3) := by decide +kernel
theorem dX34_depth_4 : decode prog_20_method_5_code 4 = .ok (.ireturn, 1) := by decide +kernel
theorem dX34_bulk_0 : decode prog_20_method_6_code 0 = .ok (.aload_n 0, 1) := by decide +kernel
theorem dX34_bulk_1 : decode prog_20_method_6_code 1 = .ok (.getfield 31, 3) := by decide +kernel
theorem dX34_bulk_4 : decode prog_20_method_6_code 4 = .ok (.ireturn, 1) := by decide +kernel
theorem dX34_kind_0 : decode prog_20_method_2_code 0 = .ok (.iconst 3, 1) := by decide +kernel
theorem dX34_kind_1 : decode prog_20_method_2_code 1 = .ok (.ireturn, 1) := by decide +kernel
theorem dX34_same_0 : decode prog_20_method_7_code 0 = .ok (.aload_n 1, 1) := by decide +kernel
theorem dX34_same_1 : decode prog_20_method_7_code 1 = .ok (.instanceof 10, 3) := by decide +kernel
theorem dX34_same_4 : decode prog_20_method_7_code 4 = .ok (.ifCond .eq 21, 3) := by decide +kernel
theorem dX34_same_7 : decode prog_20_method_7_code 7 = .ok (.aload_n 1, 1) := by decide +kernel
theorem dX34_same_8 : decode prog_20_method_7_code 8 = .ok (.checkcast 10, 3) := by decide +kernel
theorem dX34_same_11 : decode prog_20_method_7_code 11 = .ok (.astore_n 2, 1) := by decide +kernel
theorem dX34_same_12 : decode prog_20_method_7_code 12 = .ok (.aload_n 2, 1) := by decide +kernel
theorem dX34_same_13 : decode prog_20_method_7_code 13 = .ok (.getfield 9, 3) := by decide +kernel
theorem dX34_same_16 : decode prog_20_method_7_code 16 = .ok (.arraylength, 1) := by decide +kernel
theorem dX34_same_17 : decode prog_20_method_7_code 17 = .ok (.aload_n 0, 1) := by decide +kernel
theorem dX34_same_18 : decode prog_20_method_7_code 18 = .ok (.getfield 9, 3) := by decide +kernel
theorem dX34_same_21 : decode prog_20_method_7_code 21 = .ok (.arraylength, 1) := by decide +kernel
theorem dX34_same_22 : decode prog_20_method_7_code 22 = .ok (.if_icmp .eq 5, 3) := by decide +kernel
theorem dX34_same_25 : decode prog_20_method_7_code 25 = .ok (.iconst 0, 1) := by decide +kernel
theorem dX34_same_26 : decode prog_20_method_7_code 26 = .ok (.ireturn, 1) := by decide +kernel
theorem dX34_same_27 : decode prog_20_method_7_code 27 = .ok (.iconst 1, 1) := by decide +kernel
theorem dX34_same_28 : decode prog_20_method_7_code 28 = .ok (.istore_n 3, 1) := by decide +kernel
theorem dX34_same_29 : decode prog_20_method_7_code 29 = .ok (.iconst 0, 1) := by decide +kernel
theorem dX34_same_30 : decode prog_20_method_7_code 30 = .ok (.istore 4, 2) := by decide +kernel
theorem dX34_same_32 : decode prog_20_method_7_code 32 = .ok (.iload_n 3, 1) := by decide +kernel
theorem dX34_same_33 : decode prog_20_method_7_code 33 = .ok (.ifCond .eq 37, 3) := by decide +kernel
theorem dX34_same_36 : decode prog_20_method_7_code 36 = .ok (.iload 4, 2) := by decide +kernel
theorem dX34_same_38 : decode prog_20_method_7_code 38 = .ok (.aload_n 0, 1) := by decide +kernel
theorem dX34_same_39 : decode prog_20_method_7_code 39 = .ok (.getfield 9, 3) := by decide +kernel
theorem dX34_same_42 : decode prog_20_method_7_code 42 = .ok (.arraylength, 1) := by decide +kernel
theorem dX34_same_43 : decode prog_20_method_7_code 43 = .ok (.if_icmp .ge 27, 3) := by decide +kernel
theorem dX34_same_46 : decode prog_20_method_7_code 46 = .ok (.aload_n 0, 1) := by decide +kernel
theorem dX34_same_47 : decode prog_20_method_7_code 47 = .ok (.getfield 9, 3) := by decide +kernel
theorem dX34_same_50 : decode prog_20_method_7_code 50 = .ok (.iload 4, 2) := by decide +kernel
theorem dX34_same_52 : decode prog_20_method_7_code 52 = .ok (.aaload, 1) := by decide +kernel
theorem dX34_same_53 : decode prog_20_method_7_code 53 = .ok (.aload_n 2, 1) := by decide +kernel
theorem dX34_same_54 : decode prog_20_method_7_code 54 = .ok (.getfield 9, 3) := by decide +kernel
theorem dX34_same_57 : decode prog_20_method_7_code 57 = .ok (.iload 4, 2) := by decide +kernel
theorem dX34_same_59 : decode prog_20_method_7_code 59 = .ok (.aaload, 1) := by decide +kernel
theorem dX34_same_60 : decode prog_20_method_7_code 60 = .ok (.invokevirtual 33, 3) := by decide +kernel
theorem dX34_same_63 : decode prog_20_method_7_code 63 = .ok (.istore_n 3, 1) := by decide +kernel
theorem dX34_same_64 : decode prog_20_method_7_code 64 = .ok (.iinc 4 1, 3) := by decide +kernel
theorem dX34_same_67 : decode prog_20_method_7_code 67 = .ok (.goto (-35), 3) := by decide +kernel
theorem dX34_same_70 : decode prog_20_method_7_code 70 = .ok (.iload_n 3, 1) := by decide +kernel
theorem dX34_same_71 : decode prog_20_method_7_code 71 = .ok (.ireturn, 1) := by decide +kernel
theorem dX34_form_0 : decode prog_20_method_8_code 0 = .ok (.aload_n 1, 1) := by decide +kernel
theorem dX34_form_1 : decode prog_20_method_8_code 1 = .ok (.bipush 40, 2) := by decide +kernel
theorem dX34_form_3 : decode prog_20_method_8_code 3 = .ok (.invokevirtual 37, 3) := by decide +kernel
theorem dX34_form_6 : decode prog_20_method_8_code 6 = .ok (.iconst 0, 1) := by decide +kernel
theorem dX34_form_7 : decode prog_20_method_8_code 7 = .ok (.istore_n 2, 1) := by decide +kernel
theorem dX34_form_8 : decode prog_20_method_8_code 8 = .ok (.iload_n 2, 1) := by decide +kernel
theorem dX34_form_9 : decode prog_20_method_8_code 9 = .ok (.aload_n 0, 1) := by decide +kernel
theorem dX34_form_10 : decode prog_20_method_8_code 10 = .ok (.getfield 9, 3) := by decide +kernel
theorem dX34_form_13 : decode prog_20_method_8_code 13 = .ok (.arraylength, 1) := by decide +kernel
theorem dX34_form_14 : decode prog_20_method_8_code 14 = .ok (.if_icmp .ge 29, 3) := by decide +kernel
theorem dX34_form_17 : decode prog_20_method_8_code 17 = .ok (.iload_n 2, 1) := by decide +kernel
theorem dX34_form_18 : decode prog_20_method_8_code 18 = .ok (.ifCond .le 9, 3) := by decide +kernel
theorem dX34_form_21 : decode prog_20_method_8_code 21 = .ok (.aload_n 1, 1) := by decide +kernel
theorem dX34_form_22 : decode prog_20_method_8_code 22 = .ok (.bipush 59, 2) := by decide +kernel
theorem dX34_form_24 : decode prog_20_method_8_code 24 = .ok (.invokevirtual 37, 3) := by decide +kernel
theorem dX34_form_27 : decode prog_20_method_8_code 27 = .ok (.aload_n 0, 1) := by decide +kernel
theorem dX34_form_28 : decode prog_20_method_8_code 28 = .ok (.getfield 9, 3) := by decide +kernel
theorem dX34_form_31 : decode prog_20_method_8_code 31 = .ok (.iload_n 2, 1) := by decide +kernel
theorem dX34_form_32 : decode prog_20_method_8_code 32 = .ok (.aaload, 1) := by decide +kernel
theorem dX34_form_33 : decode prog_20_method_8_code 33 = .ok (.aload_n 1, 1) := by decide +kernel
theorem dX34_form_34 : decode prog_20_method_8_code 34 = .ok (.invokevirtual 43, 3) := by decide +kernel
theorem dX34_form_37 : decode prog_20_method_8_code 37 = .ok (.iinc 2 1, 3) := by decide +kernel
theorem dX34_form_40 : decode prog_20_method_8_code 40 = .ok (.goto (-32), 3) := by decide +kernel
theorem dX34_form_43 : decode prog_20_method_8_code 43 = .ok (.aload_n 1, 1) := by decide +kernel
theorem dX34_form_44 : decode prog_20_method_8_code 44 = .ok (.bipush 41, 2) := by decide +kernel
theorem dX34_form_46 : decode prog_20_method_8_code 46 = .ok (.invokevirtual 37, 3) := by decide +kernel
theorem dX34_form_49 : decode prog_20_method_8_code 49 = .ok (.return_, 1) := by decide +kernel
theorem dX34_sum_0 : decode prog_20_method_9_code 0 = .ok (.lload_n 1, 1) := by decide +kernel
theorem dX34_sum_1 : decode prog_20_method_9_code 1 = .ok (.ldc2_w 47, 3) := by decide +kernel
theorem dX34_sum_4 : decode prog_20_method_9_code 4 = .ok (.invokestatic 49, 3) := by decide +kernel
theorem dX34_sum_7 : decode prog_20_method_9_code 7 = .ok (.aload_n 0, 1) := by decide +kernel
theorem dX34_sum_8 : decode prog_20_method_9_code 8 = .ok (.getfield 9, 3) := by decide +kernel
theorem dX34_sum_11 : decode prog_20_method_9_code 11 = .ok (.arraylength, 1) := by decide +kernel
theorem dX34_sum_12 : decode prog_20_method_9_code 12 = .ok (.i2l, 1) := by decide +kernel
theorem dX34_sum_13 : decode prog_20_method_9_code 13 = .ok (.invokestatic 49, 3) := by decide +kernel
theorem dX34_sum_16 : decode prog_20_method_9_code 16 = .ok (.lstore_n 3, 1) := by decide +kernel
theorem dX34_sum_17 : decode prog_20_method_9_code 17 = .ok (.iconst 0, 1) := by decide +kernel
theorem dX34_sum_18 : decode prog_20_method_9_code 18 = .ok (.istore 5, 2) := by decide +kernel
theorem dX34_sum_20 : decode prog_20_method_9_code 20 = .ok (.iload 5, 2) := by decide +kernel
theorem dX34_sum_22 : decode prog_20_method_9_code 22 = .ok (.aload_n 0, 1) := by decide +kernel
theorem dX34_sum_23 : decode prog_20_method_9_code 23 = .ok (.getfield 9, 3) := by decide +kernel
theorem dX34_sum_26 : decode prog_20_method_9_code 26 = .ok (.arraylength, 1) := by decide +kernel
theorem dX34_sum_27 : decode prog_20_method_9_code 27 = .ok (.if_icmp .ge 21, 3) := by decide +kernel
theorem dX34_sum_30 : decode prog_20_method_9_code 30 = .ok (.aload_n 0, 1) := by decide +kernel
theorem dX34_sum_31 : decode prog_20_method_9_code 31 = .ok (.getfield 9, 3) := by decide +kernel
theorem dX34_sum_34 : decode prog_20_method_9_code 34 = .ok (.iload 5, 2) := by decide +kernel
theorem dX34_sum_36 : decode prog_20_method_9_code 36 = .ok (.aaload, 1) := by decide +kernel
theorem dX34_sum_37 : decode prog_20_method_9_code 37 = .ok (.lload_n 3, 1) := by decide +kernel
theorem dX34_sum_38 : decode prog_20_method_9_code 38 = .ok (.invokevirtual 53, 3) := by decide +kernel
theorem dX34_sum_41 : decode prog_20_method_9_code 41 = .ok (.lstore_n 3, 1) := by decide +kernel
theorem dX34_sum_42 : decode prog_20_method_9_code 42 = .ok (.iinc 5 1, 3) := by decide +kernel
theorem dX34_sum_45 : decode prog_20_method_9_code 45 = .ok (.goto (-25), 3) := by decide +kernel
theorem dX34_sum_48 : decode prog_20_method_9_code 48 = .ok (.lload_n 3, 1) := by decide +kernel
theorem dX34_sum_49 : decode prog_20_method_9_code 49 = .ok (.lreturn, 1) := by decide +kernel
theorem dX4_put_0 : decode prog_27_method_2_code 0 = .ok (.aload_n 0, 1) := by decide +kernel
theorem dX4_put_1 : decode prog_27_method_2_code 1 = .ok (.getfield 9, 3) := by decide +kernel
theorem dX4_put_4 : decode prog_27_method_2_code 4 = .ok (.iload_n 1, 1) := by decide +kernel
theorem dX4_put_5 : decode prog_27_method_2_code 5 = .ok (.iload_n 2, 1) := by decide +kernel
theorem dX4_put_6 : decode prog_27_method_2_code 6 = .ok (.iastore, 1) := by decide +kernel
theorem dX4_put_7 : decode prog_27_method_2_code 7 = .ok (.aload_n 0, 1) := by decide +kernel
theorem dX4_put_8 : decode prog_27_method_2_code 8 = .ok (.getfield 20, 3) := by decide +kernel
theorem dX4_put_11 : decode prog_27_method_2_code 11 = .ok (.iload_n 1, 1) := by decide +kernel
theorem dX4_put_12 : decode prog_27_method_2_code 12 = .ok (.aload_n 3, 1) := by decide +kernel
theorem dX4_put_13 : decode prog_27_method_2_code 13 = .ok (.aastore, 1) := by decide +kernel
theorem dX4_put_14 : decode prog_27_method_2_code 14 = .ok (.aload_n 0, 1) := by decide +kernel
theorem dX4_put_15 : decode prog_27_method_2_code 15 = .ok (.getfield 27, 3) := by decide +kernel
theorem dX4_put_18 : decode prog_27_method_2_code 18 = .ok (.iload_n 1, 1) := by decide +kernel
theorem dX4_put_19 : decode prog_27_method_2_code 19 = .ok (.iconst 1, 1) := by decide +kernel
theorem dX4_put_20 : decode prog_27_method_2_code 20 = .ok (.bastore, 1) := by decide +kernel
theorem dX4_put_21 : decode prog_27_method_2_code 21 = .ok (.return_, 1) := by decide +kernel
theorem dX4_same_0 : decode prog_27_method_6_code 0 = .ok (.aload_n 0, 1) := by decide +kernel
theorem dX4_same_1 : decode prog_27_method_6_code 1 = .ok (.getfield 27, 3) := by decide +kernel
theorem dX4_same_4 : decode prog_27_method_6_code 4 = .ok (.iload_n 1, 1) := by decide +kernel
theorem dX4_same_5 : decode prog_27_method_6_code 5 = .ok (.baload, 1) := by decide +kernel
theorem dX4_same_6 : decode prog_27_method_6_code 6 = .ok (.ifCond .eq 12, 3) := by decide +kernel
theorem dX4_same_9 : decode prog_27_method_6_code 9 = .ok (.aload_n 0, 1) := by decide +kernel
theorem dX4_same_10 : decode prog_27_method_6_code 10 = .ok (.getfield 27, 3) := by decide +kernel
theorem dX4_same_13 : decode prog_27_method_6_code 13 = .ok (.iload_n 2, 1) := by decide +kernel
theorem dX4_same_14 : decode prog_27_method_6_code 14 = .ok (.baload, 1) := by decide +kernel
theorem dX4_same_15 : decode prog_27_method_6_code 15 = .ok (.ifCond .ne 24, 3) := by decide +kernel
theorem dX4_same_18 : decode prog_27_method_6_code 18 = .ok (.aload_n 0, 1) := by decide +kernel
theorem dX4_same_19 : decode prog_27_method_6_code 19 = .ok (.getfield 27, 3) := by decide +kernel
theorem dX4_same_22 : decode prog_27_method_6_code 22 = .ok (.iload_n 1, 1) := by decide +kernel
theorem dX4_same_23 : decode prog_27_method_6_code 23 = .ok (.baload, 1) := by decide +kernel
theorem dX4_same_24 : decode prog_27_method_6_code 24 = .ok (.aload_n 0, 1) := by decide +kernel
theorem dX4_same_25 : decode prog_27_method_6_code 25 = .ok (.getfield 27, 3) := by decide +kernel
theorem dX4_same_28 : decode prog_27_method_6_code 28 = .ok (.iload_n 2, 1) := by decide +kernel
theorem dX4_same_29 : decode prog_27_method_6_code 29 = .ok (.baload, 1) := by decide +kernel
theorem dX4_same_30 : decode prog_27_method_6_code 30 = .ok (.if_icmp .ne 7, 3) := by decide +kernel
theorem dX4_same_33 : decode prog_27_method_6_code 33 = .ok (.iconst 1, 1) := by decide +kernel
theorem dX4_same_34 : decode prog_27_method_6_code 34 = .ok (.goto 4, 3) := by decide +kernel
theorem dX4_same_37 : decode prog_27_method_6_code 37 = .ok (.iconst 0, 1) := by decide +kernel
theorem dX4_same_38 : decode prog_27_method_6_code 38 = .ok (.ireturn, 1) := by decide +kernel
theorem dX4_same_39 : decode prog_27_method_6_code 39 = .ok (.aload_n 0, 1) := by decide +kernel
theorem dX4_same_40 : decode prog_27_method_6_code 40 = .ok (.getfield 9, 3) := by decide +kernel
theorem dX4_same_43 : decode prog_27_method_6_code 43 = .ok (.iload_n 1, 1) := by decide +kernel
theorem dX4_same_44 : decode prog_27_method_6_code 44 = .ok (.iaload, 1) := by decide +kernel
theorem dX4_same_45 : decode prog_27_method_6_code 45 = .ok (.aload_n 0, 1) := by decide +kernel
theorem dX4_same_46 : decode prog_27_method_6_code 46 = .ok (.getfield 20, 3) := by decide +kernel
theorem dX4_same_49 : decode prog_27_method_6_code 49 = .ok (.iload_n 1, 1) := by decide +kernel
theorem dX4_same_50 : decode prog_27_method_6_code 50 = .ok (.aaload, 1) := by decide +kernel
theorem dX4_same_51 : decode prog_27_method_6_code 51 = .ok (.aload_n 0, 1) := by decide +kernel
theorem dX4_same_52 : decode prog_27_method_6_code 52 = .ok (.getfield 9, 3) := by decide +kernel
theorem dX4_same_55 : decode prog_27_method_6_code 55 = .ok (.iload_n 2, 1) := by decide +kernel
theorem dX4_same_56 : decode prog_27_method_6_code 56 = .ok (.iaload, 1) := by decide +kernel
theorem dX4_same_57 : decode prog_27_method_6_code 57 = .ok (.aload_n 0, 1) := by decide +kernel
theorem dX4_same_58 : decode prog_27_method_6_code 58 = .ok (.getfield 20, 3) := by decide +kernel
theorem dX4_same_61 : decode prog_27_method_6_code 61 = .ok (.iload_n 2, 1) := by decide +kernel
theorem dX4_same_62 : decode prog_27_method_6_code 62 = .ok (.aaload, 1) := by decide +kernel
theorem dX4_same_63 : decode prog_27_method_6_code 63 = .ok (.invokestatic 48, 3) := by decide +kernel
theorem dX4_same_66 : decode prog_27_method_6_code 66 = .ok (.ireturn, 1) := by decide +kernel
theorem dX5_one_0 : decode prog_28_method_8_code 0 = .ok (.aload_n 0, 1) := by decide +kernel
theorem dX5_one_1 : decode prog_28_method_8_code 1 = .ok (.getfield 9, 3) := by decide +kernel
theorem dX5_one_4 : decode prog_28_method_8_code 4 = .ok (.getfield 36, 3) := by decide +kernel
theorem dX5_one_7 : decode prog_28_method_8_code 7 = .ok (.iconst 1, 1) := by decide +kernel
theorem dX5_one_8 : decode prog_28_method_8_code 8 = .ok (.isub, 1) := by decide +kernel
theorem dX5_one_9 : decode prog_28_method_8_code 9 = .ok (.istore_n 3, 1) := by decide +kernel
theorem dX5_one_10 : decode prog_28_method_8_code 10 = .ok (.aload_n 0, 1) := by decide +kernel
theorem dX5_one_11 : decode prog_28_method_8_code 11 = .ok (.getfield 9, 3) := by decide +kernel
theorem dX5_one_14 : decode prog_28_method_8_code 14 = .ok (.getfield 30, 3) := by decide +kernel
theorem dX5_one_17 : decode prog_28_method_8_code 17 = .ok (.iload_n 3, 1) := by decide +kernel
theorem dX5_one_18 : decode prog_28_method_8_code 18 = .ok (.aaload, 1) := by decide +kernel
theorem dX5_one_19 : decode prog_28_method_8_code 19 = .ok (.astore 4, 2) := by decide +kernel
theorem dX5_one_21 : decode prog_28_method_8_code 21 = .ok (.aload 4, 2) := by decide +kernel
theorem dX5_one_23 : decode prog_28_method_8_code 23 = .ok (.instanceof 43, 3) := by decide +kernel
theorem dX5_one_26 : decode prog_28_method_8_code 26 = .ok (.ifCond .eq 13, 3) := by decide +kernel
theorem dX5_one_29 : decode prog_28_method_8_code 29 = .ok (.aload_n 0, 1) := by decide +kernel
theorem dX5_one_30 : decode prog_28_method_8_code 30 = .ok (.getfield 9, 3) := by decide +kernel
theorem dX5_one_33 : decode prog_28_method_8_code 33 = .ok (.iconst 3, 1) := by decide +kernel
theorem dX5_one_34 : decode prog_28_method_8_code 34 = .ok (.iload_n 2, 1) := by decide +kernel
theorem dX5_one_35 : decode prog_28_method_8_code 35 = .ok (.invokevirtual 45, 3) := by decide +kernel
theorem dX5_one_38 : decode prog_28_method_8_code 38 = .ok (.athrow, 1) := by decide +kernel
theorem dX5_one_39 : decode prog_28_method_8_code 39 = .ok (.aload 4, 2) := by decide +kernel
theorem dX5_one_41 : decode prog_28_method_8_code 41 = .ok (.ifnonnull 46, 3) := by decide +kernel
theorem dX5_one_44 : decode prog_28_method_8_code 44 = .ok (.aload_n 0, 1) := by decide +kernel
theorem dX5_one_45 : decode prog_28_method_8_code 45 = .ok (.getfield 9, 3) := by decide +kernel
theorem dX5_one_48 : decode prog_28_method_8_code 48 = .ok (.iload_n 1, 1) := by decide +kernel
theorem dX5_one_49 : decode prog_28_method_8_code 49 = .ok (.ifCond .eq 23, 3) := by decide +kernel
theorem dX5_one_52 : decode prog_28_method_8_code 52 = .ok (.aload_n 0, 1) := by decide +kernel
theorem dX5_one_53 : decode prog_28_method_8_code 53 = .ok (.getfield 9, 3) := by decide +kernel
theorem dX5_one_56 : decode prog_28_method_8_code 56 = .ok (.getfield 40, 3) := by decide +kernel
theorem dX5_one_59 : decode prog_28_method_8_code 59 = .ok (.iload_n 3, 1) := by decide +kernel
theorem dX5_one_60 : decode prog_28_method_8_code 60 = .ok (.iaload, 1) := by decide +kernel
theorem dX5_one_61 : decode prog_28_method_8_code 61 = .ok (.ifCond .ne 7, 3) := by decide +kernel
theorem dX5_one_64 : decode prog_28_method_8_code 64 = .ok (.iconst 1, 1) := by decide +kernel
theorem dX5_one_65 : decode prog_28_method_8_code 65 = .ok (.goto 17, 3) := by decide +kernel
theorem dX5_one_68 : decode prog_28_method_8_code 68 = .ok (.iconst 0, 1) := by decide +kernel
theorem dX5_one_69 : decode prog_28_method_8_code 69 = .ok (.goto 13, 3) := by decide +kernel
theorem dX5_one_72 : decode prog_28_method_8_code 72 = .ok (.aload_n 0, 1) := by decide +kernel
theorem dX5_one_73 : decode prog_28_method_8_code 73 = .ok (.getfield 9, 3) := by decide +kernel
theorem dX5_one_76 : decode prog_28_method_8_code 76 = .ok (.getfield 40, 3) := by decide +kernel
theorem dX5_one_79 : decode prog_28_method_8_code 79 = .ok (.iload_n 3, 1) := by decide +kernel
theorem dX5_one_80 : decode prog_28_method_8_code 80 = .ok (.iaload, 1) := by decide +kernel
theorem dX5_one_81 : decode prog_28_method_8_code 81 = .ok (.ineg, 1) := by decide +kernel
theorem dX5_one_82 : decode prog_28_method_8_code 82 = .ok (.iconst 1, 1) := by decide +kernel
theorem dX5_one_83 : decode prog_28_method_8_code 83 = .ok (.invokevirtual 53, 3) := by decide +kernel
theorem dX5_one_86 : decode prog_28_method_8_code 86 = .ok (.return_, 1) := by decide +kernel
theorem dX5_one_87 : decode prog_28_method_8_code 87 = .ok (.iload_n 1, 1) := by decide +kernel
theorem dX5_one_88 : decode prog_28_method_8_code 88 = .ok (.ifCond .eq 9, 3) := by decide +kernel
theorem dX5_one_91 : decode prog_28_method_8_code 91 = .ok (.sipush 317, 3) := by decide +kernel
theorem dX5_one_94 : decode prog_28_method_8_code 94 = .ok (.goto 5, 3) := by decide +kernel
theorem dX5_one_97 : decode prog_28_method_8_code 97 = .ok (.bipush 45, 2) := by decide +kernel
theorem dX5_one_99 : decode prog_28_method_8_code 99 = .ok (.istore 5, 2) := by decide +kernel
theorem dX5_one_101 : decode prog_28_method_8_code 101 = .ok (.aload 4, 2) := by decide +kernel
theorem dX5_one_103 : decode prog_28_method_8_code 103 = .ok (.instanceof 25, 3) := by decide +kernel
theorem dX5_one_106 : decode prog_28_method_8_code 106 = .ok (.ifCond .eq 42, 3) := by decide +kernel
theorem dX5_one_109 : decode prog_28_method_8_code 109 = .ok (.aload 4, 2) := by decide +kernel
theorem dX5_one_111 : decode prog_28_method_8_code 111 = .ok (.checkcast 25, 3) := by decide +kernel
theorem dX5_one_114 : decode prog_28_method_8_code 114 = .ok (.astore 6, 2) := by decide +kernel
theorem dX5_one_116 : decode prog_28_method_8_code 116 = .ok (.aload_n 0, 1) := by decide +kernel
theorem dX5_one_117 : decode prog_28_method_8_code 117 = .ok (.getfield 9, 3) := by decide +kernel
theorem dX5_one_120 : decode prog_28_method_8_code 120 = .ok (.new 25, 3) := by decide +kernel
theorem dX5_one_123 : decode prog_28_method_8_code 123 = .ok (.dup, 1) := by decide +kernel
theorem dX5_one_124 : decode prog_28_method_8_code 124 = .ok (.iload 5, 2) := by decide +kernel
theorem dX5_one_126 : decode prog_28_method_8_code 126 = .ok (.aconst_null, 1) := by decide +kernel
theorem dX5_one_127 : decode prog_28_method_8_code 127 = .ok (.iconst 0, 1) := by decide +kernel
theorem dX5_one_128 : decode prog_28_method_8_code 128 = .ok (.aload 6, 2) := by decide +kernel
theorem dX5_one_130 : decode prog_28_method_8_code 130 = .ok (.getfield 27, 3) := by decide +kernel
theorem dX5_one_133 : decode prog_28_method_8_code 133 = .ok (.iconst 0, 1) := by decide +kernel
theorem dX5_one_134 : decode prog_28_method_8_code 134 = .ok (.invokestatic 68, 3) := by decide +kernel
theorem dX5_one_137 : decode prog_28_method_8_code 137 = .ok (.invokespecial 72, 3) := by decide +kernel
theorem dX5_one_140 : decode prog_28_method_8_code 140 = .ok (.iconst 1, 1) := by decide +kernel
theorem dX5_one_141 : decode prog_28_method_8_code 141 = .ok (.iload_n 2, 1) := by decide +kernel
theorem dX5_one_142 : decode prog_28_method_8_code 142 = .ok (.invokevirtual 61, 3) := by decide +kernel
theorem dX5_one_145 : decode prog_28_method_8_code 145 = .ok (.goto 22, 3) := by decide +kernel
theorem dX5_one_148 : decode prog_28_method_8_code 148 = .ok (.aload_n 0, 1) := by decide +kernel
theorem dX5_one_149 : decode prog_28_method_8_code 149 = .ok (.getfield 9, 3) := by decide +kernel
theorem dX5_one_152 : decode prog_28_method_8_code 152 = .ok (.iload 5, 2) := by decide +kernel
theorem dX5_one_154 : decode prog_28_method_8_code 154 = .ok (.aconst_null, 1) := by decide +kernel
theorem dX5_one_155 : decode prog_28_method_8_code 155 = .ok (.iconst 0, 1) := by decide +kernel
theorem dX5_one_156 : decode prog_28_method_8_code 156 = .ok (.aload 4, 2) := by decide +kernel
theorem dX5_one_158 : decode prog_28_method_8_code 158 = .ok (.iconst 0, 1) := by decide +kernel
theorem dX5_one_159 : decode prog_28_method_8_code 159 = .ok (.invokestatic 57, 3) := by decide +kernel
theorem dX5_one_162 : decode prog_28_method_8_code 162 = .ok (.iconst 1, 1) := by decide +kernel
theorem dX5_one_163 : decode prog_28_method_8_code 163 = .ok (.iload_n 2, 1) := by decide +kernel
theorem dX5_one_164 : decode prog_28_method_8_code 164 = .ok (.invokevirtual 61, 3) := by decide +kernel
theorem dX5_one_167 : decode prog_28_method_8_code 167 = .ok (.return_, 1) := by decide +kernel
theorem dX5_rows_0 : decode prog_28_method_3_code 0 = .ok (.aload_n 1, 1) := by decide +kernel
theorem dX5_rows_1 : decode prog_28_method_3_code 1 = .ok (.ifnonnull 8, 3) := by decide +kernel
theorem dX5_rows_4 : decode prog_28_method_3_code 4 = .ok (.aload_n 3, 1) := by decide +kernel
theorem dX5_rows_5 : decode prog_28_method_3_code 5 = .ok (.arraylength, 1) := by decide +kernel
theorem dX5_rows_6 : decode prog_28_method_3_code 6 = .ok (.goto 5, 3) := by decide +kernel
theorem dX5_rows_9 : decode prog_28_method_3_code 9 = .ok (.aload_n 1, 1) := by decide +kernel
theorem dX5_rows_10 : decode prog_28_method_3_code 10 = .ok (.arraylength, 1) := by decide +kernel
theorem dX5_rows_11 : decode prog_28_method_3_code 11 = .ok (.istore 5, 2) := by decide +kernel
theorem dX5_rows_13 : decode prog_28_method_3_code 13 = .ok (.iload 5, 2) := by decide +kernel
theorem dX5_rows_15 : decode prog_28_method_3_code 15 = .ok (.newarray .int, 2) := by decide +kernel
theorem dX5_rows_17 : decode prog_28_method_3_code 17 = .ok (.astore 6, 2) := by decide +kernel
theorem dX5_rows_19 : decode prog_28_method_3_code 19 = .ok (.iconst 0, 1) := by decide +kernel
theorem dX5_rows_20 : decode prog_28_method_3_code 20 = .ok (.istore 7, 2) := by decide +kernel
theorem dX5_rows_22 : decode prog_28_method_3_code 22 = .ok (.iload 7, 2) := by decide +kernel
theorem dX5_rows_24 : decode prog_28_method_3_code 24 = .ok (.iload 5, 2) := by decide +kernel
theorem dX5_rows_26 : decode prog_28_method_3_code 26 = .ok (.if_icmp .ge 43, 3) := by decide +kernel
theorem dX5_rows_29 : decode prog_28_method_3_code 29 = .ok (.aload 6, 2) := by decide +kernel
theorem dX5_rows_31 : decode prog_28_method_3_code 31 = .ok (.iload 7, 2) := by decide +kernel
theorem dX5_rows_33 : decode prog_28_method_3_code 33 = .ok (.iload_n 0, 1) := by decide +kernel
theorem dX5_rows_34 : decode prog_28_method_3_code 34 = .ok (.aload_n 1, 1) := by decide +kernel
theorem dX5_rows_35 : decode prog_28_method_3_code 35 = .ok (.ifnonnull 7, 3) := by decide +kernel
theorem dX5_rows_38 : decode prog_28_method_3_code 38 = .ok (.iload_n 2, 1) := by decide +kernel
theorem dX5_rows_39 : decode prog_28_method_3_code 39 = .ok (.goto 7, 3) := by decide +kernel
theorem dX5_rows_42 : decode prog_28_method_3_code 42 = .ok (.aload_n 1, 1) := by decide +kernel
theorem dX5_rows_43 : decode prog_28_method_3_code 43 = .ok (.iload 7, 2) := by decide +kernel
theorem dX5_rows_45 : decode prog_28_method_3_code 45 = .ok (.iaload, 1) := by decide +kernel
theorem dX5_rows_46 : decode prog_28_method_3_code 46 = .ok (.aload_n 3, 1) := by decide +kernel
theorem dX5_rows_47 : decode prog_28_method_3_code 47 = .ok (.ifnonnull 8, 3) := by decide +kernel
theorem dX5_rows_50 : decode prog_28_method_3_code 50 = .ok (.iload 4, 2) := by decide +kernel
theorem dX5_rows_52 : decode prog_28_method_3_code 52 = .ok (.goto 7, 3) := by decide +kernel
theorem dX5_rows_55 : decode prog_28_method_3_code 55 = .ok (.aload_n 3, 1) := by decide +kernel
theorem dX5_rows_56 : decode prog_28_method_3_code 56 = .ok (.iload 7, 2) := by decide +kernel
theorem dX5_rows_58 : decode prog_28_method_3_code 58 = .ok (.iaload, 1) := by decide +kernel
theorem dX5_rows_59 : decode prog_28_method_3_code 59 = .ok (.invokestatic 15, 3) := by decide +kernel
theorem dX5_rows_62 : decode prog_28_method_3_code 62 = .ok (.iastore, 1) := by decide +kernel
theorem dX5_rows_63 : decode prog_28_method_3_code 63 = .ok (.iinc 7 1, 3) := by decide +kernel
theorem dX5_rows_66 : decode prog_28_method_3_code 66 = .ok (.goto (-44), 3) := by decide +kernel
theorem dX5_rows_69 : decode prog_28_method_3_code 69 = .ok (.aload 6, 2) := by decide +kernel
theorem dX5_rows_71 : decode prog_28_method_3_code 71 = .ok (.areturn, 1) := by decide +kernel
theorem dX5_of_0 : decode prog_28_method_2_code 0 = .ok (.iload_n 0, 1) := by decide +kernel
theorem dX5_of_1 : decode prog_28_method_2_code 1 = .ok (.lookupswitch 190 #[(37, 123), (38, 127), (42, 115), (43, 107), (45, 111), (47, 119), (60, 135), (62, 146), (124, 131), (289, 168), (316, 179), (317, 157)], 107) := by decide +kernel
theorem dX5_of_108 : decode prog_28_method_2_code 108 = .ok (.iload_n 1, 1) := by decide +kernel
theorem dX5_of_109 : decode prog_28_method_2_code 109 = .ok (.iload_n 2, 1) := by decide +kernel
theorem dX5_of_110 : decode prog_28_method_2_code 110 = .ok (.iadd, 1) := by decide +kernel
theorem dX5_of_111 : decode prog_28_method_2_code 111 = .ok (.ireturn, 1) := by decide +kernel
theorem dX5_of_112 : decode prog_28_method_2_code 112 = .ok (.iload_n 1, 1) := by decide +kernel
theorem dX5_of_113 : decode prog_28_method_2_code 113 = .ok (.iload_n 2, 1) := by decide +kernel
theorem dX5_of_114 : decode prog_28_method_2_code 114 = .ok (.isub, 1) := by decide +kernel
theorem dX5_of_115 : decode prog_28_method_2_code 115 = .ok (.ireturn, 1) := by decide +kernel
theorem dX5_of_116 : decode prog_28_method_2_code 116 = .ok (.iload_n 1, 1) := by decide +kernel
theorem dX5_of_117 : decode prog_28_method_2_code 117 = .ok (.iload_n 2, 1) := by decide +kernel
theorem dX5_of_118 : decode prog_28_method_2_code 118 = .ok (.imul, 1) := by decide +kernel
theorem dX5_of_119 : decode prog_28_method_2_code 119 = .ok (.ireturn, 1) := by decide +kernel
theorem dX5_of_120 : decode prog_28_method_2_code 120 = .ok (.iload_n 1, 1) := by decide +kernel
theorem dX5_of_121 : decode prog_28_method_2_code 121 = .ok (.iload_n 2, 1) := by decide +kernel
theorem dX5_of_122 : decode prog_28_method_2_code 122 = .ok (.idiv, 1) := by decide +kernel
theorem dX5_of_123 : decode prog_28_method_2_code 123 = .ok (.ireturn, 1) := by decide +kernel
theorem dX5_of_124 : decode prog_28_method_2_code 124 = .ok (.iload_n 1, 1) := by decide +kernel
theorem dX5_of_125 : decode prog_28_method_2_code 125 = .ok (.iload_n 2, 1) := by decide +kernel
theorem dX5_of_126 : decode prog_28_method_2_code 126 = .ok (.irem, 1) := by decide +kernel
theorem dX5_of_127 : decode prog_28_method_2_code 127 = .ok (.ireturn, 1) := by decide +kernel
theorem dX5_of_128 : decode prog_28_method_2_code 128 = .ok (.iload_n 1, 1) := by decide +kernel
theorem dX5_of_129 : decode prog_28_method_2_code 129 = .ok (.iload_n 2, 1) := by decide +kernel
theorem dX5_of_130 : decode prog_28_method_2_code 130 = .ok (.iand, 1) := by decide +kernel
theorem dX5_of_131 : decode prog_28_method_2_code 131 = .ok (.ireturn, 1) := by decide +kernel
theorem dX5_of_132 : decode prog_28_method_2_code 132 = .ok (.iload_n 1, 1) := by decide +kernel
theorem dX5_of_133 : decode prog_28_method_2_code 133 = .ok (.iload_n 2, 1) := by decide +kernel
theorem dX5_of_134 : decode prog_28_method_2_code 134 = .ok (.ior, 1) := by decide +kernel
theorem dX5_of_135 : decode prog_28_method_2_code 135 = .ok (.ireturn, 1) := by decide +kernel
theorem dX5_of_136 : decode prog_28_method_2_code 136 = .ok (.iload_n 1, 1) := by decide +kernel
theorem dX5_of_137 : decode prog_28_method_2_code 137 = .ok (.iload_n 2, 1) := by decide +kernel
theorem dX5_of_138 : decode prog_28_method_2_code 138 = .ok (.if_icmp .ge 7, 3) := by decide +kernel
theorem dX5_of_141 : decode prog_28_method_2_code 141 = .ok (.iconst 1, 1) := by decide +kernel
theorem dX5_of_142 : decode prog_28_method_2_code 142 = .ok (.goto 4, 3) := by decide +kernel
theorem dX5_of_145 : decode prog_28_method_2_code 145 = .ok (.iconst 0, 1) := by decide +kernel
theorem dX5_of_146 : decode prog_28_method_2_code 146 = .ok (.ireturn, 1) := by decide +kernel
theorem dX5_of_147 : decode prog_28_method_2_code 147 = .ok (.iload_n 1, 1) := by decide +kernel
theorem dX5_of_148 : decode prog_28_method_2_code 148 = .ok (.iload_n 2, 1) := by decide +kernel
theorem dX5_of_149 : decode prog_28_method_2_code 149 = .ok (.if_icmp .le 7, 3) := by decide +kernel
theorem dX5_of_152 : decode prog_28_method_2_code 152 = .ok (.iconst 1, 1) := by decide +kernel
theorem dX5_of_153 : decode prog_28_method_2_code 153 = .ok (.goto 4, 3) := by decide +kernel
theorem dX5_of_156 : decode prog_28_method_2_code 156 = .ok (.iconst 0, 1) := by decide +kernel
theorem dX5_of_157 : decode prog_28_method_2_code 157 = .ok (.ireturn, 1) := by decide +kernel
theorem dX5_of_158 : decode prog_28_method_2_code 158 = .ok (.iload_n 1, 1) := by decide +kernel
theorem dX5_of_159 : decode prog_28_method_2_code 159 = .ok (.iload_n 2, 1) := by decide +kernel
theorem dX5_of_160 : decode prog_28_method_2_code 160 = .ok (.if_icmp .ne 7, 3) := by decide +kernel
theorem dX5_of_163 : decode prog_28_method_2_code 163 = .ok (.iconst 1, 1) := by decide +kernel
theorem dX5_of_164 : decode prog_28_method_2_code 164 = .ok (.goto 4, 3) := by decide +kernel
theorem dX5_of_167 : decode prog_28_method_2_code 167 = .ok (.iconst 0, 1) := by decide +kernel
theorem dX5_of_168 : decode prog_28_method_2_code 168 = .ok (.ireturn, 1) := by decide +kernel
theorem dX5_of_169 : decode prog_28_method_2_code 169 = .ok (.iload_n 1, 1) := by decide +kernel
theorem dX5_of_170 : decode prog_28_method_2_code 170 = .ok (.iload_n 2, 1) := by decide +kernel
theorem dX5_of_171 : decode prog_28_method_2_code 171 = .ok (.if_icmp .eq 7, 3) := by decide +kernel
theorem dX5_of_174 : decode prog_28_method_2_code 174 = .ok (.iconst 1, 1) := by decide +kernel
theorem dX5_of_175 : decode prog_28_method_2_code 175 = .ok (.goto 4, 3) := by decide +kernel
theorem dX5_of_178 : decode prog_28_method_2_code 178 = .ok (.iconst 0, 1) := by decide +kernel
theorem dX5_of_179 : decode prog_28_method_2_code 179 = .ok (.ireturn, 1) := by decide +kernel
theorem dX5_of_180 : decode prog_28_method_2_code 180 = .ok (.iload_n 1, 1) := by decide +kernel
theorem dX5_of_181 : decode prog_28_method_2_code 181 = .ok (.iload_n 2, 1) := by decide +kernel
theorem dX5_of_182 : decode prog_28_method_2_code 182 = .ok (.if_icmp .gt 7, 3) := by decide +kernel
theorem dX5_of_185 : decode prog_28_method_2_code 185 = .ok (.iconst 1, 1) := by decide +kernel
theorem dX5_of_186 : decode prog_28_method_2_code 186 = .ok (.goto 4, 3) := by decide +kernel
theorem dX5_of_189 : decode prog_28_method_2_code 189 = .ok (.iconst 0, 1) := by decide +kernel
theorem dX5_of_190 : decode prog_28_method_2_code 190 = .ok (.ireturn, 1) := by decide +kernel
theorem dX5_of_191 : decode prog_28_method_2_code 191 = .ok (.iload_n 1, 1) := by decide +kernel
theorem dX5_of_192 : decode prog_28_method_2_code 192 = .ok (.iload_n 2, 1) := by decide +kernel
theorem dX5_of_193 : decode prog_28_method_2_code 193 = .ok (.if_icmp .lt 7, 3) := by decide +kernel
theorem dX5_of_196 : decode prog_28_method_2_code 196 = .ok (.iconst 1, 1) := by decide +kernel
theorem dX5_of_197 : decode prog_28_method_2_code 197 = .ok (.goto 4, 3) := by decide +kernel
theorem dX5_of_200 : decode prog_28_method_2_code 200 = .ok (.iconst 0, 1) := by decide +kernel
theorem dX5_of_201 : decode prog_28_method_2_code 201 = .ok (.ireturn, 1) := by decide +kernel
theorem dX5_tables_0 : decode prog_28_method_7_code 0 = .ok (.aload_n 1, 1) := by decide +kernel
theorem dX5_tables_1 : decode prog_28_method_7_code 1 = .ok (.instanceof 19, 3) := by decide +kernel
theorem dX5_tables_4 : decode prog_28_method_7_code 4 = .ok (.ifCond .eq 10, 3) := by decide +kernel
theorem dX5_tables_7 : decode prog_28_method_7_code 7 = .ok (.aload_n 1, 1) := by decide +kernel
theorem dX5_tables_8 : decode prog_28_method_7_code 8 = .ok (.invokevirtual 77, 3) := by decide +kernel
theorem dX5_tables_11 : decode prog_28_method_7_code 11 = .ok (.goto 7, 3) := by decide +kernel
theorem dX5_tables_14 : decode prog_28_method_7_code 14 = .ok (.aload_n 3, 1) := by decide +kernel
theorem dX5_tables_15 : decode prog_28_method_7_code 15 = .ok (.invokevirtual 77, 3) := by decide +kernel
theorem dX5_tables_18 : decode prog_28_method_7_code 18 = .ok (.istore 5, 2) := by decide +kernel
theorem dX5_tables_20 : decode prog_28_method_7_code 20 = .ok (.iload 5, 2) := by decide +kernel
theorem dX5_tables_22 : decode prog_28_method_7_code 22 = .ok (.anewarray 83, 3) := by decide +kernel
theorem dX5_tables_25 : decode prog_28_method_7_code 25 = .ok (.astore 6, 2) := by decide +kernel
theorem dX5_tables_27 : decode prog_28_method_7_code 27 = .ok (.iconst 0, 1) := by decide +kernel
theorem dX5_tables_28 : decode prog_28_method_7_code 28 = .ok (.istore 7, 2) := by decide +kernel
theorem dX5_tables_30 : decode prog_28_method_7_code 30 = .ok (.iload 7, 2) := by decide +kernel
theorem dX5_tables_32 : decode prog_28_method_7_code 32 = .ok (.iload 5, 2) := by decide +kernel
theorem dX5_tables_34 : decode prog_28_method_7_code 34 = .ok (.if_icmp .ge 33, 3) := by decide +kernel
theorem dX5_tables_37 : decode prog_28_method_7_code 37 = .ok (.aload 6, 2) := by decide +kernel
theorem dX5_tables_39 : decode prog_28_method_7_code 39 = .ok (.iload 7, 2) := by decide +kernel
theorem dX5_tables_41 : decode prog_28_method_7_code 41 = .ok (.iload_n 0, 1) := by decide +kernel
theorem dX5_tables_42 : decode prog_28_method_7_code 42 = .ok (.aload_n 1, 1) := by decide +kernel
theorem dX5_tables_43 : decode prog_28_method_7_code 43 = .ok (.iload 7, 2) := by decide +kernel
theorem dX5_tables_45 : decode prog_28_method_7_code 45 = .ok (.invokestatic 64, 3) := by decide +kernel
theorem dX5_tables_48 : decode prog_28_method_7_code 48 = .ok (.iload_n 2, 1) := by decide +kernel
theorem dX5_tables_49 : decode prog_28_method_7_code 49 = .ok (.aload_n 3, 1) := by decide +kernel
theorem dX5_tables_50 : decode prog_28_method_7_code 50 = .ok (.iload 7, 2) := by decide +kernel
theorem dX5_tables_52 : decode prog_28_method_7_code 52 = .ok (.invokestatic 64, 3) := by decide +kernel
theorem dX5_tables_55 : decode prog_28_method_7_code 55 = .ok (.iload 4, 2) := by decide +kernel
theorem dX5_tables_57 : decode prog_28_method_7_code 57 = .ok (.invokestatic 68, 3) := by decide +kernel
theorem dX5_tables_60 : decode prog_28_method_7_code 60 = .ok (.aastore, 1) := by decide +kernel
theorem dX5_tables_61 : decode prog_28_method_7_code 61 = .ok (.iinc 7 1, 3) := by decide +kernel
theorem dX5_tables_64 : decode prog_28_method_7_code 64 = .ok (.goto (-34), 3) := by decide +kernel
theorem dX5_tables_67 : decode prog_28_method_7_code 67 = .ok (.new 19, 3) := by decide +kernel
theorem dX5_tables_70 : decode prog_28_method_7_code 70 = .ok (.dup, 1) := by decide +kernel
theorem dX5_tables_71 : decode prog_28_method_7_code 71 = .ok (.aload 6, 2) := by decide +kernel
theorem dX5_tables_73 : decode prog_28_method_7_code 73 = .ok (.invokespecial 84, 3) := by decide +kernel
theorem dX5_tables_76 : decode prog_28_method_7_code 76 = .ok (.areturn, 1) := by decide +kernel
theorem dX5_rowOf_0 : decode prog_28_method_4_code 0 = .ok (.aload_n 0, 1) := by decide +kernel
theorem dX5_rowOf_1 : decode prog_28_method_4_code 1 = .ok (.instanceof 19, 3) := by decide +kernel
theorem dX5_rowOf_4 : decode prog_28_method_4_code 4 = .ok (.ifCond .eq 17, 3) := by decide +kernel
theorem dX5_rowOf_7 : decode prog_28_method_4_code 7 = .ok (.aload_n 0, 1) := by decide +kernel
theorem dX5_rowOf_8 : decode prog_28_method_4_code 8 = .ok (.checkcast 19, 3) := by decide +kernel
theorem dX5_rowOf_11 : decode prog_28_method_4_code 11 = .ok (.astore_n 3, 1) := by decide +kernel
theorem dX5_rowOf_12 : decode prog_28_method_4_code 12 = .ok (.aload_n 3, 1) := by decide +kernel
theorem dX5_rowOf_13 : decode prog_28_method_4_code 13 = .ok (.getfield 21, 3) := by decide +kernel
theorem dX5_rowOf_16 : decode prog_28_method_4_code 16 = .ok (.iload_n 1, 1) := by decide +kernel
theorem dX5_rowOf_17 : decode prog_28_method_4_code 17 = .ok (.aaload, 1) := by decide +kernel
theorem dX5_rowOf_18 : decode prog_28_method_4_code 18 = .ok (.goto 23, 3) := by decide +kernel
theorem dX5_rowOf_21 : decode prog_28_method_4_code 21 = .ok (.aload_n 0, 1) := by decide +kernel
theorem dX5_rowOf_22 : decode prog_28_method_4_code 22 = .ok (.instanceof 25, 3) := by decide +kernel
theorem dX5_rowOf_25 : decode prog_28_method_4_code 25 = .ok (.ifCond .eq 15, 3) := by decide +kernel
theorem dX5_rowOf_28 : decode prog_28_method_4_code 28 = .ok (.aload_n 0, 1) := by decide +kernel
theorem dX5_rowOf_29 : decode prog_28_method_4_code 29 = .ok (.checkcast 25, 3) := by decide +kernel
theorem dX5_rowOf_32 : decode prog_28_method_4_code 32 = .ok (.astore_n 2, 1) := by decide +kernel
theorem dX5_rowOf_33 : decode prog_28_method_4_code 33 = .ok (.aload_n 2, 1) := by decide +kernel
theorem dX5_rowOf_34 : decode prog_28_method_4_code 34 = .ok (.getfield 27, 3) := by decide +kernel
theorem dX5_rowOf_37 : decode prog_28_method_4_code 37 = .ok (.goto 4, 3) := by decide +kernel
theorem dX5_rowOf_40 : decode prog_28_method_4_code 40 = .ok (.aconst_null, 1) := by decide +kernel
theorem dX5_rowOf_41 : decode prog_28_method_4_code 41 = .ok (.areturn, 1) := by decide +kernel
theorem dX5_two_0 : decode prog_28_method_5_code 0 = .ok (.aload_n 0, 1) := by decide +kernel
theorem dX5_two_1 : decode prog_28_method_5_code 1 = .ok (.getfield 9, 3) := by decide +kernel
theorem dX5_two_4 : decode prog_28_method_5_code 4 = .ok (.getfield 30, 3) := by decide +kernel
theorem dX5_two_7 : decode prog_28_method_5_code 7 = .ok (.aload_n 0, 1) := by decide +kernel
theorem dX5_two_8 : decode prog_28_method_5_code 8 = .ok (.getfield 9, 3) := by decide +kernel
theorem dX5_two_11 : decode prog_28_method_5_code 11 = .ok (.getfield 36, 3) := by decide +kernel
theorem dX5_two_14 : decode prog_28_method_5_code 14 = .ok (.iconst 2, 1) := by decide +kernel
theorem dX5_two_15 : decode prog_28_method_5_code 15 = .ok (.isub, 1) := by decide +kernel
theorem dX5_two_16 : decode prog_28_method_5_code 16 = .ok (.aaload, 1) := by decide +kernel
theorem dX5_two_17 : decode prog_28_method_5_code 17 = .ok (.astore_n 3, 1) := by decide +kernel
theorem dX5_two_18 : decode prog_28_method_5_code 18 = .ok (.aload_n 0, 1) := by decide +kernel
theorem dX5_two_19 : decode prog_28_method_5_code 19 = .ok (.getfield 9, 3) := by decide +kernel
theorem dX5_two_22 : decode prog_28_method_5_code 22 = .ok (.getfield 30, 3) := by decide +kernel
theorem dX5_two_25 : decode prog_28_method_5_code 25 = .ok (.aload_n 0, 1) := by decide +kernel
theorem dX5_two_26 : decode prog_28_method_5_code 26 = .ok (.getfield 9, 3) := by decide +kernel
theorem dX5_two_29 : decode prog_28_method_5_code 29 = .ok (.getfield 36, 3) := by decide +kernel
theorem dX5_two_32 : decode prog_28_method_5_code 32 = .ok (.iconst 1, 1) := by decide +kernel
theorem dX5_two_33 : decode prog_28_method_5_code 33 = .ok (.isub, 1) := by decide +kernel
theorem dX5_two_34 : decode prog_28_method_5_code 34 = .ok (.aaload, 1) := by decide +kernel
theorem dX5_two_35 : decode prog_28_method_5_code 35 = .ok (.astore 4, 2) := by decide +kernel
theorem dX5_two_37 : decode prog_28_method_5_code 37 = .ok (.aload_n 0, 1) := by decide +kernel
theorem dX5_two_38 : decode prog_28_method_5_code 38 = .ok (.getfield 9, 3) := by decide +kernel
theorem dX5_two_41 : decode prog_28_method_5_code 41 = .ok (.getfield 40, 3) := by decide +kernel
theorem dX5_two_44 : decode prog_28_method_5_code 44 = .ok (.aload_n 0, 1) := by decide +kernel
theorem dX5_two_45 : decode prog_28_method_5_code 45 = .ok (.getfield 9, 3) := by decide +kernel
theorem dX5_two_48 : decode prog_28_method_5_code 48 = .ok (.getfield 36, 3) := by decide +kernel
theorem dX5_two_51 : decode prog_28_method_5_code 51 = .ok (.iconst 2, 1) := by decide +kernel
theorem dX5_two_52 : decode prog_28_method_5_code 52 = .ok (.isub, 1) := by decide +kernel
theorem dX5_two_53 : decode prog_28_method_5_code 53 = .ok (.iaload, 1) := by decide +kernel
theorem dX5_two_54 : decode prog_28_method_5_code 54 = .ok (.istore 5, 2) := by decide +kernel
theorem dX5_two_56 : decode prog_28_method_5_code 56 = .ok (.aload_n 0, 1) := by decide +kernel
theorem dX5_two_57 : decode prog_28_method_5_code 57 = .ok (.getfield 9, 3) := by decide +kernel
theorem dX5_two_60 : decode prog_28_method_5_code 60 = .ok (.getfield 40, 3) := by decide +kernel
theorem dX5_two_63 : decode prog_28_method_5_code 63 = .ok (.aload_n 0, 1) := by decide +kernel
theorem dX5_two_64 : decode prog_28_method_5_code 64 = .ok (.getfield 9, 3) := by decide +kernel
theorem dX5_two_67 : decode prog_28_method_5_code 67 = .ok (.getfield 36, 3) := by decide +kernel
theorem dX5_two_70 : decode prog_28_method_5_code 70 = .ok (.iconst 1, 1) := by decide +kernel
theorem dX5_two_71 : decode prog_28_method_5_code 71 = .ok (.isub, 1) := by decide +kernel
theorem dX5_two_72 : decode prog_28_method_5_code 72 = .ok (.iaload, 1) := by decide +kernel
theorem dX5_two_73 : decode prog_28_method_5_code 73 = .ok (.istore 6, 2) := by decide +kernel
theorem dX5_two_75 : decode prog_28_method_5_code 75 = .ok (.aload_n 3, 1) := by decide +kernel
theorem dX5_two_76 : decode prog_28_method_5_code 76 = .ok (.instanceof 43, 3) := by decide +kernel
theorem dX5_two_79 : decode prog_28_method_5_code 79 = .ok (.ifCond .ne 11, 3) := by decide +kernel
theorem dX5_two_82 : decode prog_28_method_5_code 82 = .ok (.aload 4, 2) := by decide +kernel
theorem dX5_two_84 : decode prog_28_method_5_code 84 = .ok (.instanceof 43, 3) := by decide +kernel
theorem dX5_two_87 : decode prog_28_method_5_code 87 = .ok (.ifCond .eq 13, 3) := by decide +kernel
theorem dX5_two_90 : decode prog_28_method_5_code 90 = .ok (.aload_n 0, 1) := by decide +kernel
theorem dX5_two_91 : decode prog_28_method_5_code 91 = .ok (.getfield 9, 3) := by decide +kernel
theorem dX5_two_94 : decode prog_28_method_5_code 94 = .ok (.iconst 3, 1) := by decide +kernel
theorem dX5_two_95 : decode prog_28_method_5_code 95 = .ok (.iload_n 2, 1) := by decide +kernel
theorem dX5_two_96 : decode prog_28_method_5_code 96 = .ok (.invokevirtual 45, 3) := by decide +kernel
theorem dX5_two_99 : decode prog_28_method_5_code 99 = .ok (.athrow, 1) := by decide +kernel
theorem dX5_two_100 : decode prog_28_method_5_code 100 = .ok (.aload_n 3, 1) := by decide +kernel
theorem dX5_two_101 : decode prog_28_method_5_code 101 = .ok (.aload 4, 2) := by decide +kernel
theorem dX5_two_103 : decode prog_28_method_5_code 103 = .ok (.invokestatic 49, 3) := by decide +kernel
theorem dX5_two_106 : decode prog_28_method_5_code 106 = .ok (.ifCond .ne 13, 3) := by decide +kernel
theorem dX5_two_109 : decode prog_28_method_5_code 109 = .ok (.aload_n 0, 1) := by decide +kernel
theorem dX5_two_110 : decode prog_28_method_5_code 110 = .ok (.getfield 9, 3) := by decide +kernel
theorem dX5_two_113 : decode prog_28_method_5_code 113 = .ok (.iconst 4, 1) := by decide +kernel
theorem dX5_two_114 : decode prog_28_method_5_code 114 = .ok (.iload_n 2, 1) := by decide +kernel
theorem dX5_two_115 : decode prog_28_method_5_code 115 = .ok (.invokevirtual 45, 3) := by decide +kernel
theorem dX5_two_118 : decode prog_28_method_5_code 118 = .ok (.athrow, 1) := by decide +kernel
theorem dX5_two_119 : decode prog_28_method_5_code 119 = .ok (.aload_n 3, 1) := by decide +kernel
theorem dX5_two_120 : decode prog_28_method_5_code 120 = .ok (.ifnonnull 27, 3) := by decide +kernel
theorem dX5_two_123 : decode prog_28_method_5_code 123 = .ok (.aload 4, 2) := by decide +kernel
theorem dX5_two_125 : decode prog_28_method_5_code 125 = .ok (.ifnonnull 22, 3) := by decide +kernel
theorem dX5_two_128 : decode prog_28_method_5_code 128 = .ok (.aload_n 0, 1) := by decide +kernel
theorem dX5_two_129 : decode prog_28_method_5_code 129 = .ok (.getfield 9, 3) := by decide +kernel
theorem dX5_two_132 : decode prog_28_method_5_code 132 = .ok (.iload_n 1, 1) := by decide +kernel
theorem dX5_two_133 : decode prog_28_method_5_code 133 = .ok (.iload 5, 2) := by decide +kernel
theorem dX5_two_135 : decode prog_28_method_5_code 135 = .ok (.iload 6, 2) := by decide +kernel
theorem dX5_two_137 : decode prog_28_method_5_code 137 = .ok (.invokestatic 15, 3) := by decide +kernel
theorem dX5_two_140 : decode prog_28_method_5_code 140 = .ok (.iconst 2, 1) := by decide +kernel
theorem dX5_two_141 : decode prog_28_method_5_code 141 = .ok (.invokevirtual 53, 3) := by decide +kernel
theorem dX5_two_144 : decode prog_28_method_5_code 144 = .ok (.goto 76, 3) := by decide +kernel
theorem dX5_two_147 : decode prog_28_method_5_code 147 = .ok (.aload_n 3, 1) := by decide +kernel
theorem dX5_two_148 : decode prog_28_method_5_code 148 = .ok (.instanceof 19, 3) := by decide +kernel
theorem dX5_two_151 : decode prog_28_method_5_code 151 = .ok (.ifCond .ne 11, 3) := by decide +kernel
theorem dX5_two_154 : decode prog_28_method_5_code 154 = .ok (.aload 4, 2) := by decide +kernel
theorem dX5_two_156 : decode prog_28_method_5_code 156 = .ok (.instanceof 19, 3) := by decide +kernel
theorem dX5_two_159 : decode prog_28_method_5_code 159 = .ok (.ifCond .eq 26, 3) := by decide +kernel
theorem dX5_two_162 : decode prog_28_method_5_code 162 = .ok (.aload_n 0, 1) := by decide +kernel
theorem dX5_two_163 : decode prog_28_method_5_code 163 = .ok (.getfield 9, 3) := by decide +kernel
theorem dX5_two_166 : decode prog_28_method_5_code 166 = .ok (.iload_n 1, 1) := by decide +kernel
theorem dX5_two_167 : decode prog_28_method_5_code 167 = .ok (.aload_n 3, 1) := by decide +kernel
theorem dX5_two_168 : decode prog_28_method_5_code 168 = .ok (.iload 5, 2) := by decide +kernel
theorem dX5_two_170 : decode prog_28_method_5_code 170 = .ok (.aload 4, 2) := by decide +kernel
theorem dX5_two_172 : decode prog_28_method_5_code 172 = .ok (.iload 6, 2) := by decide +kernel
theorem dX5_two_174 : decode prog_28_method_5_code 174 = .ok (.invokestatic 57, 3) := by decide +kernel
theorem dX5_two_177 : decode prog_28_method_5_code 177 = .ok (.iconst 2, 1) := by decide +kernel
theorem dX5_two_178 : decode prog_28_method_5_code 178 = .ok (.iload_n 2, 1) := by decide +kernel
theorem dX5_two_179 : decode prog_28_method_5_code 179 = .ok (.invokevirtual 61, 3) := by decide +kernel
theorem dX5_two_182 : decode prog_28_method_5_code 182 = .ok (.goto 38, 3) := by decide +kernel
theorem dX5_two_185 : decode prog_28_method_5_code 185 = .ok (.aload_n 0, 1) := by decide +kernel
theorem dX5_two_186 : decode prog_28_method_5_code 186 = .ok (.getfield 9, 3) := by decide +kernel
theorem dX5_two_189 : decode prog_28_method_5_code 189 = .ok (.new 25, 3) := by decide +kernel
theorem dX5_two_192 : decode prog_28_method_5_code 192 = .ok (.dup, 1) := by decide +kernel
theorem dX5_two_193 : decode prog_28_method_5_code 193 = .ok (.iload_n 1, 1) := by decide +kernel
theorem dX5_two_194 : decode prog_28_method_5_code 194 = .ok (.aload_n 3, 1) := by decide +kernel
theorem dX5_two_195 : decode prog_28_method_5_code 195 = .ok (.iconst 0, 1) := by decide +kernel
theorem dX5_two_196 : decode prog_28_method_5_code 196 = .ok (.invokestatic 64, 3) := by decide +kernel
theorem dX5_two_199 : decode prog_28_method_5_code 199 = .ok (.iload 5, 2) := by decide +kernel
theorem dX5_two_201 : decode prog_28_method_5_code 201 = .ok (.aload 4, 2) := by decide +kernel
theorem dX5_two_203 : decode prog_28_method_5_code 203 = .ok (.iconst 0, 1) := by decide +kernel
theorem dX5_two_204 : decode prog_28_method_5_code 204 = .ok (.invokestatic 64, 3) := by decide +kernel
theorem dX5_two_207 : decode prog_28_method_5_code 207 = .ok (.iload 6, 2) := by decide +kernel
theorem dX5_two_209 : decode prog_28_method_5_code 209 = .ok (.invokestatic 68, 3) := by decide +kernel
theorem dX5_two_212 : decode prog_28_method_5_code 212 = .ok (.invokespecial 72, 3) := by decide +kernel
theorem dX5_two_215 : decode prog_28_method_5_code 215 = .ok (.iconst 2, 1) := by decide +kernel
theorem dX5_two_216 : decode prog_28_method_5_code 216 = .ok (.iload_n 2, 1) := by decide +kernel
theorem dX5_two_217 : decode prog_28_method_5_code 217 = .ok (.invokevirtual 61, 3) := by decide +kernel
theorem dX5_two_220 : decode prog_28_method_5_code 220 = .ok (.goto 16, 3) := by decide +kernel
theorem dX5_two_223 : decode prog_28_method_5_code 223 = .ok (.astore 7, 2) := by decide +kernel
theorem dX5_two_225 : decode prog_28_method_5_code 225 = .ok (.aload_n 0, 1) := by decide +kernel
theorem dX5_two_226 : decode prog_28_method_5_code 226 = .ok (.getfield 9, 3) := by decide +kernel
theorem dX5_two_229 : decode prog_28_method_5_code 229 = .ok (.bipush 6, 2) := by decide +kernel
theorem dX5_two_231 : decode prog_28_method_5_code 231 = .ok (.iload_n 2, 1) := by decide +kernel
theorem dX5_two_232 : decode prog_28_method_5_code 232 = .ok (.invokevirtual 45, 3) := by decide +kernel
theorem dX5_two_235 : decode prog_28_method_5_code 235 = .ok (.athrow, 1) := by decide +kernel
theorem dX5_two_236 : decode prog_28_method_5_code 236 = .ok (.return_, 1) := by decide +kernel
theorem dX5_areAlike_0 : decode prog_28_method_6_code 0 = .ok (.aload_n 0, 1) := by decide +kernel
theorem dX5_areAlike_1 : decode prog_28_method_6_code 1 = .ok (.ifnull 7, 3) := by decide +kernel
theorem dX5_areAlike_4 : decode prog_28_method_6_code 4 = .ok (.aload_n 1, 1) := by decide +kernel
theorem dX5_areAlike_5 : decode prog_28_method_6_code 5 = .ok (.ifnonnull 5, 3) := by decide +kernel
theorem dX5_areAlike_8 : decode prog_28_method_6_code 8 = .ok (.iconst 1, 1) := by decide +kernel
theorem dX5_areAlike_9 : decode prog_28_method_6_code 9 = .ok (.ireturn, 1) := by decide +kernel
theorem dX5_areAlike_10 : decode prog_28_method_6_code 10 = .ok (.aload_n 0, 1) := by decide +kernel
theorem dX5_areAlike_11 : decode prog_28_method_6_code 11 = .ok (.instanceof 25, 3) := by decide +kernel
theorem dX5_areAlike_14 : decode prog_28_method_6_code 14 = .ok (.ifCond .eq 27, 3) := by decide +kernel
theorem dX5_areAlike_17 : decode prog_28_method_6_code 17 = .ok (.aload_n 1, 1) := by decide +kernel
theorem dX5_areAlike_18 : decode prog_28_method_6_code 18 = .ok (.instanceof 25, 3) := by decide +kernel
theorem dX5_areAlike_21 : decode prog_28_method_6_code 21 = .ok (.ifCond .eq 20, 3) := by decide +kernel
theorem dX5_areAlike_24 : decode prog_28_method_6_code 24 = .ok (.aload_n 0, 1) := by decide +kernel
theorem dX5_areAlike_25 : decode prog_28_method_6_code 25 = .ok (.invokevirtual 77, 3) := by decide +kernel
theorem dX5_areAlike_28 : decode prog_28_method_6_code 28 = .ok (.aload_n 1, 1) := by decide +kernel
theorem dX5_areAlike_29 : decode prog_28_method_6_code 29 = .ok (.invokevirtual 77, 3) := by decide +kernel
theorem dX5_areAlike_32 : decode prog_28_method_6_code 32 = .ok (.if_icmp .ne 7, 3) := by decide +kernel
theorem dX5_areAlike_35 : decode prog_28_method_6_code 35 = .ok (.iconst 1, 1) := by decide +kernel
theorem dX5_areAlike_36 : decode prog_28_method_6_code 36 = .ok (.goto 4, 3) := by decide +kernel
theorem dX5_areAlike_39 : decode prog_28_method_6_code 39 = .ok (.iconst 0, 1) := by decide +kernel
theorem dX5_areAlike_40 : decode prog_28_method_6_code 40 = .ok (.ireturn, 1) := by decide +kernel
theorem dX5_areAlike_41 : decode prog_28_method_6_code 41 = .ok (.aload_n 0, 1) := by decide +kernel
theorem dX5_areAlike_42 : decode prog_28_method_6_code 42 = .ok (.instanceof 19, 3) := by decide +kernel
theorem dX5_areAlike_45 : decode prog_28_method_6_code 45 = .ok (.ifCond .eq 23, 3) := by decide +kernel
theorem dX5_areAlike_48 : decode prog_28_method_6_code 48 = .ok (.aload_n 1, 1) := by decide +kernel
theorem dX5_areAlike_49 : decode prog_28_method_6_code 49 = .ok (.instanceof 19, 3) := by decide +kernel
theorem dX5_areAlike_52 : decode prog_28_method_6_code 52 = .ok (.ifCond .eq 16, 3) := by decide +kernel
theorem dX5_areAlike_55 : decode prog_28_method_6_code 55 = .ok (.aload_n 0, 1) := by decide +kernel
theorem dX5_areAlike_56 : decode prog_28_method_6_code 56 = .ok (.invokevirtual 77, 3) := by decide +kernel
theorem dX5_areAlike_59 : decode prog_28_method_6_code 59 = .ok (.aload_n 1, 1) := by decide +kernel
theorem dX5_areAlike_60 : decode prog_28_method_6_code 60 = .ok (.invokevirtual 77, 3) := by decide +kernel
theorem dX5_areAlike_63 : decode prog_28_method_6_code 63 = .ok (.if_icmp .eq 5, 3) := by decide +kernel
theorem dX5_areAlike_66 : decode prog_28_method_6_code 66 = .ok (.iconst 0, 1) := by decide +kernel
theorem dX5_areAlike_67 : decode prog_28_method_6_code 67 = .ok (.ireturn, 1) := by decide +kernel
theorem dX5_areAlike_68 : decode prog_28_method_6_code 68 = .ok (.aload_n 0, 1) := by decide +kernel
theorem dX5_areAlike_69 : decode prog_28_method_6_code 69 = .ok (.instanceof 19, 3) := by decide +kernel
theorem dX5_areAlike_72 : decode prog_28_method_6_code 72 = .ok (.ifCond .eq 10, 3) := by decide +kernel
theorem dX5_areAlike_75 : decode prog_28_method_6_code 75 = .ok (.aload_n 0, 1) := by decide +kernel
theorem dX5_areAlike_76 : decode prog_28_method_6_code 76 = .ok (.invokevirtual 77, 3) := by decide +kernel
theorem dX5_areAlike_79 : decode prog_28_method_6_code 79 = .ok (.goto 7, 3) := by decide +kernel
theorem dX5_areAlike_82 : decode prog_28_method_6_code 82 = .ok (.aload_n 1, 1) := by decide +kernel
theorem dX5_areAlike_83 : decode prog_28_method_6_code 83 = .ok (.invokevirtual 77, 3) := by decide +kernel
theorem dX5_areAlike_86 : decode prog_28_method_6_code 86 = .ok (.istore_n 2, 1) := by decide +kernel
theorem dX5_areAlike_87 : decode prog_28_method_6_code 87 = .ok (.iconst 1, 1) := by decide +kernel
theorem dX5_areAlike_88 : decode prog_28_method_6_code 88 = .ok (.istore_n 3, 1) := by decide +kernel
theorem dX5_areAlike_89 : decode prog_28_method_6_code 89 = .ok (.iconst 0, 1) := by decide +kernel
theorem dX5_areAlike_90 : decode prog_28_method_6_code 90 = .ok (.istore 4, 2) := by decide +kernel
theorem dX5_areAlike_92 : decode prog_28_method_6_code 92 = .ok (.iload 4, 2) := by decide +kernel
theorem dX5_areAlike_94 : decode prog_28_method_6_code 94 = .ok (.iload_n 2, 1) := by decide +kernel
theorem dX5_areAlike_95 : decode prog_28_method_6_code 95 = .ok (.if_icmp .ge 36, 3) := by decide +kernel
theorem dX5_areAlike_98 : decode prog_28_method_6_code 98 = .ok (.iload_n 3, 1) := by decide +kernel
theorem dX5_areAlike_99 : decode prog_28_method_6_code 99 = .ok (.ifCond .eq 24, 3) := by decide +kernel
theorem dX5_areAlike_102 : decode prog_28_method_6_code 102 = .ok (.aload_n 0, 1) := by decide +kernel
theorem dX5_areAlike_103 : decode prog_28_method_6_code 103 = .ok (.iload 4, 2) := by decide +kernel
theorem dX5_areAlike_105 : decode prog_28_method_6_code 105 = .ok (.invokestatic 64, 3) := by decide +kernel
theorem dX5_areAlike_108 : decode prog_28_method_6_code 108 = .ok (.arraylength, 1) := by decide +kernel
theorem dX5_areAlike_109 : decode prog_28_method_6_code 109 = .ok (.aload_n 1, 1) := by decide +kernel
theorem dX5_areAlike_110 : decode prog_28_method_6_code 110 = .ok (.iload 4, 2) := by decide +kernel
theorem dX5_areAlike_112 : decode prog_28_method_6_code 112 = .ok (.invokestatic 64, 3) := by decide +kernel
theorem dX5_areAlike_115 : decode prog_28_method_6_code 115 = .ok (.arraylength, 1) := by decide +kernel
theorem dX5_areAlike_116 : decode prog_28_method_6_code 116 = .ok (.if_icmp .ne 7, 3) := by decide +kernel
theorem dX5_areAlike_119 : decode prog_28_method_6_code 119 = .ok (.iconst 1, 1) := by decide +kernel
theorem dX5_areAlike_120 : decode prog_28_method_6_code 120 = .ok (.goto 4, 3) := by decide +kernel
theorem dX5_areAlike_123 : decode prog_28_method_6_code 123 = .ok (.iconst 0, 1) := by decide +kernel
theorem dX5_areAlike_124 : decode prog_28_method_6_code 124 = .ok (.istore_n 3, 1) := by decide +kernel
theorem dX5_areAlike_125 : decode prog_28_method_6_code 125 = .ok (.iinc 4 1, 3) := by decide +kernel
theorem dX5_areAlike_128 : decode prog_28_method_6_code 128 = .ok (.goto (-36), 3) := by decide +kernel
theorem dX5_areAlike_131 : decode prog_28_method_6_code 131 = .ok (.iload_n 3, 1) := by decide +kernel
theorem dX5_areAlike_132 : decode prog_28_method_6_code 132 = .ok (.ireturn, 1) := by decide +kernel
theorem dX6_some_0 : decode prog_14_method_12_code 0 = .ok (.aload_n 2, 1) := by decide +kernel
theorem dX6_some_1 : decode prog_14_method_12_code 1 = .ok (.arraylength, 1) := by decide +kernel
theorem dX6_some_2 : decode prog_14_method_12_code 2 = .ok (.istore 4, 2) := by decide +kernel
theorem dX6_some_4 : decode prog_14_method_12_code 4 = .ok (.aload_n 1, 1) := by decide +kernel
theorem dX6_some_5 : decode prog_14_method_12_code 5 = .ok (.instanceof 15, 3) := by decide +kernel
theorem dX6_some_8 : decode prog_14_method_12_code 8 = .ok (.ifCond .eq 56, 3) := by decide +kernel
theorem dX6_some_11 : decode prog_14_method_12_code 11 = .ok (.aload_n 1, 1) := by decide +kernel
theorem dX6_some_12 : decode prog_14_method_12_code 12 = .ok (.checkcast 15, 3) := by decide +kernel
theorem dX6_some_15 : decode prog_14_method_12_code 15 = .ok (.astore 5, 2) := by decide +kernel
theorem dX6_some_17 : decode prog_14_method_12_code 17 = .ok (.iload 4, 2) := by decide +kernel
theorem dX6_some_19 : decode prog_14_method_12_code 19 = .ok (.newarray .int, 2) := by decide +kernel
theorem dX6_some_21 : decode prog_14_method_12_code 21 = .ok (.astore 6, 2) := by decide +kernel
theorem dX6_some_23 : decode prog_14_method_12_code 23 = .ok (.iconst 0, 1) := by decide +kernel
theorem dX6_some_24 : decode prog_14_method_12_code 24 = .ok (.istore 7, 2) := by decide +kernel
theorem dX6_some_26 : decode prog_14_method_12_code 26 = .ok (.iload 7, 2) := by decide +kernel
theorem dX6_some_28 : decode prog_14_method_12_code 28 = .ok (.iload 4, 2) := by decide +kernel
theorem dX6_some_30 : decode prog_14_method_12_code 30 = .ok (.if_icmp .ge 24, 3) := by decide +kernel
theorem dX6_some_33 : decode prog_14_method_12_code 33 = .ok (.aload 6, 2) := by decide +kernel
theorem dX6_some_35 : decode prog_14_method_12_code 35 = .ok (.iload 7, 2) := by decide +kernel
theorem dX6_some_37 : decode prog_14_method_12_code 37 = .ok (.aload 5, 2) := by decide +kernel
theorem dX6_some_39 : decode prog_14_method_12_code 39 = .ok (.getfield 60, 3) := by decide +kernel
theorem dX6_some_42 : decode prog_14_method_12_code 42 = .ok (.aload_n 2, 1) := by decide +kernel
theorem dX6_some_43 : decode prog_14_method_12_code 43 = .ok (.iload 7, 2) := by decide +kernel
theorem dX6_some_45 : decode prog_14_method_12_code 45 = .ok (.iaload, 1) := by decide +kernel
theorem dX6_some_46 : decode prog_14_method_12_code 46 = .ok (.iaload, 1) := by decide +kernel
theorem dX6_some_47 : decode prog_14_method_12_code 47 = .ok (.iastore, 1) := by decide +kernel
theorem dX6_some_48 : decode prog_14_method_12_code 48 = .ok (.iinc 7 1, 3) := by decide +kernel
theorem dX6_some_51 : decode prog_14_method_12_code 51 = .ok (.goto (-25), 3) := by decide +kernel
theorem dX6_some_54 : decode prog_14_method_12_code 54 = .ok (.new 15, 3) := by decide +kernel
theorem dX6_some_57 : decode prog_14_method_12_code 57 = .ok (.dup, 1) := by decide +kernel
theorem dX6_some_58 : decode prog_14_method_12_code 58 = .ok (.aload 6, 2) := by decide +kernel
theorem dX6_some_60 : decode prog_14_method_12_code 60 = .ok (.invokespecial 31, 3) := by decide +kernel
theorem dX6_some_63 : decode prog_14_method_12_code 63 = .ok (.areturn, 1) := by decide +kernel
theorem dX6_some_64 : decode prog_14_method_12_code 64 = .ok (.aload_n 1, 1) := by decide +kernel
theorem dX6_some_65 : decode prog_14_method_12_code 65 = .ok (.instanceof 47, 3) := by decide +kernel
theorem dX6_some_68 : decode prog_14_method_12_code 68 = .ok (.ifCond .eq 55, 3) := by decide +kernel
theorem dX6_some_71 : decode prog_14_method_12_code 71 = .ok (.aload_n 1, 1) := by decide +kernel
theorem dX6_some_72 : decode prog_14_method_12_code 72 = .ok (.checkcast 47, 3) := by decide +kernel
theorem dX6_some_75 : decode prog_14_method_12_code 75 = .ok (.astore 5, 2) := by decide +kernel
theorem dX6_some_77 : decode prog_14_method_12_code 77 = .ok (.iload 4, 2) := by decide +kernel
theorem dX6_some_79 : decode prog_14_method_12_code 79 = .ok (.anewarray 94, 3) := by decide +kernel
theorem dX6_some_82 : decode prog_14_method_12_code 82 = .ok (.astore 6, 2) := by decide +kernel
theorem dX6_some_84 : decode prog_14_method_12_code 84 = .ok (.iconst 0, 1) := by decide +kernel
theorem dX6_some_85 : decode prog_14_method_12_code 85 = .ok (.istore 7, 2) := by decide +kernel
theorem dX6_some_87 : decode prog_14_method_12_code 87 = .ok (.iload 7, 2) := by decide +kernel
theorem dX6_some_89 : decode prog_14_method_12_code 89 = .ok (.iload 4, 2) := by decide +kernel
theorem dX6_some_91 : decode prog_14_method_12_code 91 = .ok (.if_icmp .ge 24, 3) := by decide +kernel
theorem dX6_some_94 : decode prog_14_method_12_code 94 = .ok (.aload 6, 2) := by decide +kernel
theorem dX6_some_96 : decode prog_14_method_12_code 96 = .ok (.iload 7, 2) := by decide +kernel
theorem dX6_some_98 : decode prog_14_method_12_code 98 = .ok (.aload 5, 2) := by decide +kernel
theorem dX6_some_100 : decode prog_14_method_12_code 100 = .ok (.getfield 123, 3) := by decide +kernel
theorem dX6_some_103 : decode prog_14_method_12_code 103 = .ok (.aload_n 2, 1) := by decide +kernel
theorem dX6_some_104 : decode prog_14_method_12_code 104 = .ok (.iload 7, 2) := by decide +kernel
theorem dX6_some_106 : decode prog_14_method_12_code 106 = .ok (.iaload, 1) := by decide +kernel
theorem dX6_some_107 : decode prog_14_method_12_code 107 = .ok (.aaload, 1) := by decide +kernel
theorem dX6_some_108 : decode prog_14_method_12_code 108 = .ok (.aastore, 1) := by decide +kernel
theorem dX6_some_109 : decode prog_14_method_12_code 109 = .ok (.iinc 7 1, 3) := by decide +kernel
theorem dX6_some_112 : decode prog_14_method_12_code 112 = .ok (.goto (-25), 3) := by decide +kernel
theorem dX6_some_115 : decode prog_14_method_12_code 115 = .ok (.aload_n 0, 1) := by decide +kernel
theorem dX6_some_116 : decode prog_14_method_12_code 116 = .ok (.aload 6, 2) := by decide +kernel
theorem dX6_some_118 : decode prog_14_method_12_code 118 = .ok (.iload_n 3, 1) := by decide +kernel
theorem dX6_some_119 : decode prog_14_method_12_code 119 = .ok (.invokevirtual 102, 3) := by decide +kernel
theorem dX6_some_122 : decode prog_14_method_12_code 122 = .ok (.areturn, 1) := by decide +kernel
theorem dX6_some_123 : decode prog_14_method_12_code 123 = .ok (.iload 4, 2) := by decide +kernel
theorem dX6_some_125 : decode prog_14_method_12_code 125 = .ok (.anewarray 78, 3) := by decide +kernel
theorem dX6_some_128 : decode prog_14_method_12_code 128 = .ok (.astore 5, 2) := by decide +kernel
theorem dX6_some_130 : decode prog_14_method_12_code 130 = .ok (.iconst 0, 1) := by decide +kernel
theorem dX6_some_131 : decode prog_14_method_12_code 131 = .ok (.istore 6, 2) := by decide +kernel
theorem dX6_some_133 : decode prog_14_method_12_code 133 = .ok (.iload 6, 2) := by decide +kernel
theorem dX6_some_135 : decode prog_14_method_12_code 135 = .ok (.iload 4, 2) := by decide +kernel
theorem dX6_some_137 : decode prog_14_method_12_code 137 = .ok (.if_icmp .ge 26, 3) := by decide +kernel
theorem dX6_some_140 : decode prog_14_method_12_code 140 = .ok (.aload 5, 2) := by decide +kernel
theorem dX6_some_142 : decode prog_14_method_12_code 142 = .ok (.iload 6, 2) := by decide +kernel
theorem dX6_some_144 : decode prog_14_method_12_code 144 = .ok (.aload_n 1, 1) := by decide +kernel
theorem dX6_some_145 : decode prog_14_method_12_code 145 = .ok (.checkcast 38, 3) := by decide +kernel
theorem dX6_some_148 : decode prog_14_method_12_code 148 = .ok (.getfield 125, 3) := by decide +kernel
theorem dX6_some_151 : decode prog_14_method_12_code 151 = .ok (.aload_n 2, 1) := by decide +kernel
theorem dX6_some_152 : decode prog_14_method_12_code 152 = .ok (.iload 6, 2) := by decide +kernel
theorem dX6_some_154 : decode prog_14_method_12_code 154 = .ok (.iaload, 1) := by decide +kernel
theorem dX6_some_155 : decode prog_14_method_12_code 155 = .ok (.aaload, 1) := by decide +kernel
theorem dX6_some_156 : decode prog_14_method_12_code 156 = .ok (.aastore, 1) := by decide +kernel
theorem dX6_some_157 : decode prog_14_method_12_code 157 = .ok (.iinc 6 1, 3) := by decide +kernel
theorem dX6_some_160 : decode prog_14_method_12_code 160 = .ok (.goto (-27), 3) := by decide +kernel
theorem dX6_some_163 : decode prog_14_method_12_code 163 = .ok (.aload_n 0, 1) := by decide +kernel
theorem dX6_some_164 : decode prog_14_method_12_code 164 = .ok (.aload 5, 2) := by decide +kernel
theorem dX6_some_166 : decode prog_14_method_12_code 166 = .ok (.iload_n 3, 1) := by decide +kernel
theorem dX6_some_167 : decode prog_14_method_12_code 167 = .ok (.invokevirtual 110, 3) := by decide +kernel
theorem dX6_some_170 : decode prog_14_method_12_code 170 = .ok (.areturn, 1) := by decide +kernel
theorem dX6_table_0 : decode prog_14_method_10_code 0 = .ok (.new 47, 3) := by decide +kernel
theorem dX6_table_3 : decode prog_14_method_10_code 3 = .ok (.dup, 1) := by decide +kernel
theorem dX6_table_4 : decode prog_14_method_10_code 4 = .ok (.aload_n 1, 1) := by decide +kernel
theorem dX6_table_5 : decode prog_14_method_10_code 5 = .ok (.invokespecial 53, 3) := by decide +kernel
theorem dX6_table_8 : decode prog_14_method_10_code 8 = .ok (.astore_n 3, 1) := by decide +kernel
theorem dX6_table_9 : decode prog_14_method_10_code 9 = .ok (.aload_n 1, 1) := by decide +kernel
theorem dX6_table_10 : decode prog_14_method_10_code 10 = .ok (.arraylength, 1) := by decide +kernel
theorem dX6_table_11 : decode prog_14_method_10_code 11 = .ok (.bipush 20, 2) := by decide +kernel
theorem dX6_table_13 : decode prog_14_method_10_code 13 = .ok (.if_icmp .gt 13, 3) := by decide +kernel
theorem dX6_table_16 : decode prog_14_method_10_code 16 = .ok (.aload_n 3, 1) := by decide +kernel
theorem dX6_table_17 : decode prog_14_method_10_code 17 = .ok (.invokevirtual 114, 3) := by decide +kernel
theorem dX6_table_20 : decode prog_14_method_10_code 20 = .ok (.sipush 200, 3) := by decide +kernel
theorem dX6_table_23 : decode prog_14_method_10_code 23 = .ok (.if_icmp .le 13, 3) := by decide +kernel
theorem dX6_table_26 : decode prog_14_method_10_code 26 = .ok (.aload_n 0, 1) := by decide +kernel
theorem dX6_table_27 : decode prog_14_method_10_code 27 = .ok (.getfield 9, 3) := by decide +kernel
theorem dX6_table_30 : decode prog_14_method_10_code 30 = .ok (.iconst 2, 1) := by decide +kernel
theorem dX6_table_31 : decode prog_14_method_10_code 31 = .ok (.iload_n 2, 1) := by decide +kernel
theorem dX6_table_32 : decode prog_14_method_10_code 32 = .ok (.invokevirtual 72, 3) := by decide +kernel
theorem dX6_table_35 : decode prog_14_method_10_code 35 = .ok (.athrow, 1) := by decide +kernel
theorem dX6_table_36 : decode prog_14_method_10_code 36 = .ok (.aload_n 3, 1) := by decide +kernel
theorem dX6_table_37 : decode prog_14_method_10_code 37 = .ok (.areturn, 1) := by decide +kernel
theorem dX6_pack_0 : decode prog_14_method_11_code 0 = .ok (.new 38, 3) := by decide +kernel
theorem dX6_pack_3 : decode prog_14_method_11_code 3 = .ok (.dup, 1) := by decide +kernel
theorem dX6_pack_4 : decode prog_14_method_11_code 4 = .ok (.aload_n 1, 1) := by decide +kernel
theorem dX6_pack_5 : decode prog_14_method_11_code 5 = .ok (.invokespecial 44, 3) := by decide +kernel
theorem dX6_pack_8 : decode prog_14_method_11_code 8 = .ok (.astore_n 3, 1) := by decide +kernel
theorem dX6_pack_9 : decode prog_14_method_11_code 9 = .ok (.aload_n 1, 1) := by decide +kernel
theorem dX6_pack_10 : decode prog_14_method_11_code 10 = .ok (.arraylength, 1) := by decide +kernel
theorem dX6_pack_11 : decode prog_14_method_11_code 11 = .ok (.bipush 20, 2) := by decide +kernel
theorem dX6_pack_13 : decode prog_14_method_11_code 13 = .ok (.if_icmp .gt 21, 3) := by decide +kernel
theorem dX6_pack_16 : decode prog_14_method_11_code 16 = .ok (.aload_n 3, 1) := by decide +kernel
theorem dX6_pack_17 : decode prog_14_method_11_code 17 = .ok (.invokevirtual 117, 3) := by decide +kernel
theorem dX6_pack_20 : decode prog_14_method_11_code 20 = .ok (.iconst 4, 1) := by decide +kernel
theorem dX6_pack_21 : decode prog_14_method_11_code 21 = .ok (.if_icmp .gt 13, 3) := by decide +kernel
theorem dX6_pack_24 : decode prog_14_method_11_code 24 = .ok (.aload_n 3, 1) := by decide +kernel
theorem dX6_pack_25 : decode prog_14_method_11_code 25 = .ok (.invokevirtual 120, 3) := by decide +kernel
theorem dX6_pack_28 : decode prog_14_method_11_code 28 = .ok (.sipush 600, 3) := by decide +kernel
theorem dX6_pack_31 : decode prog_14_method_11_code 31 = .ok (.if_icmp .le 13, 3) := by decide +kernel
theorem dX6_pack_34 : decode prog_14_method_11_code 34 = .ok (.aload_n 0, 1) := by decide +kernel
theorem dX6_pack_35 : decode prog_14_method_11_code 35 = .ok (.getfield 9, 3) := by decide +kernel
theorem dX6_pack_38 : decode prog_14_method_11_code 38 = .ok (.iconst 2, 1) := by decide +kernel
theorem dX6_pack_39 : decode prog_14_method_11_code 39 = .ok (.iload_n 2, 1) := by decide +kernel
theorem dX6_pack_40 : decode prog_14_method_11_code 40 = .ok (.invokevirtual 72, 3) := by decide +kernel
theorem dX6_pack_43 : decode prog_14_method_11_code 43 = .ok (.athrow, 1) := by decide +kernel
theorem dX6_pack_44 : decode prog_14_method_11_code 44 = .ok (.aload_n 3, 1) := by decide +kernel
theorem dX6_pack_45 : decode prog_14_method_11_code 45 = .ok (.areturn, 1) := by decide +kernel
theorem dX6_rowOf_0 : decode prog_14_method_7_code 0 = .ok (.iload_n 2, 1) := by decide +kernel
theorem dX6_rowOf_1 : decode prog_14_method_7_code 1 = .ok (.bipush 64, 2) := by decide +kernel
theorem dX6_rowOf_3 : decode prog_14_method_7_code 3 = .ok (.if_icmp .le 13, 3) := by decide +kernel
theorem dX6_rowOf_6 : decode prog_14_method_7_code 6 = .ok (.aload_n 0, 1) := by decide +kernel
theorem dX6_rowOf_7 : decode prog_14_method_7_code 7 = .ok (.getfield 9, 3) := by decide +kernel
theorem dX6_rowOf_10 : decode prog_14_method_7_code 10 = .ok (.iconst 2, 1) := by decide +kernel
theorem dX6_rowOf_11 : decode prog_14_method_7_code 11 = .ok (.iload_n 3, 1) := by decide +kernel
theorem dX6_rowOf_12 : decode prog_14_method_7_code 12 = .ok (.invokevirtual 72, 3) := by decide +kernel
theorem dX6_rowOf_15 : decode prog_14_method_7_code 15 = .ok (.athrow, 1) := by decide +kernel
theorem dX6_rowOf_16 : decode prog_14_method_7_code 16 = .ok (.iload_n 2, 1) := by decide +kernel
theorem dX6_rowOf_17 : decode prog_14_method_7_code 17 = .ok (.newarray .int, 2) := by decide +kernel
theorem dX6_rowOf_19 : decode prog_14_method_7_code 19 = .ok (.astore 4, 2) := by decide +kernel
theorem dX6_rowOf_21 : decode prog_14_method_7_code 21 = .ok (.iconst 0, 1) := by decide +kernel
theorem dX6_rowOf_22 : decode prog_14_method_7_code 22 = .ok (.istore 5, 2) := by decide +kernel
theorem dX6_rowOf_24 : decode prog_14_method_7_code 24 = .ok (.iload 5, 2) := by decide +kernel
theorem dX6_rowOf_26 : decode prog_14_method_7_code 26 = .ok (.iload_n 2, 1) := by decide +kernel
theorem dX6_rowOf_27 : decode prog_14_method_7_code 27 = .ok (.if_icmp .ge 26, 3) := by decide +kernel
theorem dX6_rowOf_30 : decode prog_14_method_7_code 30 = .ok (.aload 4, 2) := by decide +kernel
theorem dX6_rowOf_32 : decode prog_14_method_7_code 32 = .ok (.iload 5, 2) := by decide +kernel
theorem dX6_rowOf_34 : decode prog_14_method_7_code 34 = .ok (.aload_n 0, 1) := by decide +kernel
theorem dX6_rowOf_35 : decode prog_14_method_7_code 35 = .ok (.getfield 9, 3) := by decide +kernel
theorem dX6_rowOf_38 : decode prog_14_method_7_code 38 = .ok (.getfield 95, 3) := by decide +kernel
theorem dX6_rowOf_41 : decode prog_14_method_7_code 41 = .ok (.iload_n 1, 1) := by decide +kernel
theorem dX6_rowOf_42 : decode prog_14_method_7_code 42 = .ok (.iload 5, 2) := by decide +kernel
theorem dX6_rowOf_44 : decode prog_14_method_7_code 44 = .ok (.iadd, 1) := by decide +kernel
theorem dX6_rowOf_45 : decode prog_14_method_7_code 45 = .ok (.iaload, 1) := by decide +kernel
theorem dX6_rowOf_46 : decode prog_14_method_7_code 46 = .ok (.iastore, 1) := by decide +kernel
theorem dX6_rowOf_47 : decode prog_14_method_7_code 47 = .ok (.iinc 5 1, 3) := by decide +kernel
theorem dX6_rowOf_50 : decode prog_14_method_7_code 50 = .ok (.goto (-26), 3) := by decide +kernel
theorem dX6_rowOf_53 : decode prog_14_method_7_code 53 = .ok (.new 15, 3) := by decide +kernel
theorem dX6_rowOf_56 : decode prog_14_method_7_code 56 = .ok (.dup, 1) := by decide +kernel
theorem dX6_rowOf_57 : decode prog_14_method_7_code 57 = .ok (.aload 4, 2) := by decide +kernel
theorem dX6_rowOf_59 : decode prog_14_method_7_code 59 = .ok (.invokespecial 31, 3) := by decide +kernel
theorem dX6_rowOf_62 : decode prog_14_method_7_code 62 = .ok (.areturn, 1) := by decide +kernel
theorem dX6_tableOf_0 : decode prog_14_method_8_code 0 = .ok (.iload_n 2, 1) := by decide +kernel
theorem dX6_tableOf_1 : decode prog_14_method_8_code 1 = .ok (.bipush 20, 2) := by decide +kernel
theorem dX6_tableOf_3 : decode prog_14_method_8_code 3 = .ok (.if_icmp .le 13, 3) := by decide +kernel
theorem dX6_tableOf_6 : decode prog_14_method_8_code 6 = .ok (.aload_n 0, 1) := by decide +kernel
theorem dX6_tableOf_7 : decode prog_14_method_8_code 7 = .ok (.getfield 9, 3) := by decide +kernel
theorem dX6_tableOf_10 : decode prog_14_method_8_code 10 = .ok (.iconst 2, 1) := by decide +kernel
theorem dX6_tableOf_11 : decode prog_14_method_8_code 11 = .ok (.iload_n 3, 1) := by decide +kernel
theorem dX6_tableOf_12 : decode prog_14_method_8_code 12 = .ok (.invokevirtual 72, 3) := by decide +kernel
theorem dX6_tableOf_15 : decode prog_14_method_8_code 15 = .ok (.athrow, 1) := by decide +kernel
theorem dX6_tableOf_16 : decode prog_14_method_8_code 16 = .ok (.iload_n 2, 1) := by decide +kernel
theorem dX6_tableOf_17 : decode prog_14_method_8_code 17 = .ok (.anewarray 94, 3) := by decide +kernel
theorem dX6_tableOf_20 : decode prog_14_method_8_code 20 = .ok (.astore 4, 2) := by decide +kernel
theorem dX6_tableOf_22 : decode prog_14_method_8_code 22 = .ok (.iconst 0, 1) := by decide +kernel
theorem dX6_tableOf_23 : decode prog_14_method_8_code 23 = .ok (.istore 5, 2) := by decide +kernel
theorem dX6_tableOf_25 : decode prog_14_method_8_code 25 = .ok (.iload 5, 2) := by decide +kernel
theorem dX6_tableOf_27 : decode prog_14_method_8_code 27 = .ok (.iload_n 2, 1) := by decide +kernel
theorem dX6_tableOf_28 : decode prog_14_method_8_code 28 = .ok (.if_icmp .ge 32, 3) := by decide +kernel
theorem dX6_tableOf_31 : decode prog_14_method_8_code 31 = .ok (.aload 4, 2) := by decide +kernel
theorem dX6_tableOf_33 : decode prog_14_method_8_code 33 = .ok (.iload 5, 2) := by decide +kernel
theorem dX6_tableOf_35 : decode prog_14_method_8_code 35 = .ok (.aload_n 0, 1) := by decide +kernel
theorem dX6_tableOf_36 : decode prog_14_method_8_code 36 = .ok (.getfield 9, 3) := by decide +kernel
theorem dX6_tableOf_39 : decode prog_14_method_8_code 39 = .ok (.getfield 98, 3) := by decide +kernel
theorem dX6_tableOf_42 : decode prog_14_method_8_code 42 = .ok (.iload_n 1, 1) := by decide +kernel
theorem dX6_tableOf_43 : decode prog_14_method_8_code 43 = .ok (.iload 5, 2) := by decide +kernel
theorem dX6_tableOf_45 : decode prog_14_method_8_code 45 = .ok (.iadd, 1) := by decide +kernel
theorem dX6_tableOf_46 : decode prog_14_method_8_code 46 = .ok (.aaload, 1) := by decide +kernel
theorem dX6_tableOf_47 : decode prog_14_method_8_code 47 = .ok (.checkcast 15, 3) := by decide +kernel
theorem dX6_tableOf_50 : decode prog_14_method_8_code 50 = .ok (.getfield 60, 3) := by decide +kernel
theorem dX6_tableOf_53 : decode prog_14_method_8_code 53 = .ok (.aastore, 1) := by decide +kernel
theorem dX6_tableOf_54 : decode prog_14_method_8_code 54 = .ok (.iinc 5 1, 3) := by decide +kernel
theorem dX6_tableOf_57 : decode prog_14_method_8_code 57 = .ok (.goto (-32), 3) := by decide +kernel
theorem dX6_tableOf_60 : decode prog_14_method_8_code 60 = .ok (.aload_n 0, 1) := by decide +kernel
theorem dX6_tableOf_61 : decode prog_14_method_8_code 61 = .ok (.aload 4, 2) := by decide +kernel
theorem dX6_tableOf_63 : decode prog_14_method_8_code 63 = .ok (.iload_n 3, 1) := by decide +kernel
theorem dX6_tableOf_64 : decode prog_14_method_8_code 64 = .ok (.invokevirtual 102, 3) := by decide +kernel
theorem dX6_tableOf_67 : decode prog_14_method_8_code 67 = .ok (.areturn, 1) := by decide +kernel
theorem dX6_packOf_0 : decode prog_14_method_9_code 0 = .ok (.iload_n 2, 1) := by decide +kernel
theorem dX6_packOf_1 : decode prog_14_method_9_code 1 = .ok (.bipush 20, 2) := by decide +kernel
theorem dX6_packOf_3 : decode prog_14_method_9_code 3 = .ok (.if_icmp .le 13, 3) := by decide +kernel
theorem dX6_packOf_6 : decode prog_14_method_9_code 6 = .ok (.aload_n 0, 1) := by decide +kernel
theorem dX6_packOf_7 : decode prog_14_method_9_code 7 = .ok (.getfield 9, 3) := by decide +kernel
theorem dX6_packOf_10 : decode prog_14_method_9_code 10 = .ok (.iconst 2, 1) := by decide +kernel
theorem dX6_packOf_11 : decode prog_14_method_9_code 11 = .ok (.iload_n 3, 1) := by decide +kernel
theorem dX6_packOf_12 : decode prog_14_method_9_code 12 = .ok (.invokevirtual 72, 3) := by decide +kernel
theorem dX6_packOf_15 : decode prog_14_method_9_code 15 = .ok (.athrow, 1) := by decide +kernel
theorem dX6_packOf_16 : decode prog_14_method_9_code 16 = .ok (.iload_n 2, 1) := by decide +kernel
theorem dX6_packOf_17 : decode prog_14_method_9_code 17 = .ok (.anewarray 78, 3) := by decide +kernel
theorem dX6_packOf_20 : decode prog_14_method_9_code 20 = .ok (.astore 4, 2) := by decide +kernel
theorem dX6_packOf_22 : decode prog_14_method_9_code 22 = .ok (.iconst 0, 1) := by decide +kernel
theorem dX6_packOf_23 : decode prog_14_method_9_code 23 = .ok (.istore 5, 2) := by decide +kernel
theorem dX6_packOf_25 : decode prog_14_method_9_code 25 = .ok (.iload 5, 2) := by decide +kernel
theorem dX6_packOf_27 : decode prog_14_method_9_code 27 = .ok (.iload_n 2, 1) := by decide +kernel
theorem dX6_packOf_28 : decode prog_14_method_9_code 28 = .ok (.if_icmp .ge 25, 3) := by decide +kernel
theorem dX6_packOf_31 : decode prog_14_method_9_code 31 = .ok (.aload 4, 2) := by decide +kernel
theorem dX6_packOf_33 : decode prog_14_method_9_code 33 = .ok (.iload 5, 2) := by decide +kernel
theorem dX6_packOf_35 : decode prog_14_method_9_code 35 = .ok (.aload_n 0, 1) := by decide +kernel
theorem dX6_packOf_36 : decode prog_14_method_9_code 36 = .ok (.getfield 9, 3) := by decide +kernel
theorem dX6_packOf_39 : decode prog_14_method_9_code 39 = .ok (.iload_n 1, 1) := by decide +kernel
theorem dX6_packOf_40 : decode prog_14_method_9_code 40 = .ok (.iload 5, 2) := by decide +kernel
theorem dX6_packOf_42 : decode prog_14_method_9_code 42 = .ok (.iadd, 1) := by decide +kernel
theorem dX6_packOf_43 : decode prog_14_method_9_code 43 = .ok (.invokevirtual 106, 3) := by decide +kernel
theorem dX6_packOf_46 : decode prog_14_method_9_code 46 = .ok (.aastore, 1) := by decide +kernel
theorem dX6_packOf_47 : decode prog_14_method_9_code 47 = .ok (.iinc 5 1, 3) := by decide +kernel
theorem dX6_packOf_50 : decode prog_14_method_9_code 50 = .ok (.goto (-25), 3) := by decide +kernel
theorem dX6_packOf_53 : decode prog_14_method_9_code 53 = .ok (.aload_n 0, 1) := by decide +kernel
theorem dX6_packOf_54 : decode prog_14_method_9_code 54 = .ok (.aload 4, 2) := by decide +kernel
theorem dX6_packOf_56 : decode prog_14_method_9_code 56 = .ok (.iload_n 3, 1) := by decide +kernel
theorem dX6_packOf_57 : decode prog_14_method_9_code 57 = .ok (.invokevirtual 110, 3) := by decide +kernel
theorem dX6_packOf_60 : decode prog_14_method_9_code 60 = .ok (.areturn, 1) := by decide +kernel
theorem dX6_work_0 : decode prog_14_method_2_code 0 = .ok (.iload_n 1, 1) := by decide +kernel
theorem dX6_work_1 : decode prog_14_method_2_code 1 = .ok (.tableswitch 288 0 4 #[35, 76, 145, 186, 244], 35) := by decide +kernel
theorem dX6_work_36 : decode prog_14_method_2_code 36 = .ok (.aload_n 0, 1) := by decide +kernel
theorem dX6_work_37 : decode prog_14_method_2_code 37 = .ok (.getfield 9, 3) := by decide +kernel
theorem dX6_work_40 : decode prog_14_method_2_code 40 = .ok (.new 15, 3) := by decide +kernel
theorem dX6_work_43 : decode prog_14_method_2_code 43 = .ok (.dup, 1) := by decide +kernel
theorem dX6_work_44 : decode prog_14_method_2_code 44 = .ok (.aload_n 0, 1) := by decide +kernel
theorem dX6_work_45 : decode prog_14_method_2_code 45 = .ok (.aload_n 0, 1) := by decide +kernel
theorem dX6_work_46 : decode prog_14_method_2_code 46 = .ok (.getfield 9, 3) := by decide +kernel
theorem dX6_work_49 : decode prog_14_method_2_code 49 = .ok (.aload_n 0, 1) := by decide +kernel
theorem dX6_work_50 : decode prog_14_method_2_code 50 = .ok (.getfield 9, 3) := by decide +kernel
theorem dX6_work_53 : decode prog_14_method_2_code 53 = .ok (.getfield 17, 3) := by decide +kernel
theorem dX6_work_56 : decode prog_14_method_2_code 56 = .ok (.iconst 1, 1) := by decide +kernel
theorem dX6_work_57 : decode prog_14_method_2_code 57 = .ok (.isub, 1) := by decide +kernel
theorem dX6_work_58 : decode prog_14_method_2_code 58 = .ok (.iload_n 3, 1) := by decide +kernel
theorem dX6_work_59 : decode prog_14_method_2_code 59 = .ok (.invokevirtual 23, 3) := by decide +kernel
theorem dX6_work_62 : decode prog_14_method_2_code 62 = .ok (.iload_n 3, 1) := by decide +kernel
theorem dX6_work_63 : decode prog_14_method_2_code 63 = .ok (.invokevirtual 27, 3) := by decide +kernel
