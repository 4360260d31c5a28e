/-! decode rows -/
theorem dX6_work_66 : decode prog_14_method_2_code 66 = .ok (.invokespecial 31, 3) := by decide +kernel
theorem dX6_work_69 : decode prog_14_method_2_code 69 = .ok (.iconst 1, 1) := by decide +kernel
theorem dX6_work_70 : decode prog_14_method_2_code 70 = .ok (.iload_n 3, 1) := by decide +kernel
theorem dX6_work_71 : decode prog_14_method_2_code 71 = .ok (.invokevirtual 34, 3) := by decide +kernel
theorem dX6_work_74 : decode prog_14_method_2_code 74 = .ok (.goto 239, 3) := by decide +kernel
theorem dX6_work_77 : decode prog_14_method_2_code 77 = .ok (.aload_n 0, 1) := by decide +kernel
theorem dX6_work_78 : decode prog_14_method_2_code 78 = .ok (.aload_n 0, 1) := by decide +kernel
theorem dX6_work_79 : decode prog_14_method_2_code 79 = .ok (.getfield 9, 3) := by decide +kernel
theorem dX6_work_82 : decode prog_14_method_2_code 82 = .ok (.aload_n 0, 1) := by decide +kernel
theorem dX6_work_83 : decode prog_14_method_2_code 83 = .ok (.getfield 9, 3) := by decide +kernel
theorem dX6_work_86 : decode prog_14_method_2_code 86 = .ok (.getfield 17, 3) := by decide +kernel
theorem dX6_work_89 : decode prog_14_method_2_code 89 = .ok (.iconst 1, 1) := by decide +kernel
theorem dX6_work_90 : decode prog_14_method_2_code 90 = .ok (.isub, 1) := by decide +kernel
theorem dX6_work_91 : decode prog_14_method_2_code 91 = .ok (.iload_n 3, 1) := by decide +kernel
theorem dX6_work_92 : decode prog_14_method_2_code 92 = .ok (.invokevirtual 23, 3) := by decide +kernel
theorem dX6_work_95 : decode prog_14_method_2_code 95 = .ok (.iload_n 3, 1) := by decide +kernel
theorem dX6_work_96 : decode prog_14_method_2_code 96 = .ok (.invokevirtual 27, 3) := by decide +kernel
theorem dX6_work_99 : decode prog_14_method_2_code 99 = .ok (.astore 4, 2) := by decide +kernel
theorem dX6_work_101 : decode prog_14_method_2_code 101 = .ok (.iconst 0, 1) := by decide +kernel
theorem dX6_work_102 : decode prog_14_method_2_code 102 = .ok (.istore 5, 2) := by decide +kernel
theorem dX6_work_104 : decode prog_14_method_2_code 104 = .ok (.iload 5, 2) := by decide +kernel
theorem dX6_work_106 : decode prog_14_method_2_code 106 = .ok (.aload 4, 2) := by decide +kernel
theorem dX6_work_108 : decode prog_14_method_2_code 108 = .ok (.arraylength, 1) := by decide +kernel
theorem dX6_work_109 : decode prog_14_method_2_code 109 = .ok (.if_icmp .ge 16, 3) := by decide +kernel
theorem dX6_work_112 : decode prog_14_method_2_code 112 = .ok (.aload 4, 2) := by decide +kernel
theorem dX6_work_114 : decode prog_14_method_2_code 114 = .ok (.iload 5, 2) := by decide +kernel
theorem dX6_work_116 : decode prog_14_method_2_code 116 = .ok (.iload 5, 2) := by decide +kernel
theorem dX6_work_118 : decode prog_14_method_2_code 118 = .ok (.iastore, 1) := by decide +kernel
theorem dX6_work_119 : decode prog_14_method_2_code 119 = .ok (.iinc 5 1, 3) := by decide +kernel
theorem dX6_work_122 : decode prog_14_method_2_code 122 = .ok (.goto (-18), 3) := by decide +kernel
theorem dX6_work_125 : decode prog_14_method_2_code 125 = .ok (.aload_n 0, 1) := by decide +kernel
theorem dX6_work_126 : decode prog_14_method_2_code 126 = .ok (.getfield 9, 3) := by decide +kernel
theorem dX6_work_129 : decode prog_14_method_2_code 129 = .ok (.new 15, 3) := by decide +kernel
theorem dX6_work_132 : decode prog_14_method_2_code 132 = .ok (.dup, 1) := by decide +kernel
theorem dX6_work_133 : decode prog_14_method_2_code 133 = .ok (.aload 4, 2) := by decide +kernel
theorem dX6_work_135 : decode prog_14_method_2_code 135 = .ok (.invokespecial 31, 3) := by decide +kernel
theorem dX6_work_138 : decode prog_14_method_2_code 138 = .ok (.iconst 1, 1) := by decide +kernel
theorem dX6_work_139 : decode prog_14_method_2_code 139 = .ok (.iload_n 3, 1) := by decide +kernel
theorem dX6_work_140 : decode prog_14_method_2_code 140 = .ok (.invokevirtual 34, 3) := by decide +kernel
theorem dX6_work_143 : decode prog_14_method_2_code 143 = .ok (.goto 170, 3) := by decide +kernel
theorem dX6_work_146 : decode prog_14_method_2_code 146 = .ok (.aload_n 0, 1) := by decide +kernel
theorem dX6_work_147 : decode prog_14_method_2_code 147 = .ok (.getfield 9, 3) := by decide +kernel
theorem dX6_work_150 : decode prog_14_method_2_code 150 = .ok (.new 38, 3) := by decide +kernel
theorem dX6_work_153 : decode prog_14_method_2_code 153 = .ok (.dup, 1) := by decide +kernel
theorem dX6_work_154 : decode prog_14_method_2_code 154 = .ok (.aload_n 0, 1) := by decide +kernel
theorem dX6_work_155 : decode prog_14_method_2_code 155 = .ok (.aload_n 0, 1) := by decide +kernel
theorem dX6_work_156 : decode prog_14_method_2_code 156 = .ok (.getfield 9, 3) := by decide +kernel
theorem dX6_work_159 : decode prog_14_method_2_code 159 = .ok (.aload_n 0, 1) := by decide +kernel
theorem dX6_work_160 : decode prog_14_method_2_code 160 = .ok (.getfield 9, 3) := by decide +kernel
theorem dX6_work_163 : decode prog_14_method_2_code 163 = .ok (.getfield 17, 3) := by decide +kernel
theorem dX6_work_166 : decode prog_14_method_2_code 166 = .ok (.iconst 1, 1) := by decide +kernel
theorem dX6_work_167 : decode prog_14_method_2_code 167 = .ok (.isub, 1) := by decide +kernel
theorem dX6_work_168 : decode prog_14_method_2_code 168 = .ok (.iload_n 3, 1) := by decide +kernel
theorem dX6_work_169 : decode prog_14_method_2_code 169 = .ok (.invokevirtual 23, 3) := by decide +kernel
theorem dX6_work_172 : decode prog_14_method_2_code 172 = .ok (.iload_n 3, 1) := by decide +kernel
theorem dX6_work_173 : decode prog_14_method_2_code 173 = .ok (.invokevirtual 40, 3) := by decide +kernel
theorem dX6_work_176 : decode prog_14_method_2_code 176 = .ok (.invokespecial 44, 3) := by decide +kernel
theorem dX6_work_179 : decode prog_14_method_2_code 179 = .ok (.iconst 1, 1) := by decide +kernel
theorem dX6_work_180 : decode prog_14_method_2_code 180 = .ok (.iload_n 3, 1) := by decide +kernel
theorem dX6_work_181 : decode prog_14_method_2_code 181 = .ok (.invokevirtual 34, 3) := by decide +kernel
theorem dX6_work_184 : decode prog_14_method_2_code 184 = .ok (.goto 129, 3) := by decide +kernel
theorem dX6_work_187 : decode prog_14_method_2_code 187 = .ok (.aload_n 0, 1) := by decide +kernel
theorem dX6_work_188 : decode prog_14_method_2_code 188 = .ok (.getfield 9, 3) := by decide +kernel
theorem dX6_work_191 : decode prog_14_method_2_code 191 = .ok (.new 47, 3) := by decide +kernel
theorem dX6_work_194 : decode prog_14_method_2_code 194 = .ok (.dup, 1) := by decide +kernel
theorem dX6_work_195 : decode prog_14_method_2_code 195 = .ok (.aload_n 0, 1) := by decide +kernel
theorem dX6_work_196 : decode prog_14_method_2_code 196 = .ok (.aload_n 0, 1) := by decide +kernel
theorem dX6_work_197 : decode prog_14_method_2_code 197 = .ok (.getfield 9, 3) := by decide +kernel
theorem dX6_work_200 : decode prog_14_method_2_code 200 = .ok (.aload_n 0, 1) := by decide +kernel
theorem dX6_work_201 : decode prog_14_method_2_code 201 = .ok (.getfield 9, 3) := by decide +kernel
theorem dX6_work_204 : decode prog_14_method_2_code 204 = .ok (.getfield 17, 3) := by decide +kernel
theorem dX6_work_207 : decode prog_14_method_2_code 207 = .ok (.iconst 2, 1) := by decide +kernel
theorem dX6_work_208 : decode prog_14_method_2_code 208 = .ok (.isub, 1) := by decide +kernel
theorem dX6_work_209 : decode prog_14_method_2_code 209 = .ok (.iload_n 3, 1) := by decide +kernel
theorem dX6_work_210 : decode prog_14_method_2_code 210 = .ok (.invokevirtual 23, 3) := by decide +kernel
theorem dX6_work_213 : decode prog_14_method_2_code 213 = .ok (.aload_n 0, 1) := by decide +kernel
theorem dX6_work_214 : decode prog_14_method_2_code 214 = .ok (.getfield 9, 3) := by decide +kernel
theorem dX6_work_217 : decode prog_14_method_2_code 217 = .ok (.aload_n 0, 1) := by decide +kernel
theorem dX6_work_218 : decode prog_14_method_2_code 218 = .ok (.getfield 9, 3) := by decide +kernel
theorem dX6_work_221 : decode prog_14_method_2_code 221 = .ok (.getfield 17, 3) := by decide +kernel
theorem dX6_work_224 : decode prog_14_method_2_code 224 = .ok (.iconst 1, 1) := by decide +kernel
theorem dX6_work_225 : decode prog_14_method_2_code 225 = .ok (.isub, 1) := by decide +kernel
theorem dX6_work_226 : decode prog_14_method_2_code 226 = .ok (.iload_n 3, 1) := by decide +kernel
theorem dX6_work_227 : decode prog_14_method_2_code 227 = .ok (.invokevirtual 23, 3) := by decide +kernel
theorem dX6_work_230 : decode prog_14_method_2_code 230 = .ok (.iload_n 3, 1) := by decide +kernel
theorem dX6_work_231 : decode prog_14_method_2_code 231 = .ok (.invokevirtual 49, 3) := by decide +kernel
theorem dX6_work_234 : decode prog_14_method_2_code 234 = .ok (.invokespecial 53, 3) := by decide +kernel
theorem dX6_work_237 : decode prog_14_method_2_code 237 = .ok (.iconst 2, 1) := by decide +kernel
theorem dX6_work_238 : decode prog_14_method_2_code 238 = .ok (.iload_n 3, 1) := by decide +kernel
theorem dX6_work_239 : decode prog_14_method_2_code 239 = .ok (.invokevirtual 34, 3) := by decide +kernel
theorem dX6_work_242 : decode prog_14_method_2_code 242 = .ok (.goto 71, 3) := by decide +kernel
theorem dX6_work_245 : decode prog_14_method_2_code 245 = .ok (.aload_n 0, 1) := by decide +kernel
theorem dX6_work_246 : decode prog_14_method_2_code 246 = .ok (.getfield 9, 3) := by decide +kernel
theorem dX6_work_249 : decode prog_14_method_2_code 249 = .ok (.new 47, 3) := by decide +kernel
theorem dX6_work_252 : decode prog_14_method_2_code 252 = .ok (.dup, 1) := by decide +kernel
theorem dX6_work_253 : decode prog_14_method_2_code 253 = .ok (.aload_n 0, 1) := by decide +kernel
theorem dX6_work_254 : decode prog_14_method_2_code 254 = .ok (.aload_n 0, 1) := by decide +kernel
theorem dX6_work_255 : decode prog_14_method_2_code 255 = .ok (.getfield 9, 3) := by decide +kernel
theorem dX6_work_258 : decode prog_14_method_2_code 258 = .ok (.aload_n 0, 1) := by decide +kernel
theorem dX6_work_259 : decode prog_14_method_2_code 259 = .ok (.getfield 9, 3) := by decide +kernel
theorem dX6_work_262 : decode prog_14_method_2_code 262 = .ok (.getfield 17, 3) := by decide +kernel
theorem dX6_work_265 : decode prog_14_method_2_code 265 = .ok (.iconst 1, 1) := by decide +kernel
theorem dX6_work_266 : decode prog_14_method_2_code 266 = .ok (.isub, 1) := by decide +kernel
theorem dX6_work_267 : decode prog_14_method_2_code 267 = .ok (.iload_n 3, 1) := by decide +kernel
theorem dX6_work_268 : decode prog_14_method_2_code 268 = .ok (.invokevirtual 56, 3) := by decide +kernel
theorem dX6_work_271 : decode prog_14_method_2_code 271 = .ok (.getfield 60, 3) := by decide +kernel
theorem dX6_work_274 : decode prog_14_method_2_code 274 = .ok (.iload_n 3, 1) := by decide +kernel
theorem dX6_work_275 : decode prog_14_method_2_code 275 = .ok (.invokevirtual 64, 3) := by decide +kernel
theorem dX6_work_278 : decode prog_14_method_2_code 278 = .ok (.invokespecial 53, 3) := by decide +kernel
theorem dX6_work_281 : decode prog_14_method_2_code 281 = .ok (.iconst 1, 1) := by decide +kernel
theorem dX6_work_282 : decode prog_14_method_2_code 282 = .ok (.iload_n 3, 1) := by decide +kernel
theorem dX6_work_283 : decode prog_14_method_2_code 283 = .ok (.invokevirtual 34, 3) := by decide +kernel
theorem dX6_work_286 : decode prog_14_method_2_code 286 = .ok (.goto 27, 3) := by decide +kernel
theorem dX6_work_289 : decode prog_14_method_2_code 289 = .ok (.aload_n 0, 1) := by decide +kernel
theorem dX6_work_290 : decode prog_14_method_2_code 290 = .ok (.getfield 9, 3) := by decide +kernel
theorem dX6_work_293 : decode prog_14_method_2_code 293 = .ok (.aload_n 0, 1) := by decide +kernel
theorem dX6_work_294 : decode prog_14_method_2_code 294 = .ok (.aload_n 0, 1) := by decide +kernel
theorem dX6_work_295 : decode prog_14_method_2_code 295 = .ok (.getfield 9, 3) := by decide +kernel
theorem dX6_work_298 : decode prog_14_method_2_code 298 = .ok (.getfield 17, 3) := by decide +kernel
theorem dX6_work_301 : decode prog_14_method_2_code 301 = .ok (.iload_n 2, 1) := by decide +kernel
theorem dX6_work_302 : decode prog_14_method_2_code 302 = .ok (.isub, 1) := by decide +kernel
theorem dX6_work_303 : decode prog_14_method_2_code 303 = .ok (.iload_n 2, 1) := by decide +kernel
theorem dX6_work_304 : decode prog_14_method_2_code 304 = .ok (.iload_n 3, 1) := by decide +kernel
theorem dX6_work_305 : decode prog_14_method_2_code 305 = .ok (.invokevirtual 68, 3) := by decide +kernel
theorem dX6_work_308 : decode prog_14_method_2_code 308 = .ok (.iload_n 2, 1) := by decide +kernel
theorem dX6_work_309 : decode prog_14_method_2_code 309 = .ok (.iload_n 3, 1) := by decide +kernel
theorem dX6_work_310 : decode prog_14_method_2_code 310 = .ok (.invokevirtual 34, 3) := by decide +kernel
theorem dX6_work_313 : decode prog_14_method_2_code 313 = .ok (.return_, 1) := by decide +kernel
theorem dX6_ints_0 : decode prog_14_method_3_code 0 = .ok (.iload_n 1, 1) := by decide +kernel
theorem dX6_ints_1 : decode prog_14_method_3_code 1 = .ok (.bipush 64, 2) := by decide +kernel
theorem dX6_ints_3 : decode prog_14_method_3_code 3 = .ok (.if_icmp .le 13, 3) := by decide +kernel
theorem dX6_ints_6 : decode prog_14_method_3_code 6 = .ok (.aload_n 0, 1) := by decide +kernel
theorem dX6_ints_7 : decode prog_14_method_3_code 7 = .ok (.getfield 9, 3) := by decide +kernel
theorem dX6_ints_10 : decode prog_14_method_3_code 10 = .ok (.iconst 2, 1) := by decide +kernel
theorem dX6_ints_11 : decode prog_14_method_3_code 11 = .ok (.iload_n 2, 1) := by decide +kernel
theorem dX6_ints_12 : decode prog_14_method_3_code 12 = .ok (.invokevirtual 72, 3) := by decide +kernel
theorem dX6_ints_15 : decode prog_14_method_3_code 15 = .ok (.athrow, 1) := by decide +kernel
theorem dX6_ints_16 : decode prog_14_method_3_code 16 = .ok (.iload_n 1, 1) := by decide +kernel
theorem dX6_ints_17 : decode prog_14_method_3_code 17 = .ok (.newarray .int, 2) := by decide +kernel
theorem dX6_ints_19 : decode prog_14_method_3_code 19 = .ok (.areturn, 1) := by decide +kernel
theorem dX6_ints_20 : decode prog_14_method_3_code 20 = .ok (.astore_n 3, 1) := by decide +kernel
theorem dX6_ints_21 : decode prog_14_method_3_code 21 = .ok (.aload_n 0, 1) := by decide +kernel
theorem dX6_ints_22 : decode prog_14_method_3_code 22 = .ok (.getfield 9, 3) := by decide +kernel
theorem dX6_ints_25 : decode prog_14_method_3_code 25 = .ok (.iconst 1, 1) := by decide +kernel
theorem dX6_ints_26 : decode prog_14_method_3_code 26 = .ok (.iload_n 2, 1) := by decide +kernel
theorem dX6_ints_27 : decode prog_14_method_3_code 27 = .ok (.invokevirtual 72, 3) := by decide +kernel
theorem dX6_ints_30 : decode prog_14_method_3_code 30 = .ok (.athrow, 1) := by decide +kernel
theorem dX6_things_0 : decode prog_14_method_4_code 0 = .ok (.iload_n 1, 1) := by decide +kernel
theorem dX6_things_1 : decode prog_14_method_4_code 1 = .ok (.bipush 20, 2) := by decide +kernel
theorem dX6_things_3 : decode prog_14_method_4_code 3 = .ok (.if_icmp .le 13, 3) := by decide +kernel
theorem dX6_things_6 : decode prog_14_method_4_code 6 = .ok (.aload_n 0, 1) := by decide +kernel
theorem dX6_things_7 : decode prog_14_method_4_code 7 = .ok (.getfield 9, 3) := by decide +kernel
theorem dX6_things_10 : decode prog_14_method_4_code 10 = .ok (.iconst 2, 1) := by decide +kernel
theorem dX6_things_11 : decode prog_14_method_4_code 11 = .ok (.iload_n 2, 1) := by decide +kernel
theorem dX6_things_12 : decode prog_14_method_4_code 12 = .ok (.invokevirtual 72, 3) := by decide +kernel
theorem dX6_things_15 : decode prog_14_method_4_code 15 = .ok (.athrow, 1) := by decide +kernel
theorem dX6_things_16 : decode prog_14_method_4_code 16 = .ok (.iload_n 1, 1) := by decide +kernel
theorem dX6_things_17 : decode prog_14_method_4_code 17 = .ok (.anewarray 78, 3) := by decide +kernel
theorem dX6_things_20 : decode prog_14_method_4_code 20 = .ok (.astore_n 3, 1) := by decide +kernel
theorem dX6_things_21 : decode prog_14_method_4_code 21 = .ok (.goto 15, 3) := by decide +kernel
theorem dX6_things_24 : decode prog_14_method_4_code 24 = .ok (.astore 4, 2) := by decide +kernel
theorem dX6_things_26 : decode prog_14_method_4_code 26 = .ok (.aload_n 0, 1) := by decide +kernel
theorem dX6_things_27 : decode prog_14_method_4_code 27 = .ok (.getfield 9, 3) := by decide +kernel
theorem dX6_things_30 : decode prog_14_method_4_code 30 = .ok (.iconst 1, 1) := by decide +kernel
theorem dX6_things_31 : decode prog_14_method_4_code 31 = .ok (.iload_n 2, 1) := by decide +kernel
theorem dX6_things_32 : decode prog_14_method_4_code 32 = .ok (.invokevirtual 72, 3) := by decide +kernel
theorem dX6_things_35 : decode prog_14_method_4_code 35 = .ok (.athrow, 1) := by decide +kernel
theorem dX6_things_36 : decode prog_14_method_4_code 36 = .ok (.iconst 0, 1) := by decide +kernel
theorem dX6_things_37 : decode prog_14_method_4_code 37 = .ok (.istore 4, 2) := by decide +kernel
theorem dX6_things_39 : decode prog_14_method_4_code 39 = .ok (.iload 4, 2) := by decide +kernel
theorem dX6_things_41 : decode prog_14_method_4_code 41 = .ok (.iload_n 1, 1) := by decide +kernel
theorem dX6_things_42 : decode prog_14_method_4_code 42 = .ok (.if_icmp .ge 21, 3) := by decide +kernel
theorem dX6_things_45 : decode prog_14_method_4_code 45 = .ok (.aload_n 3, 1) := by decide +kernel
theorem dX6_things_46 : decode prog_14_method_4_code 46 = .ok (.iload 4, 2) := by decide +kernel
theorem dX6_things_48 : decode prog_14_method_4_code 48 = .ok (.new 80, 3) := by decide +kernel
theorem dX6_things_51 : decode prog_14_method_4_code 51 = .ok (.dup, 1) := by decide +kernel
theorem dX6_things_52 : decode prog_14_method_4_code 52 = .ok (.iconst 0, 1) := by decide +kernel
theorem dX6_things_53 : decode prog_14_method_4_code 53 = .ok (.invokespecial 82, 3) := by decide +kernel
theorem dX6_things_56 : decode prog_14_method_4_code 56 = .ok (.aastore, 1) := by decide +kernel
theorem dX6_things_57 : decode prog_14_method_4_code 57 = .ok (.iinc 4 1, 3) := by decide +kernel
theorem dX6_things_60 : decode prog_14_method_4_code 60 = .ok (.goto (-21), 3) := by decide +kernel
theorem dX6_things_63 : decode prog_14_method_4_code 63 = .ok (.aload_n 3, 1) := by decide +kernel
theorem dX6_things_64 : decode prog_14_method_4_code 64 = .ok (.areturn, 1) := by decide +kernel
theorem dX6_rows_0 : decode prog_14_method_6_code 0 = .ok (.lconst 0, 1) := by decide +kernel
theorem dX6_rows_1 : decode prog_14_method_6_code 1 = .ok (.lstore_n 3, 1) := by decide +kernel
theorem dX6_rows_2 : decode prog_14_method_6_code 2 = .ok (.aload_n 1, 1) := by decide +kernel
theorem dX6_rows_3 : decode prog_14_method_6_code 3 = .ok (.arraylength, 1) := by decide +kernel
theorem dX6_rows_4 : decode prog_14_method_6_code 4 = .ok (.bipush 20, 2) := by decide +kernel
theorem dX6_rows_6 : decode prog_14_method_6_code 6 = .ok (.if_icmp .le 7, 3) := by decide +kernel
theorem dX6_rows_9 : decode prog_14_method_6_code 9 = .ok (.iconst 1, 1) := by decide +kernel
theorem dX6_rows_10 : decode prog_14_method_6_code 10 = .ok (.goto 4, 3) := by decide +kernel
theorem dX6_rows_13 : decode prog_14_method_6_code 13 = .ok (.iconst 0, 1) := by decide +kernel
theorem dX6_rows_14 : decode prog_14_method_6_code 14 = .ok (.istore 5, 2) := by decide +kernel
theorem dX6_rows_16 : decode prog_14_method_6_code 16 = .ok (.iconst 0, 1) := by decide +kernel
theorem dX6_rows_17 : decode prog_14_method_6_code 17 = .ok (.istore 6, 2) := by decide +kernel
theorem dX6_rows_19 : decode prog_14_method_6_code 19 = .ok (.iload 6, 2) := by decide +kernel
theorem dX6_rows_21 : decode prog_14_method_6_code 21 = .ok (.aload_n 1, 1) := by decide +kernel
theorem dX6_rows_22 : decode prog_14_method_6_code 22 = .ok (.arraylength, 1) := by decide +kernel
theorem dX6_rows_23 : decode prog_14_method_6_code 23 = .ok (.if_icmp .ge 42, 3) := by decide +kernel
theorem dX6_rows_26 : decode prog_14_method_6_code 26 = .ok (.iload 5, 2) := by decide +kernel
theorem dX6_rows_28 : decode prog_14_method_6_code 28 = .ok (.ifCond .ne 12, 3) := by decide +kernel
theorem dX6_rows_31 : decode prog_14_method_6_code 31 = .ok (.aload_n 1, 1) := by decide +kernel
theorem dX6_rows_32 : decode prog_14_method_6_code 32 = .ok (.iload 6, 2) := by decide +kernel
theorem dX6_rows_34 : decode prog_14_method_6_code 34 = .ok (.iaload, 1) := by decide +kernel
theorem dX6_rows_35 : decode prog_14_method_6_code 35 = .ok (.bipush 64, 2) := by decide +kernel
theorem dX6_rows_37 : decode prog_14_method_6_code 37 = .ok (.if_icmp .le 7, 3) := by decide +kernel
theorem dX6_rows_40 : decode prog_14_method_6_code 40 = .ok (.iconst 1, 1) := by decide +kernel
theorem dX6_rows_41 : decode prog_14_method_6_code 41 = .ok (.goto 4, 3) := by decide +kernel
theorem dX6_rows_44 : decode prog_14_method_6_code 44 = .ok (.iconst 0, 1) := by decide +kernel
theorem dX6_rows_45 : decode prog_14_method_6_code 45 = .ok (.istore 5, 2) := by decide +kernel
theorem dX6_rows_47 : decode prog_14_method_6_code 47 = .ok (.lload_n 3, 1) := by decide +kernel
theorem dX6_rows_48 : decode prog_14_method_6_code 48 = .ok (.iconst 0, 1) := by decide +kernel
theorem dX6_rows_49 : decode prog_14_method_6_code 49 = .ok (.aload_n 1, 1) := by decide +kernel
theorem dX6_rows_50 : decode prog_14_method_6_code 50 = .ok (.iload 6, 2) := by decide +kernel
theorem dX6_rows_52 : decode prog_14_method_6_code 52 = .ok (.iaload, 1) := by decide +kernel
theorem dX6_rows_53 : decode prog_14_method_6_code 53 = .ok (.invokestatic 87, 3) := by decide +kernel
theorem dX6_rows_56 : decode prog_14_method_6_code 56 = .ok (.i2l, 1) := by decide +kernel
theorem dX6_rows_57 : decode prog_14_method_6_code 57 = .ok (.ladd, 1) := by decide +kernel
theorem dX6_rows_58 : decode prog_14_method_6_code 58 = .ok (.lstore_n 3, 1) := by decide +kernel
theorem dX6_rows_59 : decode prog_14_method_6_code 59 = .ok (.iinc 6 1, 3) := by decide +kernel
theorem dX6_rows_62 : decode prog_14_method_6_code 62 = .ok (.goto (-43), 3) := by decide +kernel
theorem dX6_rows_65 : decode prog_14_method_6_code 65 = .ok (.iload 5, 2) := by decide +kernel
theorem dX6_rows_67 : decode prog_14_method_6_code 67 = .ok (.ifCond .ne 11, 3) := by decide +kernel
theorem dX6_rows_70 : decode prog_14_method_6_code 70 = .ok (.lload_n 3, 1) := by decide +kernel
theorem dX6_rows_71 : decode prog_14_method_6_code 71 = .ok (.ldc2_w 92, 3) := by decide +kernel
theorem dX6_rows_74 : decode prog_14_method_6_code 74 = .ok (.lcmp, 1) := by decide +kernel
theorem dX6_rows_75 : decode prog_14_method_6_code 75 = .ok (.ifCond .le 13, 3) := by decide +kernel
theorem dX6_rows_78 : decode prog_14_method_6_code 78 = .ok (.aload_n 0, 1) := by decide +kernel
theorem dX6_rows_79 : decode prog_14_method_6_code 79 = .ok (.getfield 9, 3) := by decide +kernel
theorem dX6_rows_82 : decode prog_14_method_6_code 82 = .ok (.iconst 2, 1) := by decide +kernel
theorem dX6_rows_83 : decode prog_14_method_6_code 83 = .ok (.iload_n 2, 1) := by decide +kernel
theorem dX6_rows_84 : decode prog_14_method_6_code 84 = .ok (.invokevirtual 72, 3) := by decide +kernel
theorem dX6_rows_87 : decode prog_14_method_6_code 87 = .ok (.athrow, 1) := by decide +kernel
theorem dX6_rows_88 : decode prog_14_method_6_code 88 = .ok (.aload_n 1, 1) := by decide +kernel
theorem dX6_rows_89 : decode prog_14_method_6_code 89 = .ok (.arraylength, 1) := by decide +kernel
theorem dX6_rows_90 : decode prog_14_method_6_code 90 = .ok (.anewarray 94, 3) := by decide +kernel
theorem dX6_rows_93 : decode prog_14_method_6_code 93 = .ok (.astore 6, 2) := by decide +kernel
theorem dX6_rows_95 : decode prog_14_method_6_code 95 = .ok (.iconst 0, 1) := by decide +kernel
theorem dX6_rows_96 : decode prog_14_method_6_code 96 = .ok (.istore 7, 2) := by decide +kernel
theorem dX6_rows_98 : decode prog_14_method_6_code 98 = .ok (.iload 7, 2) := by decide +kernel
theorem dX6_rows_100 : decode prog_14_method_6_code 100 = .ok (.aload_n 1, 1) := by decide +kernel
theorem dX6_rows_101 : decode prog_14_method_6_code 101 = .ok (.arraylength, 1) := by decide +kernel
theorem dX6_rows_102 : decode prog_14_method_6_code 102 = .ok (.if_icmp .ge 20, 3) := by decide +kernel
theorem dX6_rows_105 : decode prog_14_method_6_code 105 = .ok (.aload 6, 2) := by decide +kernel
theorem dX6_rows_107 : decode prog_14_method_6_code 107 = .ok (.iload 7, 2) := by decide +kernel
theorem dX6_rows_109 : decode prog_14_method_6_code 109 = .ok (.aload_n 1, 1) := by decide +kernel
theorem dX6_rows_110 : decode prog_14_method_6_code 110 = .ok (.iload 7, 2) := by decide +kernel
theorem dX6_rows_112 : decode prog_14_method_6_code 112 = .ok (.iaload, 1) := by decide +kernel
theorem dX6_rows_113 : decode prog_14_method_6_code 113 = .ok (.newarray .int, 2) := by decide +kernel
theorem dX6_rows_115 : decode prog_14_method_6_code 115 = .ok (.aastore, 1) := by decide +kernel
theorem dX6_rows_116 : decode prog_14_method_6_code 116 = .ok (.iinc 7 1, 3) := by decide +kernel
theorem dX6_rows_119 : decode prog_14_method_6_code 119 = .ok (.goto (-21), 3) := by decide +kernel
theorem dX6_rows_122 : decode prog_14_method_6_code 122 = .ok (.goto 15, 3) := by decide +kernel
theorem dX6_rows_125 : decode prog_14_method_6_code 125 = .ok (.astore 7, 2) := by decide +kernel
theorem dX6_rows_127 : decode prog_14_method_6_code 127 = .ok (.aload_n 0, 1) := by decide +kernel
theorem dX6_rows_128 : decode prog_14_method_6_code 128 = .ok (.getfield 9, 3) := by decide +kernel
theorem dX6_rows_131 : decode prog_14_method_6_code 131 = .ok (.iconst 1, 1) := by decide +kernel
theorem dX6_rows_132 : decode prog_14_method_6_code 132 = .ok (.iload_n 2, 1) := by decide +kernel
theorem dX6_rows_133 : decode prog_14_method_6_code 133 = .ok (.invokevirtual 72, 3) := by decide +kernel
theorem dX6_rows_136 : decode prog_14_method_6_code 136 = .ok (.athrow, 1) := by decide +kernel
theorem dX6_rows_137 : decode prog_14_method_6_code 137 = .ok (.aload 6, 2) := by decide +kernel
theorem dX6_rows_139 : decode prog_14_method_6_code 139 = .ok (.areturn, 1) := by decide +kernel
theorem dX7_work_0 : decode prog_35_method_2_code 0 = .ok (.aload_n 0, 1) := by decide +kernel
theorem dX7_work_1 : decode prog_35_method_2_code 1 = .ok (.getfield 9, 3) := by decide +kernel
theorem dX7_work_4 : decode prog_35_method_2_code 4 = .ok (.getfield 15, 3) := by decide +kernel
theorem dX7_work_7 : decode prog_35_method_2_code 7 = .ok (.iconst 1, 1) := by decide +kernel
theorem dX7_work_8 : decode prog_35_method_2_code 8 = .ok (.isub, 1) := by decide +kernel
theorem dX7_work_9 : decode prog_35_method_2_code 9 = .ok (.istore_n 3, 1) := by decide +kernel
theorem dX7_work_10 : decode prog_35_method_2_code 10 = .ok (.aload_n 0, 1) := by decide +kernel
theorem dX7_work_11 : decode prog_35_method_2_code 11 = .ok (.getfield 9, 3) := by decide +kernel
theorem dX7_work_14 : decode prog_35_method_2_code 14 = .ok (.getfield 21, 3) := by decide +kernel
theorem dX7_work_17 : decode prog_35_method_2_code 17 = .ok (.iload_n 3, 1) := by decide +kernel
theorem dX7_work_18 : decode prog_35_method_2_code 18 = .ok (.aaload, 1) := by decide +kernel
theorem dX7_work_19 : decode prog_35_method_2_code 19 = .ok (.astore 4, 2) := by decide +kernel
theorem dX7_work_21 : decode prog_35_method_2_code 21 = .ok (.iload_n 1, 1) := by decide +kernel
theorem dX7_work_22 : decode prog_35_method_2_code 22 = .ok (.tableswitch 316 6 18 #[66, 97, 121, 146, 146, 146, 157, 157, 168, 202, 221, 247, 280], 66) := by decide +kernel
theorem dX7_work_88 : decode prog_35_method_2_code 88 = .ok (.aload 4, 2) := by decide +kernel
theorem dX7_work_90 : decode prog_35_method_2_code 90 = .ok (.ifnonnull 13, 3) := by decide +kernel
theorem dX7_work_93 : decode prog_35_method_2_code 93 = .ok (.aload_n 0, 1) := by decide +kernel
theorem dX7_work_94 : decode prog_35_method_2_code 94 = .ok (.getfield 9, 3) := by decide +kernel
theorem dX7_work_97 : decode prog_35_method_2_code 97 = .ok (.iconst 3, 1) := by decide +kernel
theorem dX7_work_98 : decode prog_35_method_2_code 98 = .ok (.iload_n 2, 1) := by decide +kernel
theorem dX7_work_99 : decode prog_35_method_2_code 99 = .ok (.invokevirtual 25, 3) := by decide +kernel
theorem dX7_work_102 : decode prog_35_method_2_code 102 = .ok (.athrow, 1) := by decide +kernel
theorem dX7_work_103 : decode prog_35_method_2_code 103 = .ok (.aload_n 0, 1) := by decide +kernel
theorem dX7_work_104 : decode prog_35_method_2_code 104 = .ok (.getfield 9, 3) := by decide +kernel
theorem dX7_work_107 : decode prog_35_method_2_code 107 = .ok (.aload 4, 2) := by decide +kernel
theorem dX7_work_109 : decode prog_35_method_2_code 109 = .ok (.invokevirtual 29, 3) := by decide +kernel
theorem dX7_work_112 : decode prog_35_method_2_code 112 = .ok (.iconst 1, 1) := by decide +kernel
theorem dX7_work_113 : decode prog_35_method_2_code 113 = .ok (.invokevirtual 35, 3) := by decide +kernel
theorem dX7_work_116 : decode prog_35_method_2_code 116 = .ok (.goto 228, 3) := by decide +kernel
theorem dX7_work_119 : decode prog_35_method_2_code 119 = .ok (.aload_n 0, 1) := by decide +kernel
theorem dX7_work_120 : decode prog_35_method_2_code 120 = .ok (.getfield 9, 3) := by decide +kernel
theorem dX7_work_123 : decode prog_35_method_2_code 123 = .ok (.aload_n 0, 1) := by decide +kernel
theorem dX7_work_124 : decode prog_35_method_2_code 124 = .ok (.getfield 9, 3) := by decide +kernel
theorem dX7_work_127 : decode prog_35_method_2_code 127 = .ok (.iload_n 3, 1) := by decide +kernel
theorem dX7_work_128 : decode prog_35_method_2_code 128 = .ok (.iload_n 2, 1) := by decide +kernel
theorem dX7_work_129 : decode prog_35_method_2_code 129 = .ok (.invokevirtual 39, 3) := by decide +kernel
theorem dX7_work_132 : decode prog_35_method_2_code 132 = .ok (.invokestatic 43, 3) := by decide +kernel
theorem dX7_work_135 : decode prog_35_method_2_code 135 = .ok (.iconst 1, 1) := by decide +kernel
theorem dX7_work_136 : decode prog_35_method_2_code 136 = .ok (.iload_n 2, 1) := by decide +kernel
theorem dX7_work_137 : decode prog_35_method_2_code 137 = .ok (.invokevirtual 47, 3) := by decide +kernel
theorem dX7_work_140 : decode prog_35_method_2_code 140 = .ok (.goto 204, 3) := by decide +kernel
theorem dX7_work_143 : decode prog_35_method_2_code 143 = .ok (.aload_n 0, 1) := by decide +kernel
theorem dX7_work_144 : decode prog_35_method_2_code 144 = .ok (.getfield 9, 3) := by decide +kernel
theorem dX7_work_147 : decode prog_35_method_2_code 147 = .ok (.aload 4, 2) := by decide +kernel
theorem dX7_work_149 : decode prog_35_method_2_code 149 = .ok (.ifnonnull 7, 3) := by decide +kernel
theorem dX7_work_152 : decode prog_35_method_2_code 152 = .ok (.iconst 0, 1) := by decide +kernel
theorem dX7_work_153 : decode prog_35_method_2_code 153 = .ok (.goto 8, 3) := by decide +kernel
theorem dX7_work_156 : decode prog_35_method_2_code 156 = .ok (.aload 4, 2) := by decide +kernel
theorem dX7_work_158 : decode prog_35_method_2_code 158 = .ok (.invokevirtual 50, 3) := by decide +kernel
theorem dX7_work_161 : decode prog_35_method_2_code 161 = .ok (.iconst 1, 1) := by decide +kernel
theorem dX7_work_162 : decode prog_35_method_2_code 162 = .ok (.invokevirtual 35, 3) := by decide +kernel
theorem dX7_work_165 : decode prog_35_method_2_code 165 = .ok (.goto 179, 3) := by decide +kernel
theorem dX7_work_168 : decode prog_35_method_2_code 168 = .ok (.aload_n 0, 1) := by decide +kernel
theorem dX7_work_169 : decode prog_35_method_2_code 169 = .ok (.iload_n 1, 1) := by decide +kernel
theorem dX7_work_170 : decode prog_35_method_2_code 170 = .ok (.aload 4, 2) := by decide +kernel
theorem dX7_work_172 : decode prog_35_method_2_code 172 = .ok (.iload_n 2, 1) := by decide +kernel
theorem dX7_work_173 : decode prog_35_method_2_code 173 = .ok (.invokevirtual 53, 3) := by decide +kernel
theorem dX7_work_176 : decode prog_35_method_2_code 176 = .ok (.goto 168, 3) := by decide +kernel
theorem dX7_work_179 : decode prog_35_method_2_code 179 = .ok (.aload_n 0, 1) := by decide +kernel
theorem dX7_work_180 : decode prog_35_method_2_code 180 = .ok (.iload_n 1, 1) := by decide +kernel
theorem dX7_work_181 : decode prog_35_method_2_code 181 = .ok (.aload 4, 2) := by decide +kernel
theorem dX7_work_183 : decode prog_35_method_2_code 183 = .ok (.iload_n 2, 1) := by decide +kernel
theorem dX7_work_184 : decode prog_35_method_2_code 184 = .ok (.invokevirtual 57, 3) := by decide +kernel
theorem dX7_work_187 : decode prog_35_method_2_code 187 = .ok (.goto 157, 3) := by decide +kernel
theorem dX7_work_190 : decode prog_35_method_2_code 190 = .ok (.aload_n 0, 1) := by decide +kernel
theorem dX7_work_191 : decode prog_35_method_2_code 191 = .ok (.getfield 9, 3) := by decide +kernel
theorem dX7_work_194 : decode prog_35_method_2_code 194 = .ok (.new 60, 3) := by decide +kernel
theorem dX7_work_197 : decode prog_35_method_2_code 197 = .ok (.dup, 1) := by decide +kernel
theorem dX7_work_198 : decode prog_35_method_2_code 198 = .ok (.aload_n 0, 1) := by decide +kernel
theorem dX7_work_199 : decode prog_35_method_2_code 199 = .ok (.getfield 9, 3) := by decide +kernel
theorem dX7_work_202 : decode prog_35_method_2_code 202 = .ok (.iload_n 3, 1) := by decide +kernel
theorem dX7_work_203 : decode prog_35_method_2_code 203 = .ok (.iload_n 2, 1) := by decide +kernel
theorem dX7_work_204 : decode prog_35_method_2_code 204 = .ok (.invokevirtual 62, 3) := by decide +kernel
theorem dX7_work_207 : decode prog_35_method_2_code 207 = .ok (.getfield 66, 3) := by decide +kernel
theorem dX7_work_210 : decode prog_35_method_2_code 210 = .ok (.invokestatic 70, 3) := by decide +kernel
theorem dX7_work_213 : decode prog_35_method_2_code 213 = .ok (.invokespecial 74, 3) := by decide +kernel
theorem dX7_work_216 : decode prog_35_method_2_code 216 = .ok (.iconst 1, 1) := by decide +kernel
theorem dX7_work_217 : decode prog_35_method_2_code 217 = .ok (.iload_n 2, 1) := by decide +kernel
theorem dX7_work_218 : decode prog_35_method_2_code 218 = .ok (.invokevirtual 47, 3) := by decide +kernel
theorem dX7_work_221 : decode prog_35_method_2_code 221 = .ok (.goto 123, 3) := by decide +kernel
theorem dX7_work_224 : decode prog_35_method_2_code 224 = .ok (.aload_n 0, 1) := by decide +kernel
theorem dX7_work_225 : decode prog_35_method_2_code 225 = .ok (.getfield 9, 3) := by decide +kernel
theorem dX7_work_228 : decode prog_35_method_2_code 228 = .ok (.aload_n 0, 1) := by decide +kernel
theorem dX7_work_229 : decode prog_35_method_2_code 229 = .ok (.aload 4, 2) := by decide +kernel
theorem dX7_work_231 : decode prog_35_method_2_code 231 = .ok (.iload_n 2, 1) := by decide +kernel
theorem dX7_work_232 : decode prog_35_method_2_code 232 = .ok (.invokevirtual 77, 3) := by decide +kernel
theorem dX7_work_235 : decode prog_35_method_2_code 235 = .ok (.iconst 1, 1) := by decide +kernel
theorem dX7_work_236 : decode prog_35_method_2_code 236 = .ok (.iload_n 2, 1) := by decide +kernel
theorem dX7_work_237 : decode prog_35_method_2_code 237 = .ok (.invokevirtual 47, 3) := by decide +kernel
theorem dX7_work_240 : decode prog_35_method_2_code 240 = .ok (.goto 104, 3) := by decide +kernel
theorem dX7_work_243 : decode prog_35_method_2_code 243 = .ok (.aload_n 0, 1) := by decide +kernel
theorem dX7_work_244 : decode prog_35_method_2_code 244 = .ok (.getfield 9, 3) := by decide +kernel
theorem dX7_work_247 : decode prog_35_method_2_code 247 = .ok (.new 60, 3) := by decide +kernel
theorem dX7_work_250 : decode prog_35_method_2_code 250 = .ok (.dup, 1) := by decide +kernel
theorem dX7_work_251 : decode prog_35_method_2_code 251 = .ok (.aload_n 0, 1) := by decide +kernel
theorem dX7_work_252 : decode prog_35_method_2_code 252 = .ok (.aload 4, 2) := by decide +kernel
theorem dX7_work_254 : decode prog_35_method_2_code 254 = .ok (.iload_n 2, 1) := by decide +kernel
theorem dX7_work_255 : decode prog_35_method_2_code 255 = .ok (.invokevirtual 81, 3) := by decide +kernel
theorem dX7_work_258 : decode prog_35_method_2_code 258 = .ok (.invokespecial 74, 3) := by decide +kernel
theorem dX7_work_261 : decode prog_35_method_2_code 261 = .ok (.iconst 1, 1) := by decide +kernel
theorem dX7_work_262 : decode prog_35_method_2_code 262 = .ok (.iload_n 2, 1) := by decide +kernel
theorem dX7_work_263 : decode prog_35_method_2_code 263 = .ok (.invokevirtual 47, 3) := by decide +kernel
theorem dX7_work_266 : decode prog_35_method_2_code 266 = .ok (.goto 78, 3) := by decide +kernel
theorem dX7_work_269 : decode prog_35_method_2_code 269 = .ok (.aload_n 0, 1) := by decide +kernel
theorem dX7_work_270 : decode prog_35_method_2_code 270 = .ok (.getfield 9, 3) := by decide +kernel
theorem dX7_work_273 : decode prog_35_method_2_code 273 = .ok (.new 85, 3) := by decide +kernel
theorem dX7_work_276 : decode prog_35_method_2_code 276 = .ok (.dup, 1) := by decide +kernel
theorem dX7_work_277 : decode prog_35_method_2_code 277 = .ok (.aload_n 0, 1) := by decide +kernel
theorem dX7_work_278 : decode prog_35_method_2_code 278 = .ok (.aload_n 0, 1) := by decide +kernel
theorem dX7_work_279 : decode prog_35_method_2_code 279 = .ok (.getfield 9, 3) := by decide +kernel
theorem dX7_work_282 : decode prog_35_method_2_code 282 = .ok (.iload_n 3, 1) := by decide +kernel
theorem dX7_work_283 : decode prog_35_method_2_code 283 = .ok (.iload_n 2, 1) := by decide +kernel
theorem dX7_work_284 : decode prog_35_method_2_code 284 = .ok (.invokevirtual 39, 3) := by decide +kernel
theorem dX7_work_287 : decode prog_35_method_2_code 287 = .ok (.iload_n 2, 1) := by decide +kernel
theorem dX7_work_288 : decode prog_35_method_2_code 288 = .ok (.invokevirtual 87, 3) := by decide +kernel
theorem dX7_work_291 : decode prog_35_method_2_code 291 = .ok (.invokespecial 91, 3) := by decide +kernel
theorem dX7_work_294 : decode prog_35_method_2_code 294 = .ok (.iconst 1, 1) := by decide +kernel
theorem dX7_work_295 : decode prog_35_method_2_code 295 = .ok (.iload_n 2, 1) := by decide +kernel
theorem dX7_work_296 : decode prog_35_method_2_code 296 = .ok (.invokevirtual 47, 3) := by decide +kernel
theorem dX7_work_299 : decode prog_35_method_2_code 299 = .ok (.goto 45, 3) := by decide +kernel
theorem dX7_work_302 : decode prog_35_method_2_code 302 = .ok (.aload_n 0, 1) := by decide +kernel
theorem dX7_work_303 : decode prog_35_method_2_code 303 = .ok (.getfield 9, 3) := by decide +kernel
theorem dX7_work_306 : decode prog_35_method_2_code 306 = .ok (.new 85, 3) := by decide +kernel
theorem dX7_work_309 : decode prog_35_method_2_code 309 = .ok (.dup, 1) := by decide +kernel
theorem dX7_work_310 : decode prog_35_method_2_code 310 = .ok (.aload_n 0, 1) := by decide +kernel
theorem dX7_work_311 : decode prog_35_method_2_code 311 = .ok (.aload_n 0, 1) := by decide +kernel
theorem dX7_work_312 : decode prog_35_method_2_code 312 = .ok (.getfield 9, 3) := by decide +kernel
theorem dX7_work_315 : decode prog_35_method_2_code 315 = .ok (.iload_n 3, 1) := by decide +kernel
theorem dX7_work_316 : decode prog_35_method_2_code 316 = .ok (.iload_n 2, 1) := by decide +kernel
theorem dX7_work_317 : decode prog_35_method_2_code 317 = .ok (.invokevirtual 62, 3) := by decide +kernel
theorem dX7_work_320 : decode prog_35_method_2_code 320 = .ok (.getfield 66, 3) := by decide +kernel
theorem dX7_work_323 : decode prog_35_method_2_code 323 = .ok (.iload_n 2, 1) := by decide +kernel
theorem dX7_work_324 : decode prog_35_method_2_code 324 = .ok (.invokevirtual 94, 3) := by decide +kernel
theorem dX7_work_327 : decode prog_35_method_2_code 327 = .ok (.invokespecial 91, 3) := by decide +kernel
theorem dX7_work_330 : decode prog_35_method_2_code 330 = .ok (.iconst 1, 1) := by decide +kernel
theorem dX7_work_331 : decode prog_35_method_2_code 331 = .ok (.iload_n 2, 1) := by decide +kernel
theorem dX7_work_332 : decode prog_35_method_2_code 332 = .ok (.invokevirtual 47, 3) := by decide +kernel
theorem dX7_work_335 : decode prog_35_method_2_code 335 = .ok (.goto 9, 3) := by decide +kernel
theorem dX7_work_338 : decode prog_35_method_2_code 338 = .ok (.aload_n 0, 1) := by decide +kernel
theorem dX7_work_339 : decode prog_35_method_2_code 339 = .ok (.iload_n 1, 1) := by decide +kernel
theorem dX7_work_340 : decode prog_35_method_2_code 340 = .ok (.iload_n 2, 1) := by decide +kernel
theorem dX7_work_341 : decode prog_35_method_2_code 341 = .ok (.invokevirtual 98, 3) := by decide +kernel
theorem dX7_work_344 : decode prog_35_method_2_code 344 = .ok (.return_, 1) := by decide +kernel
theorem dX7_widths_0 : decode prog_35_method_4_code 0 = .ok (.aload_n 0, 1) := by decide +kernel
theorem dX7_widths_1 : decode prog_35_method_4_code 1 = .ok (.getfield 128, 3) := by decide +kernel
theorem dX7_widths_4 : decode prog_35_method_4_code 4 = .ok (.arraylength, 1) := by decide +kernel
theorem dX7_widths_5 : decode prog_35_method_4_code 5 = .ok (.newarray .int, 2) := by decide +kernel
theorem dX7_widths_7 : decode prog_35_method_4_code 7 = .ok (.astore_n 1, 1) := by decide +kernel
theorem dX7_widths_8 : decode prog_35_method_4_code 8 = .ok (.iconst 0, 1) := by decide +kernel
theorem dX7_widths_9 : decode prog_35_method_4_code 9 = .ok (.istore_n 2, 1) := by decide +kernel
theorem dX7_widths_10 : decode prog_35_method_4_code 10 = .ok (.iload_n 2, 1) := by decide +kernel
theorem dX7_widths_11 : decode prog_35_method_4_code 11 = .ok (.aload_n 1, 1) := by decide +kernel
theorem dX7_widths_12 : decode prog_35_method_4_code 12 = .ok (.arraylength, 1) := by decide +kernel
theorem dX7_widths_13 : decode prog_35_method_4_code 13 = .ok (.if_icmp .ge 19, 3) := by decide +kernel
theorem dX7_widths_16 : decode prog_35_method_4_code 16 = .ok (.aload_n 1, 1) := by decide +kernel
theorem dX7_widths_17 : decode prog_35_method_4_code 17 = .ok (.iload_n 2, 1) := by decide +kernel
theorem dX7_widths_18 : decode prog_35_method_4_code 18 = .ok (.aload_n 0, 1) := by decide +kernel
theorem dX7_widths_19 : decode prog_35_method_4_code 19 = .ok (.getfield 128, 3) := by decide +kernel
theorem dX7_widths_22 : decode prog_35_method_4_code 22 = .ok (.iload_n 2, 1) := by decide +kernel
theorem dX7_widths_23 : decode prog_35_method_4_code 23 = .ok (.aaload, 1) := by decide +kernel
theorem dX7_widths_24 : decode prog_35_method_4_code 24 = .ok (.arraylength, 1) := by decide +kernel
theorem dX7_widths_25 : decode prog_35_method_4_code 25 = .ok (.iastore, 1) := by decide +kernel
theorem dX7_widths_26 : decode prog_35_method_4_code 26 = .ok (.iinc 2 1, 3) := by decide +kernel
theorem dX7_widths_29 : decode prog_35_method_4_code 29 = .ok (.goto (-19), 3) := by decide +kernel
theorem dX7_widths_32 : decode prog_35_method_4_code 32 = .ok (.new 60, 3) := by decide +kernel
theorem dX7_widths_35 : decode prog_35_method_4_code 35 = .ok (.dup, 1) := by decide +kernel
theorem dX7_widths_36 : decode prog_35_method_4_code 36 = .ok (.aload_n 1, 1) := by decide +kernel
theorem dX7_widths_37 : decode prog_35_method_4_code 37 = .ok (.invokespecial 74, 3) := by decide +kernel
theorem dX7_widths_40 : decode prog_35_method_4_code 40 = .ok (.areturn, 1) := by decide +kernel
theorem dX7_folds_0 : decode prog_35_method_6_code 0 = .ok (.aload_n 2, 1) := by decide +kernel
theorem dX7_folds_1 : decode prog_35_method_6_code 1 = .ok (.instanceof 60, 3) := by decide +kernel
theorem dX7_folds_4 : decode prog_35_method_6_code 4 = .ok (.ifCond .eq 31, 3) := by decide +kernel
theorem dX7_folds_7 : decode prog_35_method_6_code 7 = .ok (.aload_n 2, 1) := by decide +kernel
theorem dX7_folds_8 : decode prog_35_method_6_code 8 = .ok (.checkcast 60, 3) := by decide +kernel
theorem dX7_folds_11 : decode prog_35_method_6_code 11 = .ok (.astore 4, 2) := by decide +kernel
theorem dX7_folds_13 : decode prog_35_method_6_code 13 = .ok (.aload_n 0, 1) := by decide +kernel
theorem dX7_folds_14 : decode prog_35_method_6_code 14 = .ok (.getfield 9, 3) := by decide +kernel
theorem dX7_folds_17 : decode prog_35_method_6_code 17 = .ok (.aload_n 0, 1) := by decide +kernel
theorem dX7_folds_18 : decode prog_35_method_6_code 18 = .ok (.iload_n 1, 1) := by decide +kernel
theorem dX7_folds_19 : decode prog_35_method_6_code 19 = .ok (.aload 4, 2) := by decide +kernel
theorem dX7_folds_21 : decode prog_35_method_6_code 21 = .ok (.getfield 66, 3) := by decide +kernel
theorem dX7_folds_24 : decode prog_35_method_6_code 24 = .ok (.iload_n 3, 1) := by decide +kernel
theorem dX7_folds_25 : decode prog_35_method_6_code 25 = .ok (.invokevirtual 155, 3) := by decide +kernel
theorem dX7_folds_28 : decode prog_35_method_6_code 28 = .ok (.iconst 1, 1) := by decide +kernel
theorem dX7_folds_29 : decode prog_35_method_6_code 29 = .ok (.invokevirtual 35, 3) := by decide +kernel
theorem dX7_folds_32 : decode prog_35_method_6_code 32 = .ok (.goto 103, 3) := by decide +kernel
theorem dX7_folds_35 : decode prog_35_method_6_code 35 = .ok (.aload_n 2, 1) := by decide +kernel
theorem dX7_folds_36 : decode prog_35_method_6_code 36 = .ok (.instanceof 85, 3) := by decide +kernel
theorem dX7_folds_39 : decode prog_35_method_6_code 39 = .ok (.ifCond .eq 76, 3) := by decide +kernel
theorem dX7_folds_42 : decode prog_35_method_6_code 42 = .ok (.aload_n 2, 1) := by decide +kernel
theorem dX7_folds_43 : decode prog_35_method_6_code 43 = .ok (.checkcast 85, 3) := by decide +kernel
theorem dX7_folds_46 : decode prog_35_method_6_code 46 = .ok (.astore 5, 2) := by decide +kernel
theorem dX7_folds_48 : decode prog_35_method_6_code 48 = .ok (.aload 5, 2) := by decide +kernel
theorem dX7_folds_50 : decode prog_35_method_6_code 50 = .ok (.getfield 128, 3) := by decide +kernel
theorem dX7_folds_53 : decode prog_35_method_6_code 53 = .ok (.arraylength, 1) := by decide +kernel
theorem dX7_folds_54 : decode prog_35_method_6_code 54 = .ok (.newarray .int, 2) := by decide +kernel
theorem dX7_folds_56 : decode prog_35_method_6_code 56 = .ok (.astore 6, 2) := by decide +kernel
theorem dX7_folds_58 : decode prog_35_method_6_code 58 = .ok (.iconst 0, 1) := by decide +kernel
theorem dX7_folds_59 : decode prog_35_method_6_code 59 = .ok (.istore 7, 2) := by decide +kernel
theorem dX7_folds_61 : decode prog_35_method_6_code 61 = .ok (.iload 7, 2) := by decide +kernel
theorem dX7_folds_63 : decode prog_35_method_6_code 63 = .ok (.aload 6, 2) := by decide +kernel
theorem dX7_folds_65 : decode prog_35_method_6_code 65 = .ok (.arraylength, 1) := by decide +kernel
theorem dX7_folds_66 : decode prog_35_method_6_code 66 = .ok (.if_icmp .ge 28, 3) := by decide +kernel
theorem dX7_folds_69 : decode prog_35_method_6_code 69 = .ok (.aload 6, 2) := by decide +kernel
theorem dX7_folds_71 : decode prog_35_method_6_code 71 = .ok (.iload 7, 2) := by decide +kernel
theorem dX7_folds_73 : decode prog_35_method_6_code 73 = .ok (.aload_n 0, 1) := by decide +kernel
theorem dX7_folds_74 : decode prog_35_method_6_code 74 = .ok (.iload_n 1, 1) := by decide +kernel
theorem dX7_folds_75 : decode prog_35_method_6_code 75 = .ok (.aload 5, 2) := by decide +kernel
theorem dX7_folds_77 : decode prog_35_method_6_code 77 = .ok (.getfield 128, 3) := by decide +kernel
theorem dX7_folds_80 : decode prog_35_method_6_code 80 = .ok (.iload 7, 2) := by decide +kernel
theorem dX7_folds_82 : decode prog_35_method_6_code 82 = .ok (.aaload, 1) := by decide +kernel
theorem dX7_folds_83 : decode prog_35_method_6_code 83 = .ok (.iload_n 3, 1) := by decide +kernel
theorem dX7_folds_84 : decode prog_35_method_6_code 84 = .ok (.invokevirtual 155, 3) := by decide +kernel
theorem dX7_folds_87 : decode prog_35_method_6_code 87 = .ok (.iastore, 1) := by decide +kernel
theorem dX7_folds_88 : decode prog_35_method_6_code 88 = .ok (.iinc 7 1, 3) := by decide +kernel
theorem dX7_folds_91 : decode prog_35_method_6_code 91 = .ok (.goto (-30), 3) := by decide +kernel
theorem dX7_folds_94 : decode prog_35_method_6_code 94 = .ok (.aload_n 0, 1) := by decide +kernel
theorem dX7_folds_95 : decode prog_35_method_6_code 95 = .ok (.getfield 9, 3) := by decide +kernel
theorem dX7_folds_98 : decode prog_35_method_6_code 98 = .ok (.new 60, 3) := by decide +kernel
theorem dX7_folds_101 : decode prog_35_method_6_code 101 = .ok (.dup, 1) := by decide +kernel
theorem dX7_folds_102 : decode prog_35_method_6_code 102 = .ok (.aload 6, 2) := by decide +kernel
theorem dX7_folds_104 : decode prog_35_method_6_code 104 = .ok (.invokespecial 74, 3) := by decide +kernel
theorem dX7_folds_107 : decode prog_35_method_6_code 107 = .ok (.iconst 1, 1) := by decide +kernel
theorem dX7_folds_108 : decode prog_35_method_6_code 108 = .ok (.iload_n 3, 1) := by decide +kernel
theorem dX7_folds_109 : decode prog_35_method_6_code 109 = .ok (.invokevirtual 47, 3) := by decide +kernel
theorem dX7_folds_112 : decode prog_35_method_6_code 112 = .ok (.goto 23, 3) := by decide +kernel
theorem dX7_folds_115 : decode prog_35_method_6_code 115 = .ok (.aload_n 2, 1) := by decide +kernel
theorem dX7_folds_116 : decode prog_35_method_6_code 116 = .ok (.ifnonnull 9, 3) := by decide +kernel
theorem dX7_folds_119 : decode prog_35_method_6_code 119 = .ok (.iload_n 1, 1) := by decide +kernel
theorem dX7_folds_120 : decode prog_35_method_6_code 120 = .ok (.bipush 9, 2) := by decide +kernel
theorem dX7_folds_122 : decode prog_35_method_6_code 122 = .ok (.if_icmp .eq 13, 3) := by decide +kernel
theorem dX7_folds_125 : decode prog_35_method_6_code 125 = .ok (.aload_n 0, 1) := by decide +kernel
theorem dX7_folds_126 : decode prog_35_method_6_code 126 = .ok (.getfield 9, 3) := by decide +kernel
theorem dX7_folds_129 : decode prog_35_method_6_code 129 = .ok (.iconst 3, 1) := by decide +kernel
theorem dX7_folds_130 : decode prog_35_method_6_code 130 = .ok (.iload_n 3, 1) := by decide +kernel
theorem dX7_folds_131 : decode prog_35_method_6_code 131 = .ok (.invokevirtual 25, 3) := by decide +kernel
theorem dX7_folds_134 : decode prog_35_method_6_code 134 = .ok (.athrow, 1) := by decide +kernel
theorem dX7_folds_135 : decode prog_35_method_6_code 135 = .ok (.return_, 1) := by decide +kernel
theorem dX7_folded_0 : decode prog_35_method_5_code 0 = .ok (.iload_n 1, 1) := by decide +kernel
theorem dX7_folded_1 : decode prog_35_method_5_code 1 = .ok (.bipush 9, 2) := by decide +kernel
theorem dX7_folded_3 : decode prog_35_method_5_code 3 = .ok (.if_icmp .ne 34, 3) := by decide +kernel
theorem dX7_folded_6 : decode prog_35_method_5_code 6 = .ok (.iconst 0, 1) := by decide +kernel
theorem dX7_folded_7 : decode prog_35_method_5_code 7 = .ok (.istore 4, 2) := by decide +kernel
theorem dX7_folded_9 : decode prog_35_method_5_code 9 = .ok (.iconst 0, 1) := by decide +kernel
theorem dX7_folded_10 : decode prog_35_method_5_code 10 = .ok (.istore 5, 2) := by decide +kernel
theorem dX7_folded_12 : decode prog_35_method_5_code 12 = .ok (.iload 5, 2) := by decide +kernel
theorem dX7_folded_14 : decode prog_35_method_5_code 14 = .ok (.aload_n 2, 1) := by decide +kernel
theorem dX7_folded_15 : decode prog_35_method_5_code 15 = .ok (.arraylength, 1) := by decide +kernel
theorem dX7_folded_16 : decode prog_35_method_5_code 16 = .ok (.if_icmp .ge 18, 3) := by decide +kernel
theorem dX7_folded_19 : decode prog_35_method_5_code 19 = .ok (.iload 4, 2) := by decide +kernel
theorem dX7_folded_21 : decode prog_35_method_5_code 21 = .ok (.aload_n 2, 1) := by decide +kernel
theorem dX7_folded_22 : decode prog_35_method_5_code 22 = .ok (.iload 5, 2) := by decide +kernel
theorem dX7_folded_24 : decode prog_35_method_5_code 24 = .ok (.iaload, 1) := by decide +kernel
theorem dX7_folded_25 : decode prog_35_method_5_code 25 = .ok (.iadd, 1) := by decide +kernel
theorem dX7_folded_26 : decode prog_35_method_5_code 26 = .ok (.istore 4, 2) := by decide +kernel
theorem dX7_folded_28 : decode prog_35_method_5_code 28 = .ok (.iinc 5 1, 3) := by decide +kernel
theorem dX7_folded_31 : decode prog_35_method_5_code 31 = .ok (.goto (-19), 3) := by decide +kernel
theorem dX7_folded_34 : decode prog_35_method_5_code 34 = .ok (.iload 4, 2) := by decide +kernel
theorem dX7_folded_36 : decode prog_35_method_5_code 36 = .ok (.ireturn, 1) := by decide +kernel
theorem dX7_folded_37 : decode prog_35_method_5_code 37 = .ok (.aload_n 2, 1) := by decide +kernel
theorem dX7_folded_38 : decode prog_35_method_5_code 38 = .ok (.iconst 0, 1) := by decide +kernel
theorem dX7_folded_39 : decode prog_35_method_5_code 39 = .ok (.iaload, 1) := by decide +kernel
theorem dX7_folded_40 : decode prog_35_method_5_code 40 = .ok (.istore 4, 2) := by decide +kernel
theorem dX7_folded_42 : decode prog_35_method_5_code 42 = .ok (.goto 15, 3) := by decide +kernel
theorem dX7_folded_45 : decode prog_35_method_5_code 45 = .ok (.astore 5, 2) := by decide +kernel
theorem dX7_folded_47 : decode prog_35_method_5_code 47 = .ok (.aload_n 0, 1) := by decide +kernel
theorem dX7_folded_48 : decode prog_35_method_5_code 48 = .ok (.getfield 9, 3) := by decide +kernel
theorem dX7_folded_51 : decode prog_35_method_5_code 51 = .ok (.iconst 5, 1) := by decide +kernel
theorem dX7_folded_52 : decode prog_35_method_5_code 52 = .ok (.iload_n 3, 1) := by decide +kernel
theorem dX7_folded_53 : decode prog_35_method_5_code 53 = .ok (.invokevirtual 25, 3) := by decide +kernel
theorem dX7_folded_56 : decode prog_35_method_5_code 56 = .ok (.athrow, 1) := by decide +kernel
theorem dX7_folded_57 : decode prog_35_method_5_code 57 = .ok (.iconst 1, 1) := by decide +kernel
theorem dX7_folded_58 : decode prog_35_method_5_code 58 = .ok (.istore 5, 2) := by decide +kernel
theorem dX7_folded_60 : decode prog_35_method_5_code 60 = .ok (.iload 5, 2) := by decide +kernel
theorem dX7_folded_62 : decode prog_35_method_5_code 62 = .ok (.aload_n 2, 1) := by decide +kernel
theorem dX7_folded_63 : decode prog_35_method_5_code 63 = .ok (.arraylength, 1) := by decide +kernel
theorem dX7_folded_64 : decode prog_35_method_5_code 64 = .ok (.if_icmp .ge 38, 3) := by decide +kernel
theorem dX7_folded_67 : decode prog_35_method_5_code 67 = .ok (.iload_n 1, 1) := by decide +kernel
theorem dX7_folded_68 : decode prog_35_method_5_code 68 = .ok (.bipush 10, 2) := by decide +kernel
theorem dX7_folded_70 : decode prog_35_method_5_code 70 = .ok (.if_icmp .ne 15, 3) := by decide +kernel
theorem dX7_folded_73 : decode prog_35_method_5_code 73 = .ok (.iload 4, 2) := by decide +kernel
theorem dX7_folded_75 : decode prog_35_method_5_code 75 = .ok (.aload_n 2, 1) := by decide +kernel
theorem dX7_folded_76 : decode prog_35_method_5_code 76 = .ok (.iload 5, 2) := by decide +kernel
theorem dX7_folded_78 : decode prog_35_method_5_code 78 = .ok (.iaload, 1) := by decide +kernel
theorem dX7_folded_79 : decode prog_35_method_5_code 79 = .ok (.invokestatic 147, 3) := by decide +kernel
theorem dX7_folded_82 : decode prog_35_method_5_code 82 = .ok (.goto 12, 3) := by decide +kernel
theorem dX7_folded_85 : decode prog_35_method_5_code 85 = .ok (.iload 4, 2) := by decide +kernel
theorem dX7_folded_87 : decode prog_35_method_5_code 87 = .ok (.aload_n 2, 1) := by decide +kernel
theorem dX7_folded_88 : decode prog_35_method_5_code 88 = .ok (.iload 5, 2) := by decide +kernel
theorem dX7_folded_90 : decode prog_35_method_5_code 90 = .ok (.iaload, 1) := by decide +kernel
theorem dX7_folded_91 : decode prog_35_method_5_code 91 = .ok (.invokestatic 152, 3) := by decide +kernel
theorem dX7_folded_94 : decode prog_35_method_5_code 94 = .ok (.istore 4, 2) := by decide +kernel
theorem dX7_folded_96 : decode prog_35_method_5_code 96 = .ok (.iinc 5 1, 3) := by decide +kernel
theorem dX7_folded_99 : decode prog_35_method_5_code 99 = .ok (.goto (-39), 3) := by decide +kernel
theorem dX7_folded_102 : decode prog_35_method_5_code 102 = .ok (.iload 4, 2) := by decide +kernel
theorem dX7_folded_104 : decode prog_35_method_5_code 104 = .ok (.ireturn, 1) := by decide +kernel
theorem dX7_turns_0 : decode prog_35_method_9_code 0 = .ok (.aload_n 2, 1) := by decide +kernel
theorem dX7_turns_1 : decode prog_35_method_9_code 1 = .ok (.instanceof 60, 3) := by decide +kernel
theorem dX7_turns_4 : decode prog_35_method_9_code 4 = .ok (.ifCond .eq 51, 3) := by decide +kernel
theorem dX7_turns_7 : decode prog_35_method_9_code 7 = .ok (.aload_n 2, 1) := by decide +kernel
theorem dX7_turns_8 : decode prog_35_method_9_code 8 = .ok (.checkcast 60, 3) := by decide +kernel
theorem dX7_turns_11 : decode prog_35_method_9_code 11 = .ok (.astore 4, 2) := by decide +kernel
theorem dX7_turns_13 : decode prog_35_method_9_code 13 = .ok (.aload_n 0, 1) := by decide +kernel
theorem dX7_turns_14 : decode prog_35_method_9_code 14 = .ok (.getfield 9, 3) := by decide +kernel
theorem dX7_turns_17 : decode prog_35_method_9_code 17 = .ok (.new 60, 3) := by decide +kernel
theorem dX7_turns_20 : decode prog_35_method_9_code 20 = .ok (.dup, 1) := by decide +kernel
theorem dX7_turns_21 : decode prog_35_method_9_code 21 = .ok (.iload_n 1, 1) := by decide +kernel
theorem dX7_turns_22 : decode prog_35_method_9_code 22 = .ok (.bipush 12, 2) := by decide +kernel
theorem dX7_turns_24 : decode prog_35_method_9_code 24 = .ok (.if_icmp .ne 14, 3) := by decide +kernel
theorem dX7_turns_27 : decode prog_35_method_9_code 27 = .ok (.aload 4, 2) := by decide +kernel
theorem dX7_turns_29 : decode prog_35_method_9_code 29 = .ok (.getfield 66, 3) := by decide +kernel
theorem dX7_turns_32 : decode prog_35_method_9_code 32 = .ok (.invokestatic 164, 3) := by decide +kernel
theorem dX7_turns_35 : decode prog_35_method_9_code 35 = .ok (.goto 11, 3) := by decide +kernel
theorem dX7_turns_38 : decode prog_35_method_9_code 38 = .ok (.aload 4, 2) := by decide +kernel
theorem dX7_turns_40 : decode prog_35_method_9_code 40 = .ok (.getfield 66, 3) := by decide +kernel
theorem dX7_turns_43 : decode prog_35_method_9_code 43 = .ok (.invokestatic 167, 3) := by decide +kernel
theorem dX7_turns_46 : decode prog_35_method_9_code 46 = .ok (.invokespecial 74, 3) := by decide +kernel
theorem dX7_turns_49 : decode prog_35_method_9_code 49 = .ok (.iconst 1, 1) := by decide +kernel
theorem dX7_turns_50 : decode prog_35_method_9_code 50 = .ok (.iload_n 3, 1) := by decide +kernel
theorem dX7_turns_51 : decode prog_35_method_9_code 51 = .ok (.invokevirtual 47, 3) := by decide +kernel
theorem dX7_turns_54 : decode prog_35_method_9_code 54 = .ok (.return_, 1) := by decide +kernel
theorem dX7_turns_55 : decode prog_35_method_9_code 55 = .ok (.aload_n 0, 1) := by decide +kernel
theorem dX7_turns_56 : decode prog_35_method_9_code 56 = .ok (.getfield 9, 3) := by decide +kernel
theorem dX7_turns_59 : decode prog_35_method_9_code 59 = .ok (.aload_n 0, 1) := by decide +kernel
theorem dX7_turns_60 : decode prog_35_method_9_code 60 = .ok (.getfield 9, 3) := by decide +kernel
theorem dX7_turns_63 : decode prog_35_method_9_code 63 = .ok (.getfield 15, 3) := by decide +kernel
theorem dX7_turns_66 : decode prog_35_method_9_code 66 = .ok (.iconst 1, 1) := by decide +kernel
theorem dX7_turns_67 : decode prog_35_method_9_code 67 = .ok (.isub, 1) := by decide +kernel
theorem dX7_turns_68 : decode prog_35_method_9_code 68 = .ok (.iload_n 3, 1) := by decide +kernel
theorem dX7_turns_69 : decode prog_35_method_9_code 69 = .ok (.invokevirtual 39, 3) := by decide +kernel
theorem dX7_turns_72 : decode prog_35_method_9_code 72 = .ok (.astore 4, 2) := by decide +kernel
theorem dX7_turns_74 : decode prog_35_method_9_code 74 = .ok (.aload 4, 2) := by decide +kernel
theorem dX7_turns_76 : decode prog_35_method_9_code 76 = .ok (.getfield 128, 3) := by decide +kernel
theorem dX7_turns_79 : decode prog_35_method_9_code 79 = .ok (.arraylength, 1) := by decide +kernel
theorem dX7_turns_80 : decode prog_35_method_9_code 80 = .ok (.anewarray 160, 3) := by decide +kernel
theorem dX7_turns_83 : decode prog_35_method_9_code 83 = .ok (.astore 5, 2) := by decide +kernel
theorem dX7_turns_85 : decode prog_35_method_9_code 85 = .ok (.iconst 0, 1) := by decide +kernel
theorem dX7_turns_86 : decode prog_35_method_9_code 86 = .ok (.istore 6, 2) := by decide +kernel
theorem dX7_turns_88 : decode prog_35_method_9_code 88 = .ok (.iload 6, 2) := by decide +kernel
theorem dX7_turns_90 : decode prog_35_method_9_code 90 = .ok (.aload 5, 2) := by decide +kernel
theorem dX7_turns_92 : decode prog_35_method_9_code 92 = .ok (.arraylength, 1) := by decide +kernel
theorem dX7_turns_93 : decode prog_35_method_9_code 93 = .ok (.if_icmp .ge 45, 3) := by decide +kernel
theorem dX7_turns_96 : decode prog_35_method_9_code 96 = .ok (.aload 5, 2) := by decide +kernel
theorem dX7_turns_98 : decode prog_35_method_9_code 98 = .ok (.iload 6, 2) := by decide +kernel
theorem dX7_turns_100 : decode prog_35_method_9_code 100 = .ok (.iload_n 1, 1) := by decide +kernel
theorem dX7_turns_101 : decode prog_35_method_9_code 101 = .ok (.bipush 12, 2) := by decide +kernel
theorem dX7_turns_103 : decode prog_35_method_9_code 103 = .ok (.if_icmp .ne 17, 3) := by decide +kernel
theorem dX7_turns_106 : decode prog_35_method_9_code 106 = .ok (.aload 4, 2) := by decide +kernel
theorem dX7_turns_108 : decode prog_35_method_9_code 108 = .ok (.getfield 128, 3) := by decide +kernel
theorem dX7_turns_111 : decode prog_35_method_9_code 111 = .ok (.iload 6, 2) := by decide +kernel
theorem dX7_turns_113 : decode prog_35_method_9_code 113 = .ok (.aaload, 1) := by decide +kernel
theorem dX7_turns_114 : decode prog_35_method_9_code 114 = .ok (.invokestatic 164, 3) := by decide +kernel
theorem dX7_turns_117 : decode prog_35_method_9_code 117 = .ok (.goto 14, 3) := by decide +kernel
theorem dX7_turns_120 : decode prog_35_method_9_code 120 = .ok (.aload 4, 2) := by decide +kernel
theorem dX7_turns_122 : decode prog_35_method_9_code 122 = .ok (.getfield 128, 3) := by decide +kernel
theorem dX7_turns_125 : decode prog_35_method_9_code 125 = .ok (.iload 6, 2) := by decide +kernel
theorem dX7_turns_127 : decode prog_35_method_9_code 127 = .ok (.aaload, 1) := by decide +kernel
theorem dX7_turns_128 : decode prog_35_method_9_code 128 = .ok (.invokestatic 167, 3) := by decide +kernel
theorem dX7_turns_131 : decode prog_35_method_9_code 131 = .ok (.aastore, 1) := by decide +kernel
theorem dX7_turns_132 : decode prog_35_method_9_code 132 = .ok (.iinc 6 1, 3) := by decide +kernel
theorem dX7_turns_135 : decode prog_35_method_9_code 135 = .ok (.goto (-47), 3) := by decide +kernel
theorem dX7_turns_138 : decode prog_35_method_9_code 138 = .ok (.aload_n 0, 1) := by decide +kernel
theorem dX7_turns_139 : decode prog_35_method_9_code 139 = .ok (.getfield 9, 3) := by decide +kernel
theorem dX7_turns_142 : decode prog_35_method_9_code 142 = .ok (.new 85, 3) := by decide +kernel
theorem dX7_turns_145 : decode prog_35_method_9_code 145 = .ok (.dup, 1) := by decide +kernel
theorem dX7_turns_146 : decode prog_35_method_9_code 146 = .ok (.aload 5, 2) := by decide +kernel
theorem dX7_turns_148 : decode prog_35_method_9_code 148 = .ok (.invokespecial 91, 3) := by decide +kernel
theorem dX7_turns_151 : decode prog_35_method_9_code 151 = .ok (.iconst 1, 1) := by decide +kernel
theorem dX7_turns_152 : decode prog_35_method_9_code 152 = .ok (.iload_n 3, 1) := by decide +kernel
theorem dX7_turns_153 : decode prog_35_method_9_code 153 = .ok (.invokevirtual 47, 3) := by decide +kernel
theorem dX7_turns_156 : decode prog_35_method_9_code 156 = .ok (.return_, 1) := by decide +kernel
theorem dX7_grade_0 : decode prog_35_method_10_code 0 = .ok (.aload_n 0, 1) := by decide +kernel
theorem dX7_grade_1 : decode prog_35_method_10_code 1 = .ok (.arraylength, 1) := by decide +kernel
theorem dX7_grade_2 : decode prog_35_method_10_code 2 = .ok (.newarray .int, 2) := by decide +kernel
theorem dX7_grade_4 : decode prog_35_method_10_code 4 = .ok (.astore_n 1, 1) := by decide +kernel
theorem dX7_grade_5 : decode prog_35_method_10_code 5 = .ok (.iconst 0, 1) := by decide +kernel
theorem dX7_grade_6 : decode prog_35_method_10_code 6 = .ok (.istore_n 2, 1) := by decide +kernel
theorem dX7_grade_7 : decode prog_35_method_10_code 7 = .ok (.iload_n 2, 1) := by decide +kernel
theorem dX7_grade_8 : decode prog_35_method_10_code 8 = .ok (.aload_n 1, 1) := by decide +kernel
theorem dX7_grade_9 : decode prog_35_method_10_code 9 = .ok (.arraylength, 1) := by decide +kernel
theorem dX7_grade_10 : decode prog_35_method_10_code 10 = .ok (.if_icmp .ge 46, 3) := by decide +kernel
theorem dX7_grade_13 : decode prog_35_method_10_code 13 = .ok (.iload_n 2, 1) := by decide +kernel
theorem dX7_grade_14 : decode prog_35_method_10_code 14 = .ok (.istore_n 3, 1) := by decide +kernel
theorem dX7_grade_15 : decode prog_35_method_10_code 15 = .ok (.iload_n 3, 1) := by decide +kernel
theorem dX7_grade_16 : decode prog_35_method_10_code 16 = .ok (.ifCond .le 30, 3) := by decide +kernel
theorem dX7_grade_19 : decode prog_35_method_10_code 19 = .ok (.aload_n 0, 1) := by decide +kernel
theorem dX7_grade_20 : decode prog_35_method_10_code 20 = .ok (.aload_n 1, 1) := by decide +kernel
theorem dX7_grade_21 : decode prog_35_method_10_code 21 = .ok (.iload_n 3, 1) := by decide +kernel
theorem dX7_grade_22 : decode prog_35_method_10_code 22 = .ok (.iconst 1, 1) := by decide +kernel
theorem dX7_grade_23 : decode prog_35_method_10_code 23 = .ok (.isub, 1) := by decide +kernel
theorem dX7_grade_24 : decode prog_35_method_10_code 24 = .ok (.iaload, 1) := by decide +kernel
theorem dX7_grade_25 : decode prog_35_method_10_code 25 = .ok (.iaload, 1) := by decide +kernel
theorem dX7_grade_26 : decode prog_35_method_10_code 26 = .ok (.aload_n 0, 1) := by decide +kernel
theorem dX7_grade_27 : decode prog_35_method_10_code 27 = .ok (.iload_n 2, 1) := by decide +kernel
theorem dX7_grade_28 : decode prog_35_method_10_code 28 = .ok (.iaload, 1) := by decide +kernel
theorem dX7_grade_29 : decode prog_35_method_10_code 29 = .ok (.if_icmp .le 17, 3) := by decide +kernel
theorem dX7_grade_32 : decode prog_35_method_10_code 32 = .ok (.aload_n 1, 1) := by decide +kernel
theorem dX7_grade_33 : decode prog_35_method_10_code 33 = .ok (.iload_n 3, 1) := by decide +kernel
theorem dX7_grade_34 : decode prog_35_method_10_code 34 = .ok (.aload_n 1, 1) := by decide +kernel
theorem dX7_grade_35 : decode prog_35_method_10_code 35 = .ok (.iload_n 3, 1) := by decide +kernel
theorem dX7_grade_36 : decode prog_35_method_10_code 36 = .ok (.iconst 1, 1) := by decide +kernel
theorem dX7_grade_37 : decode prog_35_method_10_code 37 = .ok (.isub, 1) := by decide +kernel
theorem dX7_grade_38 : decode prog_35_method_10_code 38 = .ok (.iaload, 1) := by decide +kernel
theorem dX7_grade_39 : decode prog_35_method_10_code 39 = .ok (.iastore, 1) := by decide +kernel
theorem dX7_grade_40 : decode prog_35_method_10_code 40 = .ok (.iinc 3 (-1), 3) := by decide +kernel
theorem dX7_grade_43 : decode prog_35_method_10_code 43 = .ok (.goto (-28), 3) := by decide +kernel
theorem dX7_grade_46 : decode prog_35_method_10_code 46 = .ok (.aload_n 1, 1) := by decide +kernel
theorem dX7_grade_47 : decode prog_35_method_10_code 47 = .ok (.iload_n 3, 1) := by decide +kernel
theorem dX7_grade_48 : decode prog_35_method_10_code 48 = .ok (.iload_n 2, 1) := by decide +kernel
theorem dX7_grade_49 : decode prog_35_method_10_code 49 = .ok (.iastore, 1) := by decide +kernel
theorem dX7_grade_50 : decode prog_35_method_10_code 50 = .ok (.iinc 2 1, 3) := by decide +kernel
theorem dX7_grade_53 : decode prog_35_method_10_code 53 = .ok (.goto (-46), 3) := by decide +kernel
theorem dX7_grade_56 : decode prog_35_method_10_code 56 = .ok (.aload_n 1, 1) := by decide +kernel
theorem dX7_grade_57 : decode prog_35_method_10_code 57 = .ok (.areturn, 1) := by decide +kernel
theorem dX7_back_0 : decode prog_35_method_11_code 0 = .ok (.aload_n 1, 1) := by decide +kernel
theorem dX7_back_1 : decode prog_35_method_11_code 1 = .ok (.ifnonnull 13, 3) := by decide +kernel
theorem dX7_back_4 : decode prog_35_method_11_code 4 = .ok (.aload_n 0, 1) := by decide +kernel
theorem dX7_back_5 : decode prog_35_method_11_code 5 = .ok (.getfield 9, 3) := by decide +kernel
theorem dX7_back_8 : decode prog_35_method_11_code 8 = .ok (.iconst 3, 1) := by decide +kernel
theorem dX7_back_9 : decode prog_35_method_11_code 9 = .ok (.iload_n 2, 1) := by decide +kernel
theorem dX7_back_10 : decode prog_35_method_11_code 10 = .ok (.invokevirtual 25, 3) := by decide +kernel
theorem dX7_back_13 : decode prog_35_method_11_code 13 = .ok (.athrow, 1) := by decide +kernel
theorem dX7_back_14 : decode prog_35_method_11_code 14 = .ok (.aload_n 1, 1) := by decide +kernel
theorem dX7_back_15 : decode prog_35_method_11_code 15 = .ok (.invokevirtual 29, 3) := by decide +kernel
theorem dX7_back_18 : decode prog_35_method_11_code 18 = .ok (.istore_n 3, 1) := by decide +kernel
theorem dX7_back_19 : decode prog_35_method_11_code 19 = .ok (.aload_n 1, 1) := by decide +kernel
theorem dX7_back_20 : decode prog_35_method_11_code 20 = .ok (.instanceof 60, 3) := by decide +kernel
theorem dX7_back_23 : decode prog_35_method_11_code 23 = .ok (.ifCond .eq 56, 3) := by decide +kernel
theorem dX7_back_26 : decode prog_35_method_11_code 26 = .ok (.aload_n 1, 1) := by decide +kernel
theorem dX7_back_27 : decode prog_35_method_11_code 27 = .ok (.checkcast 60, 3) := by decide +kernel
theorem dX7_back_30 : decode prog_35_method_11_code 30 = .ok (.astore 4, 2) := by decide +kernel
theorem dX7_back_32 : decode prog_35_method_11_code 32 = .ok (.iload_n 3, 1) := by decide +kernel
theorem dX7_back_33 : decode prog_35_method_11_code 33 = .ok (.newarray .int, 2) := by decide +kernel
theorem dX7_back_35 : decode prog_35_method_11_code 35 = .ok (.astore 5, 2) := by decide +kernel
theorem dX7_back_37 : decode prog_35_method_11_code 37 = .ok (.iconst 0, 1) := by decide +kernel
theorem dX7_back_38 : decode prog_35_method_11_code 38 = .ok (.istore 6, 2) := by decide +kernel
theorem dX7_back_40 : decode prog_35_method_11_code 40 = .ok (.iload 6, 2) := by decide +kernel
theorem dX7_back_42 : decode prog_35_method_11_code 42 = .ok (.iload_n 3, 1) := by decide +kernel
theorem dX7_back_43 : decode prog_35_method_11_code 43 = .ok (.if_icmp .ge 26, 3) := by decide +kernel
theorem dX7_back_46 : decode prog_35_method_11_code 46 = .ok (.aload 5, 2) := by decide +kernel
theorem dX7_back_48 : decode prog_35_method_11_code 48 = .ok (.iload 6, 2) := by decide +kernel
theorem dX7_back_50 : decode prog_35_method_11_code 50 = .ok (.aload 4, 2) := by decide +kernel
theorem dX7_back_52 : decode prog_35_method_11_code 52 = .ok (.getfield 66, 3) := by decide +kernel
theorem dX7_back_55 : decode prog_35_method_11_code 55 = .ok (.iload_n 3, 1) := by decide +kernel
theorem dX7_back_56 : decode prog_35_method_11_code 56 = .ok (.iconst 1, 1) := by decide +kernel
theorem dX7_back_57 : decode prog_35_method_11_code 57 = .ok (.isub, 1) := by decide +kernel
theorem dX7_back_58 : decode prog_35_method_11_code 58 = .ok (.iload 6, 2) := by decide +kernel
theorem dX7_back_60 : decode prog_35_method_11_code 60 = .ok (.isub, 1) := by decide +kernel
theorem dX7_back_61 : decode prog_35_method_11_code 61 = .ok (.iaload, 1) := by decide +kernel
theorem dX7_back_62 : decode prog_35_method_11_code 62 = .ok (.iastore, 1) := by decide +kernel
theorem dX7_back_63 : decode prog_35_method_11_code 63 = .ok (.iinc 6 1, 3) := by decide +kernel
theorem dX7_back_66 : decode prog_35_method_11_code 66 = .ok (.goto (-26), 3) := by decide +kernel
theorem dX7_back_69 : decode prog_35_method_11_code 69 = .ok (.new 60, 3) := by decide +kernel
theorem dX7_back_72 : decode prog_35_method_11_code 72 = .ok (.dup, 1) := by decide +kernel
theorem dX7_back_73 : decode prog_35_method_11_code 73 = .ok (.aload 5, 2) := by decide +kernel
theorem dX7_back_75 : decode prog_35_method_11_code 75 = .ok (.invokespecial 74, 3) := by decide +kernel
theorem dX7_back_78 : decode prog_35_method_11_code 78 = .ok (.areturn, 1) := by decide +kernel
theorem dX7_back_79 : decode prog_35_method_11_code 79 = .ok (.aload_n 1, 1) := by decide +kernel
theorem dX7_back_80 : decode prog_35_method_11_code 80 = .ok (.instanceof 85, 3) := by decide +kernel
theorem dX7_back_83 : decode prog_35_method_11_code 83 = .ok (.ifCond .eq 57, 3) := by decide +kernel
theorem dX7_back_86 : decode prog_35_method_11_code 86 = .ok (.aload_n 1, 1) := by decide +kernel
theorem dX7_back_87 : decode prog_35_method_11_code 87 = .ok (.checkcast 85, 3) := by decide +kernel
theorem dX7_back_90 : decode prog_35_method_11_code 90 = .ok (.astore 4, 2) := by decide +kernel
theorem dX7_back_92 : decode prog_35_method_11_code 92 = .ok (.iload_n 3, 1) := by decide +kernel
theorem dX7_back_93 : decode prog_35_method_11_code 93 = .ok (.anewarray 160, 3) := by decide +kernel
theorem dX7_back_96 : decode prog_35_method_11_code 96 = .ok (.astore 5, 2) := by decide +kernel
theorem dX7_back_98 : decode prog_35_method_11_code 98 = .ok (.iconst 0, 1) := by decide +kernel
theorem dX7_back_99 : decode prog_35_method_11_code 99 = .ok (.istore 6, 2) := by decide +kernel
theorem dX7_back_101 : decode prog_35_method_11_code 101 = .ok (.iload 6, 2) := by decide +kernel
theorem dX7_back_103 : decode prog_35_method_11_code 103 = .ok (.iload_n 3, 1) := by decide +kernel
theorem dX7_back_104 : decode prog_35_method_11_code 104 = .ok (.if_icmp .ge 26, 3) := by decide +kernel
theorem dX7_back_107 : decode prog_35_method_11_code 107 = .ok (.aload 5, 2) := by decide +kernel
theorem dX7_back_109 : decode prog_35_method_11_code 109 = .ok (.iload 6, 2) := by decide +kernel
theorem dX7_back_111 : decode prog_35_method_11_code 111 = .ok (.aload 4, 2) := by decide +kernel
theorem dX7_back_113 : decode prog_35_method_11_code 113 = .ok (.getfield 128, 3) := by decide +kernel
theorem dX7_back_116 : decode prog_35_method_11_code 116 = .ok (.iload_n 3, 1) := by decide +kernel
theorem dX7_back_117 : decode prog_35_method_11_code 117 = .ok (.iconst 1, 1) := by decide +kernel
theorem dX7_back_118 : decode prog_35_method_11_code 118 = .ok (.isub, 1) := by decide +kernel
theorem dX7_back_119 : decode prog_35_method_11_code 119 = .ok (.iload 6, 2) := by decide +kernel
theorem dX7_back_121 : decode prog_35_method_11_code 121 = .ok (.isub, 1) := by decide +kernel
theorem dX7_back_122 : decode prog_35_method_11_code 122 = .ok (.aaload, 1) := by decide +kernel
theorem dX7_back_123 : decode prog_35_method_11_code 123 = .ok (.aastore, 1) := by decide +kernel
theorem dX7_back_124 : decode prog_35_method_11_code 124 = .ok (.iinc 6 1, 3) := by decide +kernel
theorem dX7_back_127 : decode prog_35_method_11_code 127 = .ok (.goto (-26), 3) := by decide +kernel
theorem dX7_back_130 : decode prog_35_method_11_code 130 = .ok (.new 85, 3) := by decide +kernel
theorem dX7_back_133 : decode prog_35_method_11_code 133 = .ok (.dup, 1) := by decide +kernel
theorem dX7_back_134 : decode prog_35_method_11_code 134 = .ok (.aload 5, 2) := by decide +kernel
theorem dX7_back_136 : decode prog_35_method_11_code 136 = .ok (.invokespecial 91, 3) := by decide +kernel
theorem dX7_back_139 : decode prog_35_method_11_code 139 = .ok (.areturn, 1) := by decide +kernel
theorem dX7_back_140 : decode prog_35_method_11_code 140 = .ok (.iload_n 3, 1) := by decide +kernel
theorem dX7_back_141 : decode prog_35_method_11_code 141 = .ok (.anewarray 30, 3) := by decide +kernel
theorem dX7_back_144 : decode prog_35_method_11_code 144 = .ok (.astore 4, 2) := by decide +kernel
theorem dX7_back_146 : decode prog_35_method_11_code 146 = .ok (.iconst 0, 1) := by decide +kernel
theorem dX7_back_147 : decode prog_35_method_11_code 147 = .ok (.istore 5, 2) := by decide +kernel
theorem dX7_back_149 : decode prog_35_method_11_code 149 = .ok (.iload 5, 2) := by decide +kernel
theorem dX7_back_151 : decode prog_35_method_11_code 151 = .ok (.iload_n 3, 1) := by decide +kernel
theorem dX7_back_152 : decode prog_35_method_11_code 152 = .ok (.if_icmp .ge 28, 3) := by decide +kernel
theorem dX7_back_155 : decode prog_35_method_11_code 155 = .ok (.aload 4, 2) := by decide +kernel
theorem dX7_back_157 : decode prog_35_method_11_code 157 = .ok (.iload 5, 2) := by decide +kernel
theorem dX7_back_159 : decode prog_35_method_11_code 159 = .ok (.aload_n 1, 1) := by decide +kernel
theorem dX7_back_160 : decode prog_35_method_11_code 160 = .ok (.checkcast 170, 3) := by decide +kernel
theorem dX7_back_163 : decode prog_35_method_11_code 163 = .ok (.getfield 172, 3) := by decide +kernel
theorem dX7_back_166 : decode prog_35_method_11_code 166 = .ok (.iload_n 3, 1) := by decide +kernel
theorem dX7_back_167 : decode prog_35_method_11_code 167 = .ok (.iconst 1, 1) := by decide +kernel
theorem dX7_back_168 : decode prog_35_method_11_code 168 = .ok (.isub, 1) := by decide +kernel
theorem dX7_back_169 : decode prog_35_method_11_code 169 = .ok (.iload 5, 2) := by decide +kernel
theorem dX7_back_171 : decode prog_35_method_11_code 171 = .ok (.isub, 1) := by decide +kernel
theorem dX7_back_172 : decode prog_35_method_11_code 172 = .ok (.aaload, 1) := by decide +kernel
theorem dX7_back_173 : decode prog_35_method_11_code 173 = .ok (.aastore, 1) := by decide +kernel
theorem dX7_back_174 : decode prog_35_method_11_code 174 = .ok (.iinc 5 1, 3) := by decide +kernel
theorem dX7_back_177 : decode prog_35_method_11_code 177 = .ok (.goto (-28), 3) := by decide +kernel
theorem dX7_back_180 : decode prog_35_method_11_code 180 = .ok (.new 170, 3) := by decide +kernel
theorem dX7_back_183 : decode prog_35_method_11_code 183 = .ok (.dup, 1) := by decide +kernel
theorem dX7_back_184 : decode prog_35_method_11_code 184 = .ok (.aload 4, 2) := by decide +kernel
theorem dX7_back_186 : decode prog_35_method_11_code 186 = .ok (.invokespecial 174, 3) := by decide +kernel
theorem dX7_back_189 : decode prog_35_method_11_code 189 = .ok (.areturn, 1) := by decide +kernel
theorem dX7_intsOf_0 : decode prog_35_method_13_code 0 = .ok (.aload_n 0, 1) := by decide +kernel
theorem dX7_intsOf_1 : decode prog_35_method_13_code 1 = .ok (.instanceof 60, 3) := by decide +kernel
theorem dX7_intsOf_4 : decode prog_35_method_13_code 4 = .ok (.ifCond .eq 16, 3) := by decide +kernel
theorem dX7_intsOf_7 : decode prog_35_method_13_code 7 = .ok (.aload_n 0, 1) := by decide +kernel
theorem dX7_intsOf_8 : decode prog_35_method_13_code 8 = .ok (.checkcast 60, 3) := by decide +kernel
theorem dX7_intsOf_11 : decode prog_35_method_13_code 11 = .ok (.astore_n 1, 1) := by decide +kernel
theorem dX7_intsOf_12 : decode prog_35_method_13_code 12 = .ok (.aload_n 1, 1) := by decide +kernel
theorem dX7_intsOf_13 : decode prog_35_method_13_code 13 = .ok (.getfield 66, 3) := by decide +kernel
theorem dX7_intsOf_16 : decode prog_35_method_13_code 16 = .ok (.arraylength, 1) := by decide +kernel
theorem dX7_intsOf_17 : decode prog_35_method_13_code 17 = .ok (.goto 4, 3) := by decide +kernel
theorem dX7_intsOf_20 : decode prog_35_method_13_code 20 = .ok (.iconst 1, 1) := by decide +kernel
theorem dX7_intsOf_21 : decode prog_35_method_13_code 21 = .ok (.ireturn, 1) := by decide +kernel
theorem dX7_turned_0 : decode prog_35_method_15_code 0 = .ok (.aload_n 1, 1) := by decide +kernel
theorem dX7_turned_1 : decode prog_35_method_15_code 1 = .ok (.invokevirtual 208, 3) := by decide +kernel
theorem dX7_turned_4 : decode prog_35_method_15_code 4 = .ok (.istore_n 3, 1) := by decide +kernel
theorem dX7_turned_5 : decode prog_35_method_15_code 5 = .ok (.iload_n 3, 1) := by decide +kernel
theorem dX7_turned_6 : decode prog_35_method_15_code 6 = .ok (.bipush 20, 2) := by decide +kernel
theorem dX7_turned_8 : decode prog_35_method_15_code 8 = .ok (.if_icmp .le 13, 3) := by decide +kernel
theorem dX7_turned_11 : decode prog_35_method_15_code 11 = .ok (.aload_n 0, 1) := by decide +kernel
theorem dX7_turned_12 : decode prog_35_method_15_code 12 = .ok (.getfield 9, 3) := by decide +kernel
theorem dX7_turned_15 : decode prog_35_method_15_code 15 = .ok (.iconst 2, 1) := by decide +kernel
theorem dX7_turned_16 : decode prog_35_method_15_code 16 = .ok (.iload_n 2, 1) := by decide +kernel
theorem dX7_turned_17 : decode prog_35_method_15_code 17 = .ok (.invokevirtual 25, 3) := by decide +kernel
theorem dX7_turned_20 : decode prog_35_method_15_code 20 = .ok (.athrow, 1) := by decide +kernel
theorem dX7_turned_21 : decode prog_35_method_15_code 21 = .ok (.iload_n 3, 1) := by decide +kernel
theorem dX7_turned_22 : decode prog_35_method_15_code 22 = .ok (.newarray .int, 2) := by decide +kernel
theorem dX7_turned_24 : decode prog_35_method_15_code 24 = .ok (.astore 4, 2) := by decide +kernel
theorem dX7_turned_26 : decode prog_35_method_15_code 26 = .ok (.iconst 0, 1) := by decide +kernel
theorem dX7_turned_27 : decode prog_35_method_15_code 27 = .ok (.istore 5, 2) := by decide +kernel
theorem dX7_turned_29 : decode prog_35_method_15_code 29 = .ok (.iload 5, 2) := by decide +kernel
theorem dX7_turned_31 : decode prog_35_method_15_code 31 = .ok (.aload_n 1, 1) := by decide +kernel
theorem dX7_turned_32 : decode prog_35_method_15_code 32 = .ok (.getfield 128, 3) := by decide +kernel
theorem dX7_turned_35 : decode prog_35_method_15_code 35 = .ok (.arraylength, 1) := by decide +kernel
theorem dX7_turned_36 : decode prog_35_method_15_code 36 = .ok (.if_icmp .ge 40, 3) := by decide +kernel
theorem dX7_turned_39 : decode prog_35_method_15_code 39 = .ok (.iconst 0, 1) := by decide +kernel
theorem dX7_turned_40 : decode prog_35_method_15_code 40 = .ok (.istore 6, 2) := by decide +kernel
theorem dX7_turned_42 : decode prog_35_method_15_code 42 = .ok (.iload 6, 2) := by decide +kernel
theorem dX7_turned_44 : decode prog_35_method_15_code 44 = .ok (.aload_n 1, 1) := by decide +kernel
theorem dX7_turned_45 : decode prog_35_method_15_code 45 = .ok (.getfield 128, 3) := by decide +kernel
theorem dX7_turned_48 : decode prog_35_method_15_code 48 = .ok (.iload 5, 2) := by decide +kernel
theorem dX7_turned_50 : decode prog_35_method_15_code 50 = .ok (.aaload, 1) := by decide +kernel
theorem dX7_turned_51 : decode prog_35_method_15_code 51 = .ok (.arraylength, 1) := by decide +kernel
theorem dX7_turned_52 : decode prog_35_method_15_code 52 = .ok (.if_icmp .ge 18, 3) := by decide +kernel
theorem dX7_turned_55 : decode prog_35_method_15_code 55 = .ok (.aload 4, 2) := by decide +kernel
theorem dX7_turned_57 : decode prog_35_method_15_code 57 = .ok (.iload 6, 2) := by decide +kernel
theorem dX7_turned_59 : decode prog_35_method_15_code 59 = .ok (.dup2, 1) := by decide +kernel
theorem dX7_turned_60 : decode prog_35_method_15_code 60 = .ok (.iaload, 1) := by decide +kernel
theorem dX7_turned_61 : decode prog_35_method_15_code 61 = .ok (.iconst 1, 1) := by decide +kernel
theorem dX7_turned_62 : decode prog_35_method_15_code 62 = .ok (.iadd, 1) := by decide +kernel
theorem dX7_turned_63 : decode prog_35_method_15_code 63 = .ok (.iastore, 1) := by decide +kernel
theorem dX7_turned_64 : decode prog_35_method_15_code 64 = .ok (.iinc 6 1, 3) := by decide +kernel
theorem dX7_turned_67 : decode prog_35_method_15_code 67 = .ok (.goto (-25), 3) := by decide +kernel
theorem dX7_turned_70 : decode prog_35_method_15_code 70 = .ok (.iinc 5 1, 3) := by decide +kernel
theorem dX7_turned_73 : decode prog_35_method_15_code 73 = .ok (.goto (-44), 3) := by decide +kernel
theorem dX7_turned_76 : decode prog_35_method_15_code 76 = .ok (.iload_n 3, 1) := by decide +kernel
theorem dX7_turned_77 : decode prog_35_method_15_code 77 = .ok (.anewarray 160, 3) := by decide +kernel
theorem dX7_turned_80 : decode prog_35_method_15_code 80 = .ok (.astore 5, 2) := by decide +kernel
theorem dX7_turned_82 : decode prog_35_method_15_code 82 = .ok (.iconst 0, 1) := by decide +kernel
theorem dX7_turned_83 : decode prog_35_method_15_code 83 = .ok (.istore 6, 2) := by decide +kernel
theorem dX7_turned_85 : decode prog_35_method_15_code 85 = .ok (.iload 6, 2) := by decide +kernel
theorem dX7_turned_87 : decode prog_35_method_15_code 87 = .ok (.iload_n 3, 1) := by decide +kernel
theorem dX7_turned_88 : decode prog_35_method_15_code 88 = .ok (.if_icmp .ge 21, 3) := by decide +kernel
theorem dX7_turned_91 : decode prog_35_method_15_code 91 = .ok (.aload 5, 2) := by decide +kernel
theorem dX7_turned_93 : decode prog_35_method_15_code 93 = .ok (.iload 6, 2) := by decide +kernel
theorem dX7_turned_95 : decode prog_35_method_15_code 95 = .ok (.aload 4, 2) := by decide +kernel
theorem dX7_turned_97 : decode prog_35_method_15_code 97 = .ok (.iload 6, 2) := by decide +kernel
theorem dX7_turned_99 : decode prog_35_method_15_code 99 = .ok (.iaload, 1) := by decide +kernel
theorem dX7_turned_100 : decode prog_35_method_15_code 100 = .ok (.newarray .int, 2) := by decide +kernel
theorem dX7_turned_102 : decode prog_35_method_15_code 102 = .ok (.aastore, 1) := by decide +kernel
theorem dX7_turned_103 : decode prog_35_method_15_code 103 = .ok (.iinc 6 1, 3) := by decide +kernel
theorem dX7_turned_106 : decode prog_35_method_15_code 106 = .ok (.goto (-21), 3) := by decide +kernel
theorem dX7_turned_109 : decode prog_35_method_15_code 109 = .ok (.aload_n 1, 1) := by decide +kernel
theorem dX7_turned_110 : decode prog_35_method_15_code 110 = .ok (.getfield 128, 3) := by decide +kernel
theorem dX7_turned_113 : decode prog_35_method_15_code 113 = .ok (.arraylength, 1) := by decide +kernel
theorem dX7_turned_114 : decode prog_35_method_15_code 114 = .ok (.iconst 1, 1) := by decide +kernel
theorem dX7_turned_115 : decode prog_35_method_15_code 115 = .ok (.isub, 1) := by decide +kernel
theorem dX7_turned_116 : decode prog_35_method_15_code 116 = .ok (.istore 6, 2) := by decide +kernel
theorem dX7_turned_118 : decode prog_35_method_15_code 118 = .ok (.iload 6, 2) := by decide +kernel
theorem dX7_turned_120 : decode prog_35_method_15_code 120 = .ok (.ifCond .lt 61, 3) := by decide +kernel
theorem dX7_turned_123 : decode prog_35_method_15_code 123 = .ok (.iconst 0, 1) := by decide +kernel
theorem dX7_turned_124 : decode prog_35_method_15_code 124 = .ok (.istore 7, 2) := by decide +kernel
theorem dX7_turned_126 : decode prog_35_method_15_code 126 = .ok (.iload 7, 2) := by decide +kernel
theorem dX7_turned_128 : decode prog_35_method_15_code 128 = .ok (.aload_n 1, 1) := by decide +kernel
theorem dX7_turned_129 : decode prog_35_method_15_code 129 = .ok (.getfield 128, 3) := by decide +kernel
theorem dX7_turned_132 : decode prog_35_method_15_code 132 = .ok (.iload 6, 2) := by decide +kernel
theorem dX7_turned_134 : decode prog_35_method_15_code 134 = .ok (.aaload, 1) := by decide +kernel
theorem dX7_turned_135 : decode prog_35_method_15_code 135 = .ok (.arraylength, 1) := by decide +kernel
theorem dX7_turned_136 : decode prog_35_method_15_code 136 = .ok (.if_icmp .ge 39, 3) := by decide +kernel
theorem dX7_turned_139 : decode prog_35_method_15_code 139 = .ok (.aload 4, 2) := by decide +kernel
theorem dX7_turned_141 : decode prog_35_method_15_code 141 = .ok (.iload 7, 2) := by decide +kernel
theorem dX7_turned_143 : decode prog_35_method_15_code 143 = .ok (.dup2, 1) := by decide +kernel
theorem dX7_turned_144 : decode prog_35_method_15_code 144 = .ok (.iaload, 1) := by decide +kernel
theorem dX7_turned_145 : decode prog_35_method_15_code 145 = .ok (.iconst 1, 1) := by decide +kernel
theorem dX7_turned_146 : decode prog_35_method_15_code 146 = .ok (.isub, 1) := by decide +kernel
theorem dX7_turned_147 : decode prog_35_method_15_code 147 = .ok (.iastore, 1) := by decide +kernel
theorem dX7_turned_148 : decode prog_35_method_15_code 148 = .ok (.aload 5, 2) := by decide +kernel
theorem dX7_turned_150 : decode prog_35_method_15_code 150 = .ok (.iload 7, 2) := by decide +kernel
theorem dX7_turned_152 : decode prog_35_method_15_code 152 = .ok (.aaload, 1) := by decide +kernel
theorem dX7_turned_153 : decode prog_35_method_15_code 153 = .ok (.aload 4, 2) := by decide +kernel
theorem dX7_turned_155 : decode prog_35_method_15_code 155 = .ok (.iload 7, 2) := by decide +kernel
theorem dX7_turned_157 : decode prog_35_method_15_code 157 = .ok (.iaload, 1) := by decide +kernel
theorem dX7_turned_158 : decode prog_35_method_15_code 158 = .ok (.aload_n 1, 1) := by decide +kernel
theorem dX7_turned_159 : decode prog_35_method_15_code 159 = .ok (.getfield 128, 3) := by decide +kernel
theorem dX7_turned_162 : decode prog_35_method_15_code 162 = .ok (.iload 6, 2) := by decide +kernel
theorem dX7_turned_164 : decode prog_35_method_15_code 164 = .ok (.aaload, 1) := by decide +kernel
theorem dX7_turned_165 : decode prog_35_method_15_code 165 = .ok (.iload 7, 2) := by decide +kernel
theorem dX7_turned_167 : decode prog_35_method_15_code 167 = .ok (.iaload, 1) := by decide +kernel
theorem dX7_turned_168 : decode prog_35_method_15_code 168 = .ok (.iastore, 1) := by decide +kernel
theorem dX7_turned_169 : decode prog_35_method_15_code 169 = .ok (.iinc 7 1, 3) := by decide +kernel
theorem dX7_turned_172 : decode prog_35_method_15_code 172 = .ok (.goto (-46), 3) := by decide +kernel
theorem dX7_turned_175 : decode prog_35_method_15_code 175 = .ok (.iinc 6 (-1), 3) := by decide +kernel
theorem dX7_turned_178 : decode prog_35_method_15_code 178 = .ok (.goto (-60), 3) := by decide +kernel
theorem dX7_turned_181 : decode prog_35_method_15_code 181 = .ok (.aload 5, 2) := by decide +kernel
theorem dX7_turned_183 : decode prog_35_method_15_code 183 = .ok (.areturn, 1) := by decide +kernel
theorem dX7_group_0 : decode prog_35_method_16_code 0 = .ok (.iconst (-1), 1) := by decide +kernel
theorem dX7_group_1 : decode prog_35_method_16_code 1 = .ok (.istore_n 3, 1) := by decide +kernel
theorem dX7_group_2 : decode prog_35_method_16_code 2 = .ok (.iconst 0, 1) := by decide +kernel
theorem dX7_group_3 : decode prog_35_method_16_code 3 = .ok (.istore 4, 2) := by decide +kernel
theorem dX7_group_5 : decode prog_35_method_16_code 5 = .ok (.iconst 0, 1) := by decide +kernel
theorem dX7_group_6 : decode prog_35_method_16_code 6 = .ok (.istore 5, 2) := by decide +kernel
theorem dX7_group_8 : decode prog_35_method_16_code 8 = .ok (.iload 5, 2) := by decide +kernel
theorem dX7_group_10 : decode prog_35_method_16_code 10 = .ok (.aload_n 1, 1) := by decide +kernel
theorem dX7_group_11 : decode prog_35_method_16_code 11 = .ok (.arraylength, 1) := by decide +kernel
theorem dX7_group_12 : decode prog_35_method_16_code 12 = .ok (.if_icmp .ge 29, 3) := by decide +kernel
theorem dX7_group_15 : decode prog_35_method_16_code 15 = .ok (.iload_n 3, 1) := by decide +kernel
theorem dX7_group_16 : decode prog_35_method_16_code 16 = .ok (.aload_n 1, 1) := by decide +kernel
theorem dX7_group_17 : decode prog_35_method_16_code 17 = .ok (.iload 5, 2) := by decide +kernel
theorem dX7_group_19 : decode prog_35_method_16_code 19 = .ok (.iaload, 1) := by decide +kernel
theorem dX7_group_20 : decode prog_35_method_16_code 20 = .ok (.invokestatic 147, 3) := by decide +kernel
theorem dX7_group_23 : decode prog_35_method_16_code 23 = .ok (.istore_n 3, 1) := by decide +kernel
theorem dX7_group_24 : decode prog_35_method_16_code 24 = .ok (.iload 4, 2) := by decide +kernel
theorem dX7_group_26 : decode prog_35_method_16_code 26 = .ok (.aload_n 1, 1) := by decide +kernel
theorem dX7_group_27 : decode prog_35_method_16_code 27 = .ok (.iload 5, 2) := by decide +kernel
theorem dX7_group_29 : decode prog_35_method_16_code 29 = .ok (.iaload, 1) := by decide +kernel
theorem dX7_group_30 : decode prog_35_method_16_code 30 = .ok (.invokestatic 152, 3) := by decide +kernel
theorem dX7_group_33 : decode prog_35_method_16_code 33 = .ok (.istore 4, 2) := by decide +kernel
theorem dX7_group_35 : decode prog_35_method_16_code 35 = .ok (.iinc 5 1, 3) := by decide +kernel
theorem dX7_group_38 : decode prog_35_method_16_code 38 = .ok (.goto (-30), 3) := by decide +kernel
theorem dX7_group_41 : decode prog_35_method_16_code 41 = .ok (.iload_n 3, 1) := by decide +kernel
theorem dX7_group_42 : decode prog_35_method_16_code 42 = .ok (.bipush 20, 2) := by decide +kernel
theorem dX7_group_44 : decode prog_35_method_16_code 44 = .ok (.if_icmp .lt 13, 3) := by decide +kernel
theorem dX7_group_47 : decode prog_35_method_16_code 47 = .ok (.aload_n 0, 1) := by decide +kernel
theorem dX7_group_48 : decode prog_35_method_16_code 48 = .ok (.getfield 9, 3) := by decide +kernel
theorem dX7_group_51 : decode prog_35_method_16_code 51 = .ok (.iconst 2, 1) := by decide +kernel
theorem dX7_group_52 : decode prog_35_method_16_code 52 = .ok (.iload_n 2, 1) := by decide +kernel
theorem dX7_group_53 : decode prog_35_method_16_code 53 = .ok (.invokevirtual 25, 3) := by decide +kernel
theorem dX7_group_56 : decode prog_35_method_16_code 56 = .ok (.athrow, 1) := by decide +kernel
theorem dX7_group_57 : decode prog_35_method_16_code 57 = .ok (.iload 4, 2) := by decide +kernel
theorem dX7_group_59 : decode prog_35_method_16_code 59 = .ok (.ifCond .ge 19, 3) := by decide +kernel
theorem dX7_group_62 : decode prog_35_method_16_code 62 = .ok (.aload_n 0, 1) := by decide +kernel
theorem dX7_group_63 : decode prog_35_method_16_code 63 = .ok (.getfield 9, 3) := by decide +kernel
theorem dX7_group_66 : decode prog_35_method_16_code 66 = .ok (.getfield 177, 3) := by decide +kernel
theorem dX7_group_69 : decode prog_35_method_16_code 69 = .ok (.iload 4, 2) := by decide +kernel
theorem dX7_group_71 : decode prog_35_method_16_code 71 = .ok (.iload_n 2, 1) := by decide +kernel
theorem dX7_group_72 : decode prog_35_method_16_code 72 = .ok (.invokevirtual 184, 3) := by decide +kernel
theorem dX7_group_75 : decode prog_35_method_16_code 75 = .ok (.goto 8, 3) := by decide +kernel
theorem dX7_group_78 : decode prog_35_method_16_code 78 = .ok (.iload_n 3, 1) := by decide +kernel
theorem dX7_group_79 : decode prog_35_method_16_code 79 = .ok (.iconst 1, 1) := by decide +kernel
theorem dX7_group_80 : decode prog_35_method_16_code 80 = .ok (.iadd, 1) := by decide +kernel
theorem dX7_group_81 : decode prog_35_method_16_code 81 = .ok (.newarray .int, 2) := by decide +kernel
theorem dX7_group_83 : decode prog_35_method_16_code 83 = .ok (.astore 5, 2) := by decide +kernel
theorem dX7_group_85 : decode prog_35_method_16_code 85 = .ok (.iconst 0, 1) := by decide +kernel
theorem dX7_group_86 : decode prog_35_method_16_code 86 = .ok (.istore 6, 2) := by decide +kernel
theorem dX7_group_88 : decode prog_35_method_16_code 88 = .ok (.iload 6, 2) := by decide +kernel
theorem dX7_group_90 : decode prog_35_method_16_code 90 = .ok (.aload_n 1, 1) := by decide +kernel
theorem dX7_group_91 : decode prog_35_method_16_code 91 = .ok (.arraylength, 1) := by decide +kernel
theorem dX7_group_92 : decode prog_35_method_16_code 92 = .ok (.if_icmp .ge 20, 3) := by decide +kernel
theorem dX7_group_95 : decode prog_35_method_16_code 95 = .ok (.aload 5, 2) := by decide +kernel
theorem dX7_group_97 : decode prog_35_method_16_code 97 = .ok (.aload_n 1, 1) := by decide +kernel
theorem dX7_group_98 : decode prog_35_method_16_code 98 = .ok (.iload 6, 2) := by decide +kernel
theorem dX7_group_100 : decode prog_35_method_16_code 100 = .ok (.iaload, 1) := by decide +kernel
theorem dX7_group_101 : decode prog_35_method_16_code 101 = .ok (.dup2, 1) := by decide +kernel
theorem dX7_group_102 : decode prog_35_method_16_code 102 = .ok (.iaload, 1) := by decide +kernel
theorem dX7_group_103 : decode prog_35_method_16_code 103 = .ok (.iconst 1, 1) := by decide +kernel
theorem dX7_group_104 : decode prog_35_method_16_code 104 = .ok (.iadd, 1) := by decide +kernel
theorem dX7_group_105 : decode prog_35_method_16_code 105 = .ok (.iastore, 1) := by decide +kernel
theorem dX7_group_106 : decode prog_35_method_16_code 106 = .ok (.iinc 6 1, 3) := by decide +kernel
theorem dX7_group_109 : decode prog_35_method_16_code 109 = .ok (.goto (-21), 3) := by decide +kernel
theorem dX7_group_112 : decode prog_35_method_16_code 112 = .ok (.iload_n 3, 1) := by decide +kernel
theorem dX7_group_113 : decode prog_35_method_16_code 113 = .ok (.iconst 1, 1) := by decide +kernel
theorem dX7_group_114 : decode prog_35_method_16_code 114 = .ok (.iadd, 1) := by decide +kernel
theorem dX7_group_115 : decode prog_35_method_16_code 115 = .ok (.anewarray 160, 3) := by decide +kernel
theorem dX7_group_118 : decode prog_35_method_16_code 118 = .ok (.astore 6, 2) := by decide +kernel
theorem dX7_group_120 : decode prog_35_method_16_code 120 = .ok (.iconst 0, 1) := by decide +kernel
theorem dX7_group_121 : decode prog_35_method_16_code 121 = .ok (.istore 7, 2) := by decide +kernel
theorem dX7_group_123 : decode prog_35_method_16_code 123 = .ok (.iload 7, 2) := by decide +kernel
theorem dX7_group_125 : decode prog_35_method_16_code 125 = .ok (.iload_n 3, 1) := by decide +kernel
theorem dX7_group_126 : decode prog_35_method_16_code 126 = .ok (.if_icmp .gt 21, 3) := by decide +kernel
theorem dX7_group_129 : decode prog_35_method_16_code 129 = .ok (.aload 6, 2) := by decide +kernel
theorem dX7_group_131 : decode prog_35_method_16_code 131 = .ok (.iload 7, 2) := by decide +kernel
theorem dX7_group_133 : decode prog_35_method_16_code 133 = .ok (.aload 5, 2) := by decide +kernel
theorem dX7_group_135 : decode prog_35_method_16_code 135 = .ok (.iload 7, 2) := by decide +kernel
theorem dX7_group_137 : decode prog_35_method_16_code 137 = .ok (.iaload, 1) := by decide +kernel
theorem dX7_group_138 : decode prog_35_method_16_code 138 = .ok (.newarray .int, 2) := by decide +kernel
theorem dX7_group_140 : decode prog_35_method_16_code 140 = .ok (.aastore, 1) := by decide +kernel
theorem dX7_group_141 : decode prog_35_method_16_code 141 = .ok (.iinc 7 1, 3) := by decide +kernel
theorem dX7_group_144 : decode prog_35_method_16_code 144 = .ok (.goto (-21), 3) := by decide +kernel
theorem dX7_group_147 : decode prog_35_method_16_code 147 = .ok (.aload_n 1, 1) := by decide +kernel
theorem dX7_group_148 : decode prog_35_method_16_code 148 = .ok (.arraylength, 1) := by decide +kernel
theorem dX7_group_149 : decode prog_35_method_16_code 149 = .ok (.iconst 1, 1) := by decide +kernel
theorem dX7_group_150 : decode prog_35_method_16_code 150 = .ok (.isub, 1) := by decide +kernel
theorem dX7_group_151 : decode prog_35_method_16_code 151 = .ok (.istore 7, 2) := by decide +kernel
theorem dX7_group_153 : decode prog_35_method_16_code 153 = .ok (.iload 7, 2) := by decide +kernel
theorem dX7_group_155 : decode prog_35_method_16_code 155 = .ok (.ifCond .lt 37, 3) := by decide +kernel
theorem dX7_group_158 : decode prog_35_method_16_code 158 = .ok (.aload 5, 2) := by decide +kernel
theorem dX7_group_160 : decode prog_35_method_16_code 160 = .ok (.aload_n 1, 1) := by decide +kernel
theorem dX7_group_161 : decode prog_35_method_16_code 161 = .ok (.iload 7, 2) := by decide +kernel
theorem dX7_group_163 : decode prog_35_method_16_code 163 = .ok (.iaload, 1) := by decide +kernel
theorem dX7_group_164 : decode prog_35_method_16_code 164 = .ok (.dup2, 1) := by decide +kernel
theorem dX7_group_165 : decode prog_35_method_16_code 165 = .ok (.iaload, 1) := by decide +kernel
theorem dX7_group_166 : decode prog_35_method_16_code 166 = .ok (.iconst 1, 1) := by decide +kernel
theorem dX7_group_167 : decode prog_35_method_16_code 167 = .ok (.isub, 1) := by decide +kernel
theorem dX7_group_168 : decode prog_35_method_16_code 168 = .ok (.iastore, 1) := by decide +kernel
theorem dX7_group_169 : decode prog_35_method_16_code 169 = .ok (.aload 6, 2) := by decide +kernel
theorem dX7_group_171 : decode prog_35_method_16_code 171 = .ok (.aload_n 1, 1) := by decide +kernel
theorem dX7_group_172 : decode prog_35_method_16_code 172 = .ok (.iload 7, 2) := by decide +kernel
theorem dX7_group_174 : decode prog_35_method_16_code 174 = .ok (.iaload, 1) := by decide +kernel
theorem dX7_group_175 : decode prog_35_method_16_code 175 = .ok (.aaload, 1) := by decide +kernel
theorem dX7_group_176 : decode prog_35_method_16_code 176 = .ok (.aload 5, 2) := by decide +kernel
theorem dX7_group_178 : decode prog_35_method_16_code 178 = .ok (.aload_n 1, 1) := by decide +kernel
theorem dX7_group_179 : decode prog_35_method_16_code 179 = .ok (.iload 7, 2) := by decide +kernel
theorem dX7_group_181 : decode prog_35_method_16_code 181 = .ok (.iaload, 1) := by decide +kernel
theorem dX7_group_182 : decode prog_35_method_16_code 182 = .ok (.iaload, 1) := by decide +kernel
theorem dX7_group_183 : decode prog_35_method_16_code 183 = .ok (.iload 7, 2) := by decide +kernel
theorem dX7_group_185 : decode prog_35_method_16_code 185 = .ok (.iastore, 1) := by decide +kernel
theorem dX7_group_186 : decode prog_35_method_16_code 186 = .ok (.iinc 7 (-1), 3) := by decide +kernel
theorem dX7_group_189 : decode prog_35_method_16_code 189 = .ok (.goto (-36), 3) := by decide +kernel
theorem dX7_group_192 : decode prog_35_method_16_code 192 = .ok (.aload 6, 2) := by decide +kernel
theorem dX7_group_194 : decode prog_35_method_16_code 194 = .ok (.areturn, 1) := by decide +kernel
theorem dX7_ofTwo_0 : decode prog_35_method_3_code 0 = .ok (.aload_n 0, 1) := by decide +kernel
theorem dX7_ofTwo_1 : decode prog_35_method_3_code 1 = .ok (.getfield 9, 3) := by decide +kernel
theorem dX7_ofTwo_4 : decode prog_35_method_3_code 4 = .ok (.getfield 15, 3) := by decide +kernel
theorem dX7_ofTwo_7 : decode prog_35_method_3_code 7 = .ok (.iconst 2, 1) := by decide +kernel
theorem dX7_ofTwo_8 : decode prog_35_method_3_code 8 = .ok (.isub, 1) := by decide +kernel
theorem dX7_ofTwo_9 : decode prog_35_method_3_code 9 = .ok (.istore_n 3, 1) := by decide +kernel
theorem dX7_ofTwo_10 : decode prog_35_method_3_code 10 = .ok (.aload_n 0, 1) := by decide +kernel
theorem dX7_ofTwo_11 : decode prog_35_method_3_code 11 = .ok (.getfield 9, 3) := by decide +kernel
theorem dX7_ofTwo_14 : decode prog_35_method_3_code 14 = .ok (.getfield 21, 3) := by decide +kernel
theorem dX7_ofTwo_17 : decode prog_35_method_3_code 17 = .ok (.iload_n 3, 1) := by decide +kernel
theorem dX7_ofTwo_18 : decode prog_35_method_3_code 18 = .ok (.aaload, 1) := by decide +kernel
theorem dX7_ofTwo_19 : decode prog_35_method_3_code 19 = .ok (.astore 4, 2) := by decide +kernel
theorem dX7_ofTwo_21 : decode prog_35_method_3_code 21 = .ok (.aload_n 0, 1) := by decide +kernel
theorem dX7_ofTwo_22 : decode prog_35_method_3_code 22 = .ok (.getfield 9, 3) := by decide +kernel
theorem dX7_ofTwo_25 : decode prog_35_method_3_code 25 = .ok (.getfield 21, 3) := by decide +kernel
theorem dX7_ofTwo_28 : decode prog_35_method_3_code 28 = .ok (.iload_n 3, 1) := by decide +kernel
theorem dX7_ofTwo_29 : decode prog_35_method_3_code 29 = .ok (.iconst 1, 1) := by decide +kernel
theorem dX7_ofTwo_30 : decode prog_35_method_3_code 30 = .ok (.iadd, 1) := by decide +kernel
theorem dX7_ofTwo_31 : decode prog_35_method_3_code 31 = .ok (.aaload, 1) := by decide +kernel
theorem dX7_ofTwo_32 : decode prog_35_method_3_code 32 = .ok (.astore 5, 2) := by decide +kernel
theorem dX7_ofTwo_34 : decode prog_35_method_3_code 34 = .ok (.iload_n 1, 1) := by decide +kernel
theorem dX7_ofTwo_35 : decode prog_35_method_3_code 35 = .ok (.tableswitch 314 19 26 #[45, 67, 95, 123, 173, 195, 217, 264], 45) := by decide +kernel
theorem dX7_ofTwo_80 : decode prog_35_method_3_code 80 = .ok (.aload_n 0, 1) := by decide +kernel
theorem dX7_ofTwo_81 : decode prog_35_method_3_code 81 = .ok (.getfield 9, 3) := by decide +kernel
theorem dX7_ofTwo_84 : decode prog_35_method_3_code 84 = .ok (.aload_n 0, 1) := by decide +kernel
theorem dX7_ofTwo_85 : decode prog_35_method_3_code 85 = .ok (.iload_n 3, 1) := by decide +kernel
theorem dX7_ofTwo_86 : decode prog_35_method_3_code 86 = .ok (.aload 4, 2) := by decide +kernel
theorem dX7_ofTwo_88 : decode prog_35_method_3_code 88 = .ok (.aload 5, 2) := by decide +kernel
theorem dX7_ofTwo_90 : decode prog_35_method_3_code 90 = .ok (.iload_n 2, 1) := by decide +kernel
theorem dX7_ofTwo_91 : decode prog_35_method_3_code 91 = .ok (.invokevirtual 101, 3) := by decide +kernel
theorem dX7_ofTwo_94 : decode prog_35_method_3_code 94 = .ok (.iconst 2, 1) := by decide +kernel
theorem dX7_ofTwo_95 : decode prog_35_method_3_code 95 = .ok (.iload_n 2, 1) := by decide +kernel
theorem dX7_ofTwo_96 : decode prog_35_method_3_code 96 = .ok (.invokevirtual 47, 3) := by decide +kernel
theorem dX7_ofTwo_99 : decode prog_35_method_3_code 99 = .ok (.goto 293, 3) := by decide +kernel
theorem dX7_ofTwo_102 : decode prog_35_method_3_code 102 = .ok (.aload_n 0, 1) := by decide +kernel
theorem dX7_ofTwo_103 : decode prog_35_method_3_code 103 = .ok (.getfield 9, 3) := by decide +kernel
theorem dX7_ofTwo_106 : decode prog_35_method_3_code 106 = .ok (.aload_n 0, 1) := by decide +kernel
theorem dX7_ofTwo_107 : decode prog_35_method_3_code 107 = .ok (.aload_n 0, 1) := by decide +kernel
theorem dX7_ofTwo_108 : decode prog_35_method_3_code 108 = .ok (.getfield 9, 3) := by decide +kernel
theorem dX7_ofTwo_111 : decode prog_35_method_3_code 111 = .ok (.iload_n 3, 1) := by decide +kernel
theorem dX7_ofTwo_112 : decode prog_35_method_3_code 112 = .ok (.iload_n 2, 1) := by decide +kernel
theorem dX7_ofTwo_113 : decode prog_35_method_3_code 113 = .ok (.invokevirtual 105, 3) := by decide +kernel
theorem dX7_ofTwo_116 : decode prog_35_method_3_code 116 = .ok (.aload 5, 2) := by decide +kernel
theorem dX7_ofTwo_118 : decode prog_35_method_3_code 118 = .ok (.iload_n 2, 1) := by decide +kernel
theorem dX7_ofTwo_119 : decode prog_35_method_3_code 119 = .ok (.invokevirtual 109, 3) := by decide +kernel
theorem dX7_ofTwo_122 : decode prog_35_method_3_code 122 = .ok (.iconst 2, 1) := by decide +kernel
theorem dX7_ofTwo_123 : decode prog_35_method_3_code 123 = .ok (.iload_n 2, 1) := by decide +kernel
theorem dX7_ofTwo_124 : decode prog_35_method_3_code 124 = .ok (.invokevirtual 47, 3) := by decide +kernel
theorem dX7_ofTwo_127 : decode prog_35_method_3_code 127 = .ok (.goto 265, 3) := by decide +kernel
theorem dX7_ofTwo_130 : decode prog_35_method_3_code 130 = .ok (.aload_n 0, 1) := by decide +kernel
theorem dX7_ofTwo_131 : decode prog_35_method_3_code 131 = .ok (.getfield 9, 3) := by decide +kernel
theorem dX7_ofTwo_134 : decode prog_35_method_3_code 134 = .ok (.aload_n 0, 1) := by decide +kernel
theorem dX7_ofTwo_135 : decode prog_35_method_3_code 135 = .ok (.aload_n 0, 1) := by decide +kernel
theorem dX7_ofTwo_136 : decode prog_35_method_3_code 136 = .ok (.getfield 9, 3) := by decide +kernel
theorem dX7_ofTwo_139 : decode prog_35_method_3_code 139 = .ok (.iload_n 3, 1) := by decide +kernel
theorem dX7_ofTwo_140 : decode prog_35_method_3_code 140 = .ok (.iload_n 2, 1) := by decide +kernel
theorem dX7_ofTwo_141 : decode prog_35_method_3_code 141 = .ok (.invokevirtual 105, 3) := by decide +kernel
theorem dX7_ofTwo_144 : decode prog_35_method_3_code 144 = .ok (.aload 5, 2) := by decide +kernel
theorem dX7_ofTwo_146 : decode prog_35_method_3_code 146 = .ok (.iload_n 2, 1) := by decide +kernel
theorem dX7_ofTwo_147 : decode prog_35_method_3_code 147 = .ok (.invokevirtual 113, 3) := by decide +kernel
theorem dX7_ofTwo_150 : decode prog_35_method_3_code 150 = .ok (.iconst 2, 1) := by decide +kernel
theorem dX7_ofTwo_151 : decode prog_35_method_3_code 151 = .ok (.iload_n 2, 1) := by decide +kernel
theorem dX7_ofTwo_152 : decode prog_35_method_3_code 152 = .ok (.invokevirtual 47, 3) := by decide +kernel
theorem dX7_ofTwo_155 : decode prog_35_method_3_code 155 = .ok (.goto 237, 3) := by decide +kernel
theorem dX7_ofTwo_158 : decode prog_35_method_3_code 158 = .ok (.aload_n 0, 1) := by decide +kernel
theorem dX7_ofTwo_159 : decode prog_35_method_3_code 159 = .ok (.getfield 9, 3) := by decide +kernel
theorem dX7_ofTwo_162 : decode prog_35_method_3_code 162 = .ok (.new 85, 3) := by decide +kernel
theorem dX7_ofTwo_165 : decode prog_35_method_3_code 165 = .ok (.dup, 1) := by decide +kernel
theorem dX7_ofTwo_166 : decode prog_35_method_3_code 166 = .ok (.aload_n 0, 1) := by decide +kernel
theorem dX7_ofTwo_167 : decode prog_35_method_3_code 167 = .ok (.aload_n 0, 1) := by decide +kernel
theorem dX7_ofTwo_168 : decode prog_35_method_3_code 168 = .ok (.getfield 9, 3) := by decide +kernel
theorem dX7_ofTwo_171 : decode prog_35_method_3_code 171 = .ok (.iload_n 3, 1) := by decide +kernel
theorem dX7_ofTwo_172 : decode prog_35_method_3_code 172 = .ok (.iload_n 2, 1) := by decide +kernel
theorem dX7_ofTwo_173 : decode prog_35_method_3_code 173 = .ok (.invokevirtual 62, 3) := by decide +kernel
theorem dX7_ofTwo_176 : decode prog_35_method_3_code 176 = .ok (.getfield 66, 3) := by decide +kernel
theorem dX7_ofTwo_179 : decode prog_35_method_3_code 179 = .ok (.aload_n 0, 1) := by decide +kernel
theorem dX7_ofTwo_180 : decode prog_35_method_3_code 180 = .ok (.getfield 9, 3) := by decide +kernel
theorem dX7_ofTwo_183 : decode prog_35_method_3_code 183 = .ok (.iload_n 3, 1) := by decide +kernel
theorem dX7_ofTwo_184 : decode prog_35_method_3_code 184 = .ok (.iconst 1, 1) := by decide +kernel
theorem dX7_ofTwo_185 : decode prog_35_method_3_code 185 = .ok (.iadd, 1) := by decide +kernel
theorem dX7_ofTwo_186 : decode prog_35_method_3_code 186 = .ok (.iload_n 2, 1) := by decide +kernel
theorem dX7_ofTwo_187 : decode prog_35_method_3_code 187 = .ok (.invokevirtual 62, 3) := by decide +kernel
theorem dX7_ofTwo_190 : decode prog_35_method_3_code 190 = .ok (.getfield 66, 3) := by decide +kernel
theorem dX7_ofTwo_193 : decode prog_35_method_3_code 193 = .ok (.iload_n 2, 1) := by decide +kernel
theorem dX7_ofTwo_194 : decode prog_35_method_3_code 194 = .ok (.invokevirtual 116, 3) := by decide +kernel
theorem dX7_ofTwo_197 : decode prog_35_method_3_code 197 = .ok (.invokespecial 91, 3) := by decide +kernel
theorem dX7_ofTwo_200 : decode prog_35_method_3_code 200 = .ok (.iconst 2, 1) := by decide +kernel
theorem dX7_ofTwo_201 : decode prog_35_method_3_code 201 = .ok (.iload_n 2, 1) := by decide +kernel
theorem dX7_ofTwo_202 : decode prog_35_method_3_code 202 = .ok (.invokevirtual 47, 3) := by decide +kernel
theorem dX7_ofTwo_205 : decode prog_35_method_3_code 205 = .ok (.goto 187, 3) := by decide +kernel
theorem dX7_ofTwo_208 : decode prog_35_method_3_code 208 = .ok (.aload_n 0, 1) := by decide +kernel
theorem dX7_ofTwo_209 : decode prog_35_method_3_code 209 = .ok (.getfield 9, 3) := by decide +kernel
theorem dX7_ofTwo_212 : decode prog_35_method_3_code 212 = .ok (.aload_n 0, 1) := by decide +kernel
theorem dX7_ofTwo_213 : decode prog_35_method_3_code 213 = .ok (.aload 4, 2) := by decide +kernel
theorem dX7_ofTwo_215 : decode prog_35_method_3_code 215 = .ok (.iload_n 3, 1) := by decide +kernel
theorem dX7_ofTwo_216 : decode prog_35_method_3_code 216 = .ok (.iconst 1, 1) := by decide +kernel
theorem dX7_ofTwo_217 : decode prog_35_method_3_code 217 = .ok (.iadd, 1) := by decide +kernel
theorem dX7_ofTwo_218 : decode prog_35_method_3_code 218 = .ok (.iload_n 2, 1) := by decide +kernel
theorem dX7_ofTwo_219 : decode prog_35_method_3_code 219 = .ok (.invokevirtual 120, 3) := by decide +kernel
theorem dX7_ofTwo_222 : decode prog_35_method_3_code 222 = .ok (.iconst 2, 1) := by decide +kernel
theorem dX7_ofTwo_223 : decode prog_35_method_3_code 223 = .ok (.iload_n 2, 1) := by decide +kernel
theorem dX7_ofTwo_224 : decode prog_35_method_3_code 224 = .ok (.invokevirtual 47, 3) := by decide +kernel
theorem dX7_ofTwo_227 : decode prog_35_method_3_code 227 = .ok (.goto 165, 3) := by decide +kernel
theorem dX7_ofTwo_230 : decode prog_35_method_3_code 230 = .ok (.aload_n 0, 1) := by decide +kernel
theorem dX7_ofTwo_231 : decode prog_35_method_3_code 231 = .ok (.aload_n 0, 1) := by decide +kernel
theorem dX7_ofTwo_232 : decode prog_35_method_3_code 232 = .ok (.getfield 9, 3) := by decide +kernel
theorem dX7_ofTwo_235 : decode prog_35_method_3_code 235 = .ok (.iload_n 3, 1) := by decide +kernel
theorem dX7_ofTwo_236 : decode prog_35_method_3_code 236 = .ok (.iload_n 2, 1) := by decide +kernel
theorem dX7_ofTwo_237 : decode prog_35_method_3_code 237 = .ok (.invokevirtual 62, 3) := by decide +kernel
theorem dX7_ofTwo_240 : decode prog_35_method_3_code 240 = .ok (.getfield 66, 3) := by decide +kernel
theorem dX7_ofTwo_243 : decode prog_35_method_3_code 243 = .ok (.aload 5, 2) := by decide +kernel
theorem dX7_ofTwo_245 : decode prog_35_method_3_code 245 = .ok (.iload_n 2, 1) := by decide +kernel
theorem dX7_ofTwo_246 : decode prog_35_method_3_code 246 = .ok (.invokevirtual 124, 3) := by decide +kernel
theorem dX7_ofTwo_249 : decode prog_35_method_3_code 249 = .ok (.goto 143, 3) := by decide +kernel
theorem dX7_ofTwo_252 : decode prog_35_method_3_code 252 = .ok (.aload_n 0, 1) := by decide +kernel
theorem dX7_ofTwo_253 : decode prog_35_method_3_code 253 = .ok (.getfield 9, 3) := by decide +kernel
theorem dX7_ofTwo_256 : decode prog_35_method_3_code 256 = .ok (.new 85, 3) := by decide +kernel
theorem dX7_ofTwo_259 : decode prog_35_method_3_code 259 = .ok (.dup, 1) := by decide +kernel
theorem dX7_ofTwo_260 : decode prog_35_method_3_code 260 = .ok (.aload_n 0, 1) := by decide +kernel
theorem dX7_ofTwo_261 : decode prog_35_method_3_code 261 = .ok (.aload_n 0, 1) := by decide +kernel
theorem dX7_ofTwo_262 : decode prog_35_method_3_code 262 = .ok (.getfield 9, 3) := by decide +kernel
theorem dX7_ofTwo_265 : decode prog_35_method_3_code 265 = .ok (.iload_n 3, 1) := by decide +kernel
theorem dX7_ofTwo_266 : decode prog_35_method_3_code 266 = .ok (.iload_n 2, 1) := by decide +kernel
theorem dX7_ofTwo_267 : decode prog_35_method_3_code 267 = .ok (.invokevirtual 39, 3) := by decide +kernel
theorem dX7_ofTwo_270 : decode prog_35_method_3_code 270 = .ok (.getfield 128, 3) := by decide +kernel
theorem dX7_ofTwo_273 : decode prog_35_method_3_code 273 = .ok (.aload_n 0, 1) := by decide +kernel
theorem dX7_ofTwo_274 : decode prog_35_method_3_code 274 = .ok (.getfield 9, 3) := by decide +kernel
theorem dX7_ofTwo_277 : decode prog_35_method_3_code 277 = .ok (.iload_n 3, 1) := by decide +kernel
theorem dX7_ofTwo_278 : decode prog_35_method_3_code 278 = .ok (.iconst 1, 1) := by decide +kernel
theorem dX7_ofTwo_279 : decode prog_35_method_3_code 279 = .ok (.iadd, 1) := by decide +kernel
theorem dX7_ofTwo_280 : decode prog_35_method_3_code 280 = .ok (.iload_n 2, 1) := by decide +kernel
theorem dX7_ofTwo_281 : decode prog_35_method_3_code 281 = .ok (.invokevirtual 105, 3) := by decide +kernel
theorem dX7_ofTwo_284 : decode prog_35_method_3_code 284 = .ok (.iload_n 2, 1) := by decide +kernel
theorem dX7_ofTwo_285 : decode prog_35_method_3_code 285 = .ok (.invokevirtual 131, 3) := by decide +kernel
theorem dX7_ofTwo_288 : decode prog_35_method_3_code 288 = .ok (.invokespecial 91, 3) := by decide +kernel
theorem dX7_ofTwo_291 : decode prog_35_method_3_code 291 = .ok (.iconst 2, 1) := by decide +kernel
theorem dX7_ofTwo_292 : decode prog_35_method_3_code 292 = .ok (.iload_n 2, 1) := by decide +kernel
theorem dX7_ofTwo_293 : decode prog_35_method_3_code 293 = .ok (.invokevirtual 47, 3) := by decide +kernel
theorem dX7_ofTwo_296 : decode prog_35_method_3_code 296 = .ok (.goto 96, 3) := by decide +kernel
theorem dX7_ofTwo_299 : decode prog_35_method_3_code 299 = .ok (.aload_n 0, 1) := by decide +kernel
theorem dX7_ofTwo_300 : decode prog_35_method_3_code 300 = .ok (.getfield 9, 3) := by decide +kernel
theorem dX7_ofTwo_303 : decode prog_35_method_3_code 303 = .ok (.new 85, 3) := by decide +kernel
theorem dX7_ofTwo_306 : decode prog_35_method_3_code 306 = .ok (.dup, 1) := by decide +kernel
theorem dX7_ofTwo_307 : decode prog_35_method_3_code 307 = .ok (.aload_n 0, 1) := by decide +kernel
theorem dX7_ofTwo_308 : decode prog_35_method_3_code 308 = .ok (.aload_n 0, 1) := by decide +kernel
theorem dX7_ofTwo_309 : decode prog_35_method_3_code 309 = .ok (.getfield 9, 3) := by decide +kernel
theorem dX7_ofTwo_312 : decode prog_35_method_3_code 312 = .ok (.iload_n 3, 1) := by decide +kernel
theorem dX7_ofTwo_313 : decode prog_35_method_3_code 313 = .ok (.iload_n 2, 1) := by decide +kernel
theorem dX7_ofTwo_314 : decode prog_35_method_3_code 314 = .ok (.invokevirtual 62, 3) := by decide +kernel
theorem dX7_ofTwo_317 : decode prog_35_method_3_code 317 = .ok (.getfield 66, 3) := by decide +kernel
theorem dX7_ofTwo_320 : decode prog_35_method_3_code 320 = .ok (.aload_n 0, 1) := by decide +kernel
theorem dX7_ofTwo_321 : decode prog_35_method_3_code 321 = .ok (.getfield 9, 3) := by decide +kernel
theorem dX7_ofTwo_324 : decode prog_35_method_3_code 324 = .ok (.iload_n 3, 1) := by decide +kernel
theorem dX7_ofTwo_325 : decode prog_35_method_3_code 325 = .ok (.iconst 1, 1) := by decide +kernel
theorem dX7_ofTwo_326 : decode prog_35_method_3_code 326 = .ok (.iadd, 1) := by decide +kernel
theorem dX7_ofTwo_327 : decode prog_35_method_3_code 327 = .ok (.iload_n 2, 1) := by decide +kernel
theorem dX7_ofTwo_328 : decode prog_35_method_3_code 328 = .ok (.invokevirtual 62, 3) := by decide +kernel
theorem dX7_ofTwo_331 : decode prog_35_method_3_code 331 = .ok (.getfield 66, 3) := by decide +kernel
theorem dX7_ofTwo_334 : decode prog_35_method_3_code 334 = .ok (.iload_n 2, 1) := by decide +kernel
theorem dX7_ofTwo_335 : decode prog_35_method_3_code 335 = .ok (.invokevirtual 135, 3) := by decide +kernel
theorem dX7_ofTwo_338 : decode prog_35_method_3_code 338 = .ok (.invokespecial 91, 3) := by decide +kernel
theorem dX7_ofTwo_341 : decode prog_35_method_3_code 341 = .ok (.iconst 2, 1) := by decide +kernel
theorem dX7_ofTwo_342 : decode prog_35_method_3_code 342 = .ok (.iload_n 2, 1) := by decide +kernel
theorem dX7_ofTwo_343 : decode prog_35_method_3_code 343 = .ok (.invokevirtual 47, 3) := by decide +kernel
theorem dX7_ofTwo_346 : decode prog_35_method_3_code 346 = .ok (.goto 46, 3) := by decide +kernel
theorem dX7_ofTwo_349 : decode prog_35_method_3_code 349 = .ok (.aload_n 0, 1) := by decide +kernel
theorem dX7_ofTwo_350 : decode prog_35_method_3_code 350 = .ok (.getfield 9, 3) := by decide +kernel
theorem dX7_ofTwo_353 : decode prog_35_method_3_code 353 = .ok (.aload_n 0, 1) := by decide +kernel
theorem dX7_ofTwo_354 : decode prog_35_method_3_code 354 = .ok (.getfield 9, 3) := by decide +kernel
theorem dX7_ofTwo_357 : decode prog_35_method_3_code 357 = .ok (.getfield 138, 3) := by decide +kernel
theorem dX7_ofTwo_360 : decode prog_35_method_3_code 360 = .ok (.iload_n 3, 1) := by decide +kernel
theorem dX7_ofTwo_361 : decode prog_35_method_3_code 361 = .ok (.iaload, 1) := by decide +kernel
theorem dX7_ofTwo_362 : decode prog_35_method_3_code 362 = .ok (.aload 4, 2) := by decide +kernel
theorem dX7_ofTwo_364 : decode prog_35_method_3_code 364 = .ok (.aload_n 0, 1) := by decide +kernel
theorem dX7_ofTwo_365 : decode prog_35_method_3_code 365 = .ok (.getfield 9, 3) := by decide +kernel
theorem dX7_ofTwo_368 : decode prog_35_method_3_code 368 = .ok (.getfield 138, 3) := by decide +kernel
theorem dX7_ofTwo_371 : decode prog_35_method_3_code 371 = .ok (.iload_n 3, 1) := by decide +kernel
theorem dX7_ofTwo_372 : decode prog_35_method_3_code 372 = .ok (.iconst 1, 1) := by decide +kernel
theorem dX7_ofTwo_373 : decode prog_35_method_3_code 373 = .ok (.iadd, 1) := by decide +kernel
theorem dX7_ofTwo_374 : decode prog_35_method_3_code 374 = .ok (.iaload, 1) := by decide +kernel
theorem dX7_ofTwo_375 : decode prog_35_method_3_code 375 = .ok (.aload 5, 2) := by decide +kernel
theorem dX7_ofTwo_377 : decode prog_35_method_3_code 377 = .ok (.invokestatic 141, 3) := by decide +kernel
theorem dX7_ofTwo_380 : decode prog_35_method_3_code 380 = .ok (.ifCond .eq 7, 3) := by decide +kernel
theorem dX7_ofTwo_383 : decode prog_35_method_3_code 383 = .ok (.iconst 1, 1) := by decide +kernel
theorem dX7_ofTwo_384 : decode prog_35_method_3_code 384 = .ok (.goto 4, 3) := by decide +kernel
theorem dX7_ofTwo_387 : decode prog_35_method_3_code 387 = .ok (.iconst 0, 1) := by decide +kernel
theorem dX7_ofTwo_388 : decode prog_35_method_3_code 388 = .ok (.iconst 2, 1) := by decide +kernel
theorem dX7_ofTwo_389 : decode prog_35_method_3_code 389 = .ok (.invokevirtual 35, 3) := by decide +kernel
theorem dX7_ofTwo_392 : decode prog_35_method_3_code 392 = .ok (.return_, 1) := by decide +kernel
theorem dX7_join_0 : decode prog_35_method_17_code 0 = .ok (.aload_n 2, 1) := by decide +kernel
theorem dX7_join_1 : decode prog_35_method_17_code 1 = .ok (.instanceof 170, 3) := by decide +kernel
theorem dX7_join_4 : decode prog_35_method_17_code 4 = .ok (.ifCond .ne 10, 3) := by decide +kernel
theorem dX7_join_7 : decode prog_35_method_17_code 7 = .ok (.aload_n 3, 1) := by decide +kernel
theorem dX7_join_8 : decode prog_35_method_17_code 8 = .ok (.instanceof 170, 3) := by decide +kernel
theorem dX7_join_11 : decode prog_35_method_17_code 11 = .ok (.ifCond .eq 13, 3) := by decide +kernel
theorem dX7_join_14 : decode prog_35_method_17_code 14 = .ok (.aload_n 0, 1) := by decide +kernel
theorem dX7_join_15 : decode prog_35_method_17_code 15 = .ok (.iload_n 1, 1) := by decide +kernel
theorem dX7_join_16 : decode prog_35_method_17_code 16 = .ok (.aload_n 2, 1) := by decide +kernel
theorem dX7_join_17 : decode prog_35_method_17_code 17 = .ok (.aload_n 3, 1) := by decide +kernel
theorem dX7_join_18 : decode prog_35_method_17_code 18 = .ok (.iload 4, 2) := by decide +kernel
theorem dX7_join_20 : decode prog_35_method_17_code 20 = .ok (.invokevirtual 211, 3) := by decide +kernel
theorem dX7_join_23 : decode prog_35_method_17_code 23 = .ok (.areturn, 1) := by decide +kernel
theorem dX7_join_24 : decode prog_35_method_17_code 24 = .ok (.aload_n 2, 1) := by decide +kernel
theorem dX7_join_25 : decode prog_35_method_17_code 25 = .ok (.instanceof 85, 3) := by decide +kernel
theorem dX7_join_28 : decode prog_35_method_17_code 28 = .ok (.ifCond .ne 10, 3) := by decide +kernel
theorem dX7_join_31 : decode prog_35_method_17_code 31 = .ok (.aload_n 3, 1) := by decide +kernel
theorem dX7_join_32 : decode prog_35_method_17_code 32 = .ok (.instanceof 85, 3) := by decide +kernel
theorem dX7_join_35 : decode prog_35_method_17_code 35 = .ok (.ifCond .eq 124, 3) := by decide +kernel
theorem dX7_join_38 : decode prog_35_method_17_code 38 = .ok (.aload_n 2, 1) := by decide +kernel
theorem dX7_join_39 : decode prog_35_method_17_code 39 = .ok (.ifnull 7, 3) := by decide +kernel
theorem dX7_join_42 : decode prog_35_method_17_code 42 = .ok (.aload_n 3, 1) := by decide +kernel
theorem dX7_join_43 : decode prog_35_method_17_code 43 = .ok (.ifnonnull 14, 3) := by decide +kernel
theorem dX7_join_46 : decode prog_35_method_17_code 46 = .ok (.aload_n 0, 1) := by decide +kernel
theorem dX7_join_47 : decode prog_35_method_17_code 47 = .ok (.getfield 9, 3) := by decide +kernel
theorem dX7_join_50 : decode prog_35_method_17_code 50 = .ok (.iconst 3, 1) := by decide +kernel
theorem dX7_join_51 : decode prog_35_method_17_code 51 = .ok (.iload 4, 2) := by decide +kernel
theorem dX7_join_53 : decode prog_35_method_17_code 53 = .ok (.invokevirtual 25, 3) := by decide +kernel
theorem dX7_join_56 : decode prog_35_method_17_code 56 = .ok (.athrow, 1) := by decide +kernel
theorem dX7_join_57 : decode prog_35_method_17_code 57 = .ok (.aload_n 2, 1) := by decide +kernel
theorem dX7_join_58 : decode prog_35_method_17_code 58 = .ok (.instanceof 85, 3) := by decide +kernel
theorem dX7_join_61 : decode prog_35_method_17_code 61 = .ok (.ifCond .eq 10, 3) := by decide +kernel
theorem dX7_join_64 : decode prog_35_method_17_code 64 = .ok (.aload_n 2, 1) := by decide +kernel
theorem dX7_join_65 : decode prog_35_method_17_code 65 = .ok (.invokevirtual 29, 3) := by decide +kernel
theorem dX7_join_68 : decode prog_35_method_17_code 68 = .ok (.goto 4, 3) := by decide +kernel
theorem dX7_join_71 : decode prog_35_method_17_code 71 = .ok (.iconst 1, 1) := by decide +kernel
theorem dX7_join_72 : decode prog_35_method_17_code 72 = .ok (.istore 5, 2) := by decide +kernel
theorem dX7_join_74 : decode prog_35_method_17_code 74 = .ok (.iload 5, 2) := by decide +kernel
theorem dX7_join_76 : decode prog_35_method_17_code 76 = .ok (.aload_n 3, 1) := by decide +kernel
theorem dX7_join_77 : decode prog_35_method_17_code 77 = .ok (.instanceof 85, 3) := by decide +kernel
theorem dX7_join_80 : decode prog_35_method_17_code 80 = .ok (.ifCond .eq 10, 3) := by decide +kernel
theorem dX7_join_83 : decode prog_35_method_17_code 83 = .ok (.aload_n 3, 1) := by decide +kernel
theorem dX7_join_84 : decode prog_35_method_17_code 84 = .ok (.invokevirtual 29, 3) := by decide +kernel
theorem dX7_join_87 : decode prog_35_method_17_code 87 = .ok (.goto 4, 3) := by decide +kernel
theorem dX7_join_90 : decode prog_35_method_17_code 90 = .ok (.iconst 1, 1) := by decide +kernel
theorem dX7_join_91 : decode prog_35_method_17_code 91 = .ok (.iadd, 1) := by decide +kernel
theorem dX7_join_92 : decode prog_35_method_17_code 92 = .ok (.anewarray 160, 3) := by decide +kernel
theorem dX7_join_95 : decode prog_35_method_17_code 95 = .ok (.astore 6, 2) := by decide +kernel
theorem dX7_join_97 : decode prog_35_method_17_code 97 = .ok (.iconst 0, 1) := by decide +kernel
theorem dX7_join_98 : decode prog_35_method_17_code 98 = .ok (.istore 7, 2) := by decide +kernel
theorem dX7_join_100 : decode prog_35_method_17_code 100 = .ok (.iload 7, 2) := by decide +kernel
theorem dX7_join_102 : decode prog_35_method_17_code 102 = .ok (.aload 6, 2) := by decide +kernel
theorem dX7_join_104 : decode prog_35_method_17_code 104 = .ok (.arraylength, 1) := by decide +kernel
theorem dX7_join_105 : decode prog_35_method_17_code 105 = .ok (.if_icmp .ge 39, 3) := by decide +kernel
theorem dX7_join_108 : decode prog_35_method_17_code 108 = .ok (.aload 6, 2) := by decide +kernel
theorem dX7_join_110 : decode prog_35_method_17_code 110 = .ok (.iload 7, 2) := by decide +kernel
theorem dX7_join_112 : decode prog_35_method_17_code 112 = .ok (.iload 7, 2) := by decide +kernel
theorem dX7_join_114 : decode prog_35_method_17_code 114 = .ok (.iload 5, 2) := by decide +kernel
theorem dX7_join_116 : decode prog_35_method_17_code 116 = .ok (.if_icmp .ge 12, 3) := by decide +kernel
theorem dX7_join_119 : decode prog_35_method_17_code 119 = .ok (.aload_n 2, 1) := by decide +kernel
theorem dX7_join_120 : decode prog_35_method_17_code 120 = .ok (.iload 7, 2) := by decide +kernel
theorem dX7_join_122 : decode prog_35_method_17_code 122 = .ok (.invokestatic 214, 3) := by decide +kernel
theorem dX7_join_125 : decode prog_35_method_17_code 125 = .ok (.goto 12, 3) := by decide +kernel
theorem dX7_join_128 : decode prog_35_method_17_code 128 = .ok (.aload_n 3, 1) := by decide +kernel
theorem dX7_join_129 : decode prog_35_method_17_code 129 = .ok (.iload 7, 2) := by decide +kernel
theorem dX7_join_131 : decode prog_35_method_17_code 131 = .ok (.iload 5, 2) := by decide +kernel
theorem dX7_join_133 : decode prog_35_method_17_code 133 = .ok (.isub, 1) := by decide +kernel
theorem dX7_join_134 : decode prog_35_method_17_code 134 = .ok (.invokestatic 214, 3) := by decide +kernel
theorem dX7_join_137 : decode prog_35_method_17_code 137 = .ok (.aastore, 1) := by decide +kernel
theorem dX7_join_138 : decode prog_35_method_17_code 138 = .ok (.iinc 7 1, 3) := by decide +kernel
theorem dX7_join_141 : decode prog_35_method_17_code 141 = .ok (.goto (-41), 3) := by decide +kernel
theorem dX7_join_144 : decode prog_35_method_17_code 144 = .ok (.aload_n 0, 1) := by decide +kernel
theorem dX7_join_145 : decode prog_35_method_17_code 145 = .ok (.getfield 9, 3) := by decide +kernel
theorem dX7_join_148 : decode prog_35_method_17_code 148 = .ok (.getfield 177, 3) := by decide +kernel
theorem dX7_join_151 : decode prog_35_method_17_code 151 = .ok (.aload 6, 2) := by decide +kernel
theorem dX7_join_153 : decode prog_35_method_17_code 153 = .ok (.iload 4, 2) := by decide +kernel
theorem dX7_join_155 : decode prog_35_method_17_code 155 = .ok (.invokevirtual 219, 3) := by decide +kernel
theorem dX7_join_158 : decode prog_35_method_17_code 158 = .ok (.areturn, 1) := by decide +kernel
theorem dX7_join_159 : decode prog_35_method_17_code 159 = .ok (.aload_n 2, 1) := by decide +kernel
theorem dX7_join_160 : decode prog_35_method_17_code 160 = .ok (.invokestatic 197, 3) := by decide +kernel
theorem dX7_join_163 : decode prog_35_method_17_code 163 = .ok (.istore 5, 2) := by decide +kernel
theorem dX7_join_165 : decode prog_35_method_17_code 165 = .ok (.aload_n 0, 1) := by decide +kernel
theorem dX7_join_166 : decode prog_35_method_17_code 166 = .ok (.getfield 9, 3) := by decide +kernel
theorem dX7_join_169 : decode prog_35_method_17_code 169 = .ok (.getfield 177, 3) := by decide +kernel
theorem dX7_join_172 : decode prog_35_method_17_code 172 = .ok (.iload 5, 2) := by decide +kernel
theorem dX7_join_174 : decode prog_35_method_17_code 174 = .ok (.aload_n 3, 1) := by decide +kernel
theorem dX7_join_175 : decode prog_35_method_17_code 175 = .ok (.invokestatic 197, 3) := by decide +kernel
theorem dX7_join_178 : decode prog_35_method_17_code 178 = .ok (.iadd, 1) := by decide +kernel
theorem dX7_join_179 : decode prog_35_method_17_code 179 = .ok (.iload 4, 2) := by decide +kernel
theorem dX7_join_181 : decode prog_35_method_17_code 181 = .ok (.invokevirtual 184, 3) := by decide +kernel
theorem dX7_join_184 : decode prog_35_method_17_code 184 = .ok (.astore 6, 2) := by decide +kernel
theorem dX7_join_186 : decode prog_35_method_17_code 186 = .ok (.aload_n 2, 1) := by decide +kernel
theorem dX7_join_187 : decode prog_35_method_17_code 187 = .ok (.aload_n 0, 1) := by decide +kernel
theorem dX7_join_188 : decode prog_35_method_17_code 188 = .ok (.getfield 9, 3) := by decide +kernel
theorem dX7_join_191 : decode prog_35_method_17_code 191 = .ok (.getfield 138, 3) := by decide +kernel
theorem dX7_join_194 : decode prog_35_method_17_code 194 = .ok (.iload_n 1, 1) := by decide +kernel
theorem dX7_join_195 : decode prog_35_method_17_code 195 = .ok (.iaload, 1) := by decide +kernel
theorem dX7_join_196 : decode prog_35_method_17_code 196 = .ok (.aload 6, 2) := by decide +kernel
theorem dX7_join_198 : decode prog_35_method_17_code 198 = .ok (.iconst 0, 1) := by decide +kernel
theorem dX7_join_199 : decode prog_35_method_17_code 199 = .ok (.invokestatic 204, 3) := by decide +kernel
theorem dX7_join_202 : decode prog_35_method_17_code 202 = .ok (.aload_n 3, 1) := by decide +kernel
theorem dX7_join_203 : decode prog_35_method_17_code 203 = .ok (.aload_n 0, 1) := by decide +kernel
theorem dX7_join_204 : decode prog_35_method_17_code 204 = .ok (.getfield 9, 3) := by decide +kernel
theorem dX7_join_207 : decode prog_35_method_17_code 207 = .ok (.getfield 138, 3) := by decide +kernel
theorem dX7_join_210 : decode prog_35_method_17_code 210 = .ok (.iload_n 1, 1) := by decide +kernel
theorem dX7_join_211 : decode prog_35_method_17_code 211 = .ok (.iconst 1, 1) := by decide +kernel
theorem dX7_join_212 : decode prog_35_method_17_code 212 = .ok (.iadd, 1) := by decide +kernel
theorem dX7_join_213 : decode prog_35_method_17_code 213 = .ok (.iaload, 1) := by decide +kernel
theorem dX7_join_214 : decode prog_35_method_17_code 214 = .ok (.aload 6, 2) := by decide +kernel
theorem dX7_join_216 : decode prog_35_method_17_code 216 = .ok (.iload 5, 2) := by decide +kernel
theorem dX7_join_218 : decode prog_35_method_17_code 218 = .ok (.invokestatic 204, 3) := by decide +kernel
theorem dX7_join_221 : decode prog_35_method_17_code 221 = .ok (.new 60, 3) := by decide +kernel
theorem dX7_join_224 : decode prog_35_method_17_code 224 = .ok (.dup, 1) := by decide +kernel
theorem dX7_join_225 : decode prog_35_method_17_code 225 = .ok (.aload 6, 2) := by decide +kernel
theorem dX7_join_227 : decode prog_35_method_17_code 227 = .ok (.invokespecial 74, 3) := by decide +kernel
theorem dX7_join_230 : decode prog_35_method_17_code 230 = .ok (.areturn, 1) := by decide +kernel
theorem dX7_joinPacks_0 : decode prog_35_method_18_code 0 = .ok (.aload_n 2, 1) := by decide +kernel
theorem dX7_joinPacks_1 : decode prog_35_method_18_code 1 = .ok (.instanceof 170, 3) := by decide +kernel
theorem dX7_joinPacks_4 : decode prog_35_method_18_code 4 = .ok (.ifCond .eq 10, 3) := by decide +kernel
theorem dX7_joinPacks_7 : decode prog_35_method_18_code 7 = .ok (.aload_n 2, 1) := by decide +kernel
theorem dX7_joinPacks_8 : decode prog_35_method_18_code 8 = .ok (.invokevirtual 29, 3) := by decide +kernel
theorem dX7_joinPacks_11 : decode prog_35_method_18_code 11 = .ok (.goto 4, 3) := by decide +kernel
theorem dX7_joinPacks_14 : decode prog_35_method_18_code 14 = .ok (.iconst 1, 1) := by decide +kernel
theorem dX7_joinPacks_15 : decode prog_35_method_18_code 15 = .ok (.istore 5, 2) := by decide +kernel
theorem dX7_joinPacks_17 : decode prog_35_method_18_code 17 = .ok (.iload 5, 2) := by decide +kernel
theorem dX7_joinPacks_19 : decode prog_35_method_18_code 19 = .ok (.aload_n 3, 1) := by decide +kernel
theorem dX7_joinPacks_20 : decode prog_35_method_18_code 20 = .ok (.instanceof 170, 3) := by decide +kernel
theorem dX7_joinPacks_23 : decode prog_35_method_18_code 23 = .ok (.ifCond .eq 10, 3) := by decide +kernel
theorem dX7_joinPacks_26 : decode prog_35_method_18_code 26 = .ok (.aload_n 3, 1) := by decide +kernel
theorem dX7_joinPacks_27 : decode prog_35_method_18_code 27 = .ok (.invokevirtual 29, 3) := by decide +kernel
theorem dX7_joinPacks_30 : decode prog_35_method_18_code 30 = .ok (.goto 4, 3) := by decide +kernel
theorem dX7_joinPacks_33 : decode prog_35_method_18_code 33 = .ok (.iconst 1, 1) := by decide +kernel
theorem dX7_joinPacks_34 : decode prog_35_method_18_code 34 = .ok (.iadd, 1) := by decide +kernel
theorem dX7_joinPacks_35 : decode prog_35_method_18_code 35 = .ok (.anewarray 30, 3) := by decide +kernel
theorem dX7_joinPacks_38 : decode prog_35_method_18_code 38 = .ok (.astore 6, 2) := by decide +kernel
theorem dX7_joinPacks_40 : decode prog_35_method_18_code 40 = .ok (.iconst 0, 1) := by decide +kernel
theorem dX7_joinPacks_41 : decode prog_35_method_18_code 41 = .ok (.istore 7, 2) := by decide +kernel
theorem dX7_joinPacks_43 : decode prog_35_method_18_code 43 = .ok (.iload 7, 2) := by decide +kernel
theorem dX7_joinPacks_45 : decode prog_35_method_18_code 45 = .ok (.aload 6, 2) := by decide +kernel
theorem dX7_joinPacks_47 : decode prog_35_method_18_code 47 = .ok (.arraylength, 1) := by decide +kernel
theorem dX7_joinPacks_48 : decode prog_35_method_18_code 48 = .ok (.if_icmp .ge 98, 3) := by decide +kernel
theorem dX7_joinPacks_51 : decode prog_35_method_18_code 51 = .ok (.iload 7, 2) := by decide +kernel
theorem dX7_joinPacks_53 : decode prog_35_method_18_code 53 = .ok (.iload 5, 2) := by decide +kernel
theorem dX7_joinPacks_55 : decode prog_35_method_18_code 55 = .ok (.if_icmp .ge 43, 3) := by decide +kernel
theorem dX7_joinPacks_58 : decode prog_35_method_18_code 58 = .ok (.aload 6, 2) := by decide +kernel
theorem dX7_joinPacks_60 : decode prog_35_method_18_code 60 = .ok (.iload 7, 2) := by decide +kernel
theorem dX7_joinPacks_62 : decode prog_35_method_18_code 62 = .ok (.aload_n 2, 1) := by decide +kernel
theorem dX7_joinPacks_63 : decode prog_35_method_18_code 63 = .ok (.instanceof 170, 3) := by decide +kernel
theorem dX7_joinPacks_66 : decode prog_35_method_18_code 66 = .ok (.ifCond .eq 20, 3) := by decide +kernel
theorem dX7_joinPacks_69 : decode prog_35_method_18_code 69 = .ok (.aload_n 2, 1) := by decide +kernel
theorem dX7_joinPacks_70 : decode prog_35_method_18_code 70 = .ok (.checkcast 170, 3) := by decide +kernel
theorem dX7_joinPacks_73 : decode prog_35_method_18_code 73 = .ok (.astore 8, 2) := by decide +kernel
theorem dX7_joinPacks_75 : decode prog_35_method_18_code 75 = .ok (.aload 8, 2) := by decide +kernel
theorem dX7_joinPacks_77 : decode prog_35_method_18_code 77 = .ok (.getfield 172, 3) := by decide +kernel
theorem dX7_joinPacks_80 : decode prog_35_method_18_code 80 = .ok (.iload 7, 2) := by decide +kernel
theorem dX7_joinPacks_82 : decode prog_35_method_18_code 82 = .ok (.aaload, 1) := by decide +kernel
theorem dX7_joinPacks_83 : decode prog_35_method_18_code 83 = .ok (.goto 11, 3) := by decide +kernel
theorem dX7_joinPacks_86 : decode prog_35_method_18_code 86 = .ok (.aload_n 0, 1) := by decide +kernel
theorem dX7_joinPacks_87 : decode prog_35_method_18_code 87 = .ok (.getfield 9, 3) := by decide +kernel
theorem dX7_joinPacks_90 : decode prog_35_method_18_code 90 = .ok (.iload_n 1, 1) := by decide +kernel
theorem dX7_joinPacks_91 : decode prog_35_method_18_code 91 = .ok (.invokevirtual 223, 3) := by decide +kernel
theorem dX7_joinPacks_94 : decode prog_35_method_18_code 94 = .ok (.aastore, 1) := by decide +kernel
theorem dX7_joinPacks_95 : decode prog_35_method_18_code 95 = .ok (.goto 45, 3) := by decide +kernel
theorem dX7_joinPacks_98 : decode prog_35_method_18_code 98 = .ok (.aload 6, 2) := by decide +kernel
theorem dX7_joinPacks_100 : decode prog_35_method_18_code 100 = .ok (.iload 7, 2) := by decide +kernel
theorem dX7_joinPacks_102 : decode prog_35_method_18_code 102 = .ok (.aload_n 3, 1) := by decide +kernel
theorem dX7_joinPacks_103 : decode prog_35_method_18_code 103 = .ok (.instanceof 170, 3) := by decide +kernel
theorem dX7_joinPacks_106 : decode prog_35_method_18_code 106 = .ok (.ifCond .eq 23, 3) := by decide +kernel
theorem dX7_joinPacks_109 : decode prog_35_method_18_code 109 = .ok (.aload_n 3, 1) := by decide +kernel
theorem dX7_joinPacks_110 : decode prog_35_method_18_code 110 = .ok (.checkcast 170, 3) := by decide +kernel
theorem dX7_joinPacks_113 : decode prog_35_method_18_code 113 = .ok (.astore 9, 2) := by decide +kernel
theorem dX7_joinPacks_115 : decode prog_35_method_18_code 115 = .ok (.aload 9, 2) := by decide +kernel
theorem dX7_joinPacks_117 : decode prog_35_method_18_code 117 = .ok (.getfield 172, 3) := by decide +kernel
theorem dX7_joinPacks_120 : decode prog_35_method_18_code 120 = .ok (.iload 7, 2) := by decide +kernel
theorem dX7_joinPacks_122 : decode prog_35_method_18_code 122 = .ok (.iload 5, 2) := by decide +kernel
theorem dX7_joinPacks_124 : decode prog_35_method_18_code 124 = .ok (.isub, 1) := by decide +kernel
theorem dX7_joinPacks_125 : decode prog_35_method_18_code 125 = .ok (.aaload, 1) := by decide +kernel
theorem dX7_joinPacks_126 : decode prog_35_method_18_code 126 = .ok (.goto 13, 3) := by decide +kernel
theorem dX7_joinPacks_129 : decode prog_35_method_18_code 129 = .ok (.aload_n 0, 1) := by decide +kernel
theorem dX7_joinPacks_130 : decode prog_35_method_18_code 130 = .ok (.getfield 9, 3) := by decide +kernel
theorem dX7_joinPacks_133 : decode prog_35_method_18_code 133 = .ok (.iload_n 1, 1) := by decide +kernel
theorem dX7_joinPacks_134 : decode prog_35_method_18_code 134 = .ok (.iconst 1, 1) := by decide +kernel
theorem dX7_joinPacks_135 : decode prog_35_method_18_code 135 = .ok (.iadd, 1) := by decide +kernel
theorem dX7_joinPacks_136 : decode prog_35_method_18_code 136 = .ok (.invokevirtual 223, 3) := by decide +kernel
theorem dX7_joinPacks_139 : decode prog_35_method_18_code 139 = .ok (.aastore, 1) := by decide +kernel
theorem dX7_joinPacks_140 : decode prog_35_method_18_code 140 = .ok (.iinc 7 1, 3) := by decide +kernel
theorem dX7_joinPacks_143 : decode prog_35_method_18_code 143 = .ok (.goto (-100), 3) := by decide +kernel
theorem dX7_joinPacks_146 : decode prog_35_method_18_code 146 = .ok (.aload_n 0, 1) := by decide +kernel
theorem dX7_joinPacks_147 : decode prog_35_method_18_code 147 = .ok (.getfield 9, 3) := by decide +kernel
theorem dX7_joinPacks_150 : decode prog_35_method_18_code 150 = .ok (.getfield 177, 3) := by decide +kernel
theorem dX7_joinPacks_153 : decode prog_35_method_18_code 153 = .ok (.aload 6, 2) := by decide +kernel
theorem dX7_joinPacks_155 : decode prog_35_method_18_code 155 = .ok (.iload 4, 2) := by decide +kernel
theorem dX7_joinPacks_157 : decode prog_35_method_18_code 157 = .ok (.invokevirtual 227, 3) := by decide +kernel
theorem dX7_joinPacks_160 : decode prog_35_method_18_code 160 = .ok (.areturn, 1) := by decide +kernel
theorem dX7_take_0 : decode prog_35_method_20_code 0 = .ok (.aload_n 2, 1) := by decide +kernel
theorem dX7_take_1 : decode prog_35_method_20_code 1 = .ok (.ifnonnull 13, 3) := by decide +kernel
theorem dX7_take_4 : decode prog_35_method_20_code 4 = .ok (.aload_n 0, 1) := by decide +kernel
theorem dX7_take_5 : decode prog_35_method_20_code 5 = .ok (.getfield 9, 3) := by decide +kernel
theorem dX7_take_8 : decode prog_35_method_20_code 8 = .ok (.iconst 3, 1) := by decide +kernel
theorem dX7_take_9 : decode prog_35_method_20_code 9 = .ok (.iload_n 3, 1) := by decide +kernel
theorem dX7_take_10 : decode prog_35_method_20_code 10 = .ok (.invokevirtual 25, 3) := by decide +kernel
theorem dX7_take_13 : decode prog_35_method_20_code 13 = .ok (.athrow, 1) := by decide +kernel
theorem dX7_take_14 : decode prog_35_method_20_code 14 = .ok (.iload_n 1, 1) := by decide +kernel
theorem dX7_take_15 : decode prog_35_method_20_code 15 = .ok (.ifCond .ge 9, 3) := by decide +kernel
theorem dX7_take_18 : decode prog_35_method_20_code 18 = .ok (.iload_n 1, 1) := by decide +kernel
theorem dX7_take_19 : decode prog_35_method_20_code 19 = .ok (.i2l, 1) := by decide +kernel
theorem dX7_take_20 : decode prog_35_method_20_code 20 = .ok (.lneg, 1) := by decide +kernel
theorem dX7_take_21 : decode prog_35_method_20_code 21 = .ok (.goto 5, 3) := by decide +kernel
theorem dX7_take_24 : decode prog_35_method_20_code 24 = .ok (.iload_n 1, 1) := by decide +kernel
theorem dX7_take_25 : decode prog_35_method_20_code 25 = .ok (.i2l, 1) := by decide +kernel
theorem dX7_take_26 : decode prog_35_method_20_code 26 = .ok (.lstore 4, 2) := by decide +kernel
theorem dX7_take_28 : decode prog_35_method_20_code 28 = .ok (.lload 4, 2) := by decide +kernel
theorem dX7_take_30 : decode prog_35_method_20_code 30 = .ok (.aload_n 2, 1) := by decide +kernel
theorem dX7_take_31 : decode prog_35_method_20_code 31 = .ok (.instanceof 60, 3) := by decide +kernel
theorem dX7_take_34 : decode prog_35_method_20_code 34 = .ok (.ifCond .eq 8, 3) := by decide +kernel
theorem dX7_take_37 : decode prog_35_method_20_code 37 = .ok (.bipush 64, 2) := by decide +kernel
theorem dX7_take_39 : decode prog_35_method_20_code 39 = .ok (.goto 5, 3) := by decide +kernel
theorem dX7_take_42 : decode prog_35_method_20_code 42 = .ok (.bipush 20, 2) := by decide +kernel
theorem dX7_take_44 : decode prog_35_method_20_code 44 = .ok (.i2l, 1) := by decide +kernel
theorem dX7_take_45 : decode prog_35_method_20_code 45 = .ok (.lcmp, 1) := by decide +kernel
theorem dX7_take_46 : decode prog_35_method_20_code 46 = .ok (.ifCond .le 13, 3) := by decide +kernel
theorem dX7_take_49 : decode prog_35_method_20_code 49 = .ok (.aload_n 0, 1) := by decide +kernel
theorem dX7_take_50 : decode prog_35_method_20_code 50 = .ok (.getfield 9, 3) := by decide +kernel
theorem dX7_take_53 : decode prog_35_method_20_code 53 = .ok (.iconst 2, 1) := by decide +kernel
theorem dX7_take_54 : decode prog_35_method_20_code 54 = .ok (.iload_n 3, 1) := by decide +kernel
theorem dX7_take_55 : decode prog_35_method_20_code 55 = .ok (.invokevirtual 25, 3) := by decide +kernel
theorem dX7_take_58 : decode prog_35_method_20_code 58 = .ok (.athrow, 1) := by decide +kernel
theorem dX7_take_59 : decode prog_35_method_20_code 59 = .ok (.aload_n 0, 1) := by decide +kernel
theorem dX7_take_60 : decode prog_35_method_20_code 60 = .ok (.aload_n 2, 1) := by decide +kernel
theorem dX7_take_61 : decode prog_35_method_20_code 61 = .ok (.iload_n 1, 1) := by decide +kernel
theorem dX7_take_62 : decode prog_35_method_20_code 62 = .ok (.ifCond .ge 12, 3) := by decide +kernel
theorem dX7_take_65 : decode prog_35_method_20_code 65 = .ok (.aload_n 2, 1) := by decide +kernel
theorem dX7_take_66 : decode prog_35_method_20_code 66 = .ok (.invokevirtual 29, 3) := by decide +kernel
theorem dX7_take_69 : decode prog_35_method_20_code 69 = .ok (.iload_n 1, 1) := by decide +kernel
theorem dX7_take_70 : decode prog_35_method_20_code 70 = .ok (.iadd, 1) := by decide +kernel
theorem dX7_take_71 : decode prog_35_method_20_code 71 = .ok (.goto 4, 3) := by decide +kernel
theorem dX7_take_74 : decode prog_35_method_20_code 74 = .ok (.iconst 0, 1) := by decide +kernel
theorem dX7_take_75 : decode prog_35_method_20_code 75 = .ok (.lload 4, 2) := by decide +kernel
theorem dX7_take_77 : decode prog_35_method_20_code 77 = .ok (.l2i, 1) := by decide +kernel
theorem dX7_take_78 : decode prog_35_method_20_code 78 = .ok (.iload_n 3, 1) := by decide +kernel
theorem dX7_take_79 : decode prog_35_method_20_code 79 = .ok (.invokevirtual 235, 3) := by decide +kernel
theorem dX7_take_82 : decode prog_35_method_20_code 82 = .ok (.areturn, 1) := by decide +kernel
theorem dX7_drop_0 : decode prog_35_method_21_code 0 = .ok (.aload_n 2, 1) := by decide +kernel
theorem dX7_drop_1 : decode prog_35_method_21_code 1 = .ok (.ifnonnull 13, 3) := by decide +kernel
theorem dX7_drop_4 : decode prog_35_method_21_code 4 = .ok (.aload_n 0, 1) := by decide +kernel
theorem dX7_drop_5 : decode prog_35_method_21_code 5 = .ok (.getfield 9, 3) := by decide +kernel
theorem dX7_drop_8 : decode prog_35_method_21_code 8 = .ok (.iconst 3, 1) := by decide +kernel
theorem dX7_drop_9 : decode prog_35_method_21_code 9 = .ok (.iload_n 3, 1) := by decide +kernel
theorem dX7_drop_10 : decode prog_35_method_21_code 10 = .ok (.invokevirtual 25, 3) := by decide +kernel
theorem dX7_drop_13 : decode prog_35_method_21_code 13 = .ok (.athrow, 1) := by decide +kernel
theorem dX7_drop_14 : decode prog_35_method_21_code 14 = .ok (.aload_n 2, 1) := by decide +kernel
theorem dX7_drop_15 : decode prog_35_method_21_code 15 = .ok (.invokevirtual 29, 3) := by decide +kernel
theorem dX7_drop_18 : decode prog_35_method_21_code 18 = .ok (.i2l, 1) := by decide +kernel
theorem dX7_drop_19 : decode prog_35_method_21_code 19 = .ok (.iload_n 1, 1) := by decide +kernel
theorem dX7_drop_20 : decode prog_35_method_21_code 20 = .ok (.ifCond .ge 9, 3) := by decide +kernel
theorem dX7_drop_23 : decode prog_35_method_21_code 23 = .ok (.iload_n 1, 1) := by decide +kernel
theorem dX7_drop_24 : decode prog_35_method_21_code 24 = .ok (.i2l, 1) := by decide +kernel
theorem dX7_drop_25 : decode prog_35_method_21_code 25 = .ok (.lneg, 1) := by decide +kernel
theorem dX7_drop_26 : decode prog_35_method_21_code 26 = .ok (.goto 5, 3) := by decide +kernel
theorem dX7_drop_29 : decode prog_35_method_21_code 29 = .ok (.iload_n 1, 1) := by decide +kernel
theorem dX7_drop_30 : decode prog_35_method_21_code 30 = .ok (.i2l, 1) := by decide +kernel
theorem dX7_drop_31 : decode prog_35_method_21_code 31 = .ok (.lsub, 1) := by decide +kernel
theorem dX7_drop_32 : decode prog_35_method_21_code 32 = .ok (.lstore 4, 2) := by decide +kernel
theorem dX7_drop_34 : decode prog_35_method_21_code 34 = .ok (.aload_n 0, 1) := by decide +kernel
theorem dX7_drop_35 : decode prog_35_method_21_code 35 = .ok (.aload_n 2, 1) := by decide +kernel
theorem dX7_drop_36 : decode prog_35_method_21_code 36 = .ok (.lload 4, 2) := by decide +kernel
theorem dX7_drop_38 : decode prog_35_method_21_code 38 = .ok (.lconst 0, 1) := by decide +kernel
theorem dX7_drop_39 : decode prog_35_method_21_code 39 = .ok (.lcmp, 1) := by decide +kernel
theorem dX7_drop_40 : decode prog_35_method_21_code 40 = .ok (.ifCond .le 7, 3) := by decide +kernel
theorem dX7_drop_43 : decode prog_35_method_21_code 43 = .ok (.iload_n 1, 1) := by decide +kernel
theorem dX7_drop_44 : decode prog_35_method_21_code 44 = .ok (.ifCond .ge 7, 3) := by decide +kernel
theorem dX7_drop_47 : decode prog_35_method_21_code 47 = .ok (.iconst 0, 1) := by decide +kernel
theorem dX7_drop_48 : decode prog_35_method_21_code 48 = .ok (.goto 4, 3) := by decide +kernel
theorem dX7_drop_51 : decode prog_35_method_21_code 51 = .ok (.iload_n 1, 1) := by decide +kernel
theorem dX7_drop_52 : decode prog_35_method_21_code 52 = .ok (.lconst 0, 1) := by decide +kernel
theorem dX7_drop_53 : decode prog_35_method_21_code 53 = .ok (.lload 4, 2) := by decide +kernel
theorem dX7_drop_55 : decode prog_35_method_21_code 55 = .ok (.invokestatic 239, 3) := by decide +kernel
theorem dX7_drop_58 : decode prog_35_method_21_code 58 = .ok (.l2i, 1) := by decide +kernel
theorem dX7_drop_59 : decode prog_35_method_21_code 59 = .ok (.iload_n 3, 1) := by decide +kernel
theorem dX7_drop_60 : decode prog_35_method_21_code 60 = .ok (.invokevirtual 235, 3) := by decide +kernel
theorem dX7_drop_63 : decode prog_35_method_21_code 63 = .ok (.areturn, 1) := by decide +kernel
theorem dX7_pick_0 : decode prog_35_method_23_code 0 = .ok (.aload_n 0, 1) := by decide +kernel
theorem dX7_pick_1 : decode prog_35_method_23_code 1 = .ok (.getfield 9, 3) := by decide +kernel
theorem dX7_pick_4 : decode prog_35_method_23_code 4 = .ok (.iload_n 2, 1) := by decide +kernel
theorem dX7_pick_5 : decode prog_35_method_23_code 5 = .ok (.iload_n 3, 1) := by decide +kernel
theorem dX7_pick_6 : decode prog_35_method_23_code 6 = .ok (.invokevirtual 62, 3) := by decide +kernel
theorem dX7_pick_9 : decode prog_35_method_23_code 9 = .ok (.getfield 66, 3) := by decide +kernel
theorem dX7_pick_12 : decode prog_35_method_23_code 12 = .ok (.astore 4, 2) := by decide +kernel
theorem dX7_pick_14 : decode prog_35_method_23_code 14 = .ok (.aload_n 1, 1) := by decide +kernel
theorem dX7_pick_15 : decode prog_35_method_23_code 15 = .ok (.ifnonnull 13, 3) := by decide +kernel
theorem dX7_pick_18 : decode prog_35_method_23_code 18 = .ok (.aload_n 0, 1) := by decide +kernel
theorem dX7_pick_19 : decode prog_35_method_23_code 19 = .ok (.getfield 9, 3) := by decide +kernel
theorem dX7_pick_22 : decode prog_35_method_23_code 22 = .ok (.iconst 3, 1) := by decide +kernel
theorem dX7_pick_23 : decode prog_35_method_23_code 23 = .ok (.iload_n 3, 1) := by decide +kernel
theorem dX7_pick_24 : decode prog_35_method_23_code 24 = .ok (.invokevirtual 25, 3) := by decide +kernel
theorem dX7_pick_27 : decode prog_35_method_23_code 27 = .ok (.athrow, 1) := by decide +kernel
theorem dX7_pick_28 : decode prog_35_method_23_code 28 = .ok (.aload 4, 2) := by decide +kernel
theorem dX7_pick_30 : decode prog_35_method_23_code 30 = .ok (.arraylength, 1) := by decide +kernel
theorem dX7_pick_31 : decode prog_35_method_23_code 31 = .ok (.aload_n 1, 1) := by decide +kernel
theorem dX7_pick_32 : decode prog_35_method_23_code 32 = .ok (.invokevirtual 29, 3) := by decide +kernel
theorem dX7_pick_35 : decode prog_35_method_23_code 35 = .ok (.if_icmp .eq 13, 3) := by decide +kernel
theorem dX7_pick_38 : decode prog_35_method_23_code 38 = .ok (.aload_n 0, 1) := by decide +kernel
theorem dX7_pick_39 : decode prog_35_method_23_code 39 = .ok (.getfield 9, 3) := by decide +kernel
theorem dX7_pick_42 : decode prog_35_method_23_code 42 = .ok (.iconst 4, 1) := by decide +kernel
theorem dX7_pick_43 : decode prog_35_method_23_code 43 = .ok (.iload_n 3, 1) := by decide +kernel
theorem dX7_pick_44 : decode prog_35_method_23_code 44 = .ok (.invokevirtual 25, 3) := by decide +kernel
theorem dX7_pick_47 : decode prog_35_method_23_code 47 = .ok (.athrow, 1) := by decide +kernel
theorem dX7_pick_48 : decode prog_35_method_23_code 48 = .ok (.iconst 0, 1) := by decide +kernel
theorem dX7_pick_49 : decode prog_35_method_23_code 49 = .ok (.istore 5, 2) := by decide +kernel
theorem dX7_pick_51 : decode prog_35_method_23_code 51 = .ok (.iconst 0, 1) := by decide +kernel
theorem dX7_pick_52 : decode prog_35_method_23_code 52 = .ok (.istore 6, 2) := by decide +kernel
theorem dX7_pick_54 : decode prog_35_method_23_code 54 = .ok (.iload 6, 2) := by decide +kernel
theorem dX7_pick_56 : decode prog_35_method_23_code 56 = .ok (.aload 4, 2) := by decide +kernel
theorem dX7_pick_58 : decode prog_35_method_23_code 58 = .ok (.arraylength, 1) := by decide +kernel
theorem dX7_pick_59 : decode prog_35_method_23_code 59 = .ok (.if_icmp .ge 27, 3) := by decide +kernel
theorem dX7_pick_62 : decode prog_35_method_23_code 62 = .ok (.iload 5, 2) := by decide +kernel
theorem dX7_pick_64 : decode prog_35_method_23_code 64 = .ok (.aload 4, 2) := by decide +kernel
theorem dX7_pick_66 : decode prog_35_method_23_code 66 = .ok (.iload 6, 2) := by decide +kernel
theorem dX7_pick_68 : decode prog_35_method_23_code 68 = .ok (.iaload, 1) := by decide +kernel
theorem dX7_pick_69 : decode prog_35_method_23_code 69 = .ok (.ifCond .eq 7, 3) := by decide +kernel
theorem dX7_pick_72 : decode prog_35_method_23_code 72 = .ok (.iconst 1, 1) := by decide +kernel
theorem dX7_pick_73 : decode prog_35_method_23_code 73 = .ok (.goto 4, 3) := by decide +kernel
theorem dX7_pick_76 : decode prog_35_method_23_code 76 = .ok (.iconst 0, 1) := by decide +kernel
theorem dX7_pick_77 : decode prog_35_method_23_code 77 = .ok (.iadd, 1) := by decide +kernel
theorem dX7_pick_78 : decode prog_35_method_23_code 78 = .ok (.istore 5, 2) := by decide +kernel
theorem dX7_pick_80 : decode prog_35_method_23_code 80 = .ok (.iinc 6 1, 3) := by decide +kernel
theorem dX7_pick_83 : decode prog_35_method_23_code 83 = .ok (.goto (-29), 3) := by decide +kernel
theorem dX7_pick_86 : decode prog_35_method_23_code 86 = .ok (.iload 5, 2) := by decide +kernel
theorem dX7_pick_88 : decode prog_35_method_23_code 88 = .ok (.newarray .int, 2) := by decide +kernel
theorem dX7_pick_90 : decode prog_35_method_23_code 90 = .ok (.astore 6, 2) := by decide +kernel
theorem dX7_pick_92 : decode prog_35_method_23_code 92 = .ok (.iconst 0, 1) := by decide +kernel
theorem dX7_pick_93 : decode prog_35_method_23_code 93 = .ok (.istore 5, 2) := by decide +kernel
theorem dX7_pick_95 : decode prog_35_method_23_code 95 = .ok (.iconst 0, 1) := by decide +kernel
theorem dX7_pick_96 : decode prog_35_method_23_code 96 = .ok (.istore 7, 2) := by decide +kernel
theorem dX7_pick_98 : decode prog_35_method_23_code 98 = .ok (.iload 7, 2) := by decide +kernel
theorem dX7_pick_100 : decode prog_35_method_23_code 100 = .ok (.aload 4, 2) := by decide +kernel
theorem dX7_pick_102 : decode prog_35_method_23_code 102 = .ok (.arraylength, 1) := by decide +kernel
theorem dX7_pick_103 : decode prog_35_method_23_code 103 = .ok (.if_icmp .ge 30, 3) := by decide +kernel
theorem dX7_pick_106 : decode prog_35_method_23_code 106 = .ok (.aload 4, 2) := by decide +kernel
theorem dX7_pick_108 : decode prog_35_method_23_code 108 = .ok (.iload 7, 2) := by decide +kernel
theorem dX7_pick_110 : decode prog_35_method_23_code 110 = .ok (.iaload, 1) := by decide +kernel
theorem dX7_pick_111 : decode prog_35_method_23_code 111 = .ok (.ifCond .ne 6, 3) := by decide +kernel
theorem dX7_pick_114 : decode prog_35_method_23_code 114 = .ok (.goto 13, 3) := by decide +kernel
theorem dX7_pick_117 : decode prog_35_method_23_code 117 = .ok (.aload 6, 2) := by decide +kernel
theorem dX7_pick_119 : decode prog_35_method_23_code 119 = .ok (.iload 5, 2) := by decide +kernel
theorem dX7_pick_121 : decode prog_35_method_23_code 121 = .ok (.iload 7, 2) := by decide +kernel
theorem dX7_pick_123 : decode prog_35_method_23_code 123 = .ok (.iastore, 1) := by decide +kernel
theorem dX7_pick_124 : decode prog_35_method_23_code 124 = .ok (.iinc 5 1, 3) := by decide +kernel
theorem dX7_pick_127 : decode prog_35_method_23_code 127 = .ok (.iinc 7 1, 3) := by decide +kernel
theorem dX7_pick_130 : decode prog_35_method_23_code 130 = .ok (.goto (-32), 3) := by decide +kernel
theorem dX7_pick_133 : decode prog_35_method_23_code 133 = .ok (.aload_n 0, 1) := by decide +kernel
theorem dX7_pick_134 : decode prog_35_method_23_code 134 = .ok (.getfield 9, 3) := by decide +kernel
theorem dX7_pick_137 : decode prog_35_method_23_code 137 = .ok (.getfield 177, 3) := by decide +kernel
theorem dX7_pick_140 : decode prog_35_method_23_code 140 = .ok (.aload_n 1, 1) := by decide +kernel
theorem dX7_pick_141 : decode prog_35_method_23_code 141 = .ok (.aload 6, 2) := by decide +kernel
theorem dX7_pick_143 : decode prog_35_method_23_code 143 = .ok (.iload_n 3, 1) := by decide +kernel
theorem dX7_pick_144 : decode prog_35_method_23_code 144 = .ok (.invokevirtual 242, 3) := by decide +kernel
theorem dX7_pick_147 : decode prog_35_method_23_code 147 = .ok (.areturn, 1) := by decide +kernel
theorem dX7_find_0 : decode prog_35_method_25_code 0 = .ok (.aload_n 0, 1) := by decide +kernel
theorem dX7_find_1 : decode prog_35_method_25_code 1 = .ok (.getfield 9, 3) := by decide +kernel
theorem dX7_find_4 : decode prog_35_method_25_code 4 = .ok (.getfield 15, 3) := by decide +kernel
theorem dX7_find_7 : decode prog_35_method_25_code 7 = .ok (.iconst 1, 1) := by decide +kernel
theorem dX7_find_8 : decode prog_35_method_25_code 8 = .ok (.isub, 1) := by decide +kernel
theorem dX7_find_9 : decode prog_35_method_25_code 9 = .ok (.istore 4, 2) := by decide +kernel
theorem dX7_find_11 : decode prog_35_method_25_code 11 = .ok (.aload_n 2, 1) := by decide +kernel
theorem dX7_find_12 : decode prog_35_method_25_code 12 = .ok (.ifnonnull 26, 3) := by decide +kernel
theorem dX7_find_15 : decode prog_35_method_25_code 15 = .ok (.aload_n 0, 1) := by decide +kernel
theorem dX7_find_16 : decode prog_35_method_25_code 16 = .ok (.getfield 9, 3) := by decide +kernel
theorem dX7_find_19 : decode prog_35_method_25_code 19 = .ok (.aload_n 1, 1) := by decide +kernel
theorem dX7_find_20 : decode prog_35_method_25_code 20 = .ok (.aload_n 0, 1) := by decide +kernel
theorem dX7_find_21 : decode prog_35_method_25_code 21 = .ok (.getfield 9, 3) := by decide +kernel
theorem dX7_find_24 : decode prog_35_method_25_code 24 = .ok (.getfield 138, 3) := by decide +kernel
theorem dX7_find_27 : decode prog_35_method_25_code 27 = .ok (.iload 4, 2) := by decide +kernel
theorem dX7_find_29 : decode prog_35_method_25_code 29 = .ok (.iaload, 1) := by decide +kernel
theorem dX7_find_30 : decode prog_35_method_25_code 30 = .ok (.invokestatic 246, 3) := by decide +kernel
theorem dX7_find_33 : decode prog_35_method_25_code 33 = .ok (.iconst 2, 1) := by decide +kernel
theorem dX7_find_34 : decode prog_35_method_25_code 34 = .ok (.invokevirtual 35, 3) := by decide +kernel
theorem dX7_find_37 : decode prog_35_method_25_code 37 = .ok (.return_, 1) := by decide +kernel
theorem dX7_find_38 : decode prog_35_method_25_code 38 = .ok (.aload_n 0, 1) := by decide +kernel
theorem dX7_find_39 : decode prog_35_method_25_code 39 = .ok (.getfield 9, 3) := by decide +kernel
theorem dX7_find_42 : decode prog_35_method_25_code 42 = .ok (.iload 4, 2) := by decide +kernel
theorem dX7_find_44 : decode prog_35_method_25_code 44 = .ok (.iload_n 3, 1) := by decide +kernel
theorem dX7_find_45 : decode prog_35_method_25_code 45 = .ok (.invokevirtual 62, 3) := by decide +kernel
theorem dX7_find_48 : decode prog_35_method_25_code 48 = .ok (.getfield 66, 3) := by decide +kernel
theorem dX7_find_51 : decode prog_35_method_25_code 51 = .ok (.astore 5, 2) := by decide +kernel
theorem dX7_find_53 : decode prog_35_method_25_code 53 = .ok (.aload 5, 2) := by decide +kernel
theorem dX7_find_55 : decode prog_35_method_25_code 55 = .ok (.arraylength, 1) := by decide +kernel
theorem dX7_find_56 : decode prog_35_method_25_code 56 = .ok (.newarray .int, 2) := by decide +kernel
theorem dX7_find_58 : decode prog_35_method_25_code 58 = .ok (.astore 6, 2) := by decide +kernel
theorem dX7_find_60 : decode prog_35_method_25_code 60 = .ok (.iconst 0, 1) := by decide +kernel
theorem dX7_find_61 : decode prog_35_method_25_code 61 = .ok (.istore 7, 2) := by decide +kernel
theorem dX7_find_63 : decode prog_35_method_25_code 63 = .ok (.iload 7, 2) := by decide +kernel
theorem dX7_find_65 : decode prog_35_method_25_code 65 = .ok (.aload 6, 2) := by decide +kernel
theorem dX7_find_67 : decode prog_35_method_25_code 67 = .ok (.arraylength, 1) := by decide +kernel
theorem dX7_find_68 : decode prog_35_method_25_code 68 = .ok (.if_icmp .ge 23, 3) := by decide +kernel
theorem dX7_find_71 : decode prog_35_method_25_code 71 = .ok (.aload 6, 2) := by decide +kernel
theorem dX7_find_73 : decode prog_35_method_25_code 73 = .ok (.iload 7, 2) := by decide +kernel
theorem dX7_find_75 : decode prog_35_method_25_code 75 = .ok (.aload_n 1, 1) := by decide +kernel
theorem dX7_find_76 : decode prog_35_method_25_code 76 = .ok (.aload 5, 2) := by decide +kernel
theorem dX7_find_78 : decode prog_35_method_25_code 78 = .ok (.iload 7, 2) := by decide +kernel
theorem dX7_find_80 : decode prog_35_method_25_code 80 = .ok (.iaload, 1) := by decide +kernel
theorem dX7_find_81 : decode prog_35_method_25_code 81 = .ok (.invokestatic 246, 3) := by decide +kernel
theorem dX7_find_84 : decode prog_35_method_25_code 84 = .ok (.iastore, 1) := by decide +kernel
theorem dX7_find_85 : decode prog_35_method_25_code 85 = .ok (.iinc 7 1, 3) := by decide +kernel
theorem dX7_find_88 : decode prog_35_method_25_code 88 = .ok (.goto (-25), 3) := by decide +kernel
theorem dX7_find_91 : decode prog_35_method_25_code 91 = .ok (.aload_n 0, 1) := by decide +kernel
theorem dX7_find_92 : decode prog_35_method_25_code 92 = .ok (.getfield 9, 3) := by decide +kernel
theorem dX7_find_95 : decode prog_35_method_25_code 95 = .ok (.new 60, 3) := by decide +kernel
theorem dX7_find_98 : decode prog_35_method_25_code 98 = .ok (.dup, 1) := by decide +kernel
theorem dX7_find_99 : decode prog_35_method_25_code 99 = .ok (.aload 6, 2) := by decide +kernel
theorem dX7_find_101 : decode prog_35_method_25_code 101 = .ok (.invokespecial 74, 3) := by decide +kernel
theorem dX7_find_104 : decode prog_35_method_25_code 104 = .ok (.iconst 2, 1) := by decide +kernel
theorem dX7_find_105 : decode prog_35_method_25_code 105 = .ok (.iload_n 3, 1) := by decide +kernel
theorem dX7_find_106 : decode prog_35_method_25_code 106 = .ok (.invokevirtual 47, 3) := by decide +kernel
theorem dX7_find_109 : decode prog_35_method_25_code 109 = .ok (.return_, 1) := by decide +kernel
theorem dX7_placeOf_0 : decode prog_35_method_24_code 0 = .ok (.iconst 0, 1) := by decide +kernel
theorem dX7_placeOf_1 : decode prog_35_method_24_code 1 = .ok (.istore_n 2, 1) := by decide +kernel
theorem dX7_placeOf_2 : decode prog_35_method_24_code 2 = .ok (.iload_n 2, 1) := by decide +kernel
theorem dX7_placeOf_3 : decode prog_35_method_24_code 3 = .ok (.aload_n 0, 1) := by decide +kernel
theorem dX7_placeOf_4 : decode prog_35_method_24_code 4 = .ok (.arraylength, 1) := by decide +kernel
theorem dX7_placeOf_5 : decode prog_35_method_24_code 5 = .ok (.if_icmp .ge 16, 3) := by decide +kernel
theorem dX7_placeOf_8 : decode prog_35_method_24_code 8 = .ok (.aload_n 0, 1) := by decide +kernel
theorem dX7_placeOf_9 : decode prog_35_method_24_code 9 = .ok (.iload_n 2, 1) := by decide +kernel
theorem dX7_placeOf_10 : decode prog_35_method_24_code 10 = .ok (.iaload, 1) := by decide +kernel
theorem dX7_placeOf_11 : decode prog_35_method_24_code 11 = .ok (.iload_n 1, 1) := by decide +kernel
theorem dX7_placeOf_12 : decode prog_35_method_24_code 12 = .ok (.if_icmp .eq 9, 3) := by decide +kernel
theorem dX7_placeOf_15 : decode prog_35_method_24_code 15 = .ok (.iinc 2 1, 3) := by decide +kernel
theorem dX7_placeOf_18 : decode prog_35_method_24_code 18 = .ok (.goto (-16), 3) := by decide +kernel
theorem dX7_placeOf_21 : decode prog_35_method_24_code 21 = .ok (.iload_n 2, 1) := by decide +kernel
theorem dX7_placeOf_22 : decode prog_35_method_24_code 22 = .ok (.aload_n 0, 1) := by decide +kernel
theorem dX7_placeOf_23 : decode prog_35_method_24_code 23 = .ok (.arraylength, 1) := by decide +kernel
theorem dX7_placeOf_24 : decode prog_35_method_24_code 24 = .ok (.if_icmp .ge 7, 3) := by decide +kernel
theorem dX7_placeOf_27 : decode prog_35_method_24_code 27 = .ok (.iload_n 2, 1) := by decide +kernel
theorem dX7_placeOf_28 : decode prog_35_method_24_code 28 = .ok (.goto 4, 3) := by decide +kernel
theorem dX7_placeOf_31 : decode prog_35_method_24_code 31 = .ok (.iconst (-1), 1) := by decide +kernel
theorem dX7_placeOf_32 : decode prog_35_method_24_code 32 = .ok (.ireturn, 1) := by decide +kernel
theorem dX7_outer_0 : decode prog_35_method_27_code 0 = .ok (.aload_n 0, 1) := by decide +kernel
theorem dX7_outer_1 : decode prog_35_method_27_code 1 = .ok (.getfield 9, 3) := by decide +kernel
theorem dX7_outer_4 : decode prog_35_method_27_code 4 = .ok (.getfield 177, 3) := by decide +kernel
theorem dX7_outer_7 : decode prog_35_method_27_code 7 = .ok (.aload_n 1, 1) := by decide +kernel
theorem dX7_outer_8 : decode prog_35_method_27_code 8 = .ok (.arraylength, 1) := by decide +kernel
theorem dX7_outer_9 : decode prog_35_method_27_code 9 = .ok (.aload_n 2, 1) := by decide +kernel
theorem dX7_outer_10 : decode prog_35_method_27_code 10 = .ok (.arraylength, 1) := by decide +kernel
theorem dX7_outer_11 : decode prog_35_method_27_code 11 = .ok (.iload_n 3, 1) := by decide +kernel
theorem dX7_outer_12 : decode prog_35_method_27_code 12 = .ok (.invokevirtual 250, 3) := by decide +kernel
theorem dX7_outer_15 : decode prog_35_method_27_code 15 = .ok (.astore 4, 2) := by decide +kernel
theorem dX7_outer_17 : decode prog_35_method_27_code 17 = .ok (.iconst 0, 1) := by decide +kernel
theorem dX7_outer_18 : decode prog_35_method_27_code 18 = .ok (.istore 5, 2) := by decide +kernel
theorem dX7_outer_20 : decode prog_35_method_27_code 20 = .ok (.iload 5, 2) := by decide +kernel
theorem dX7_outer_22 : decode prog_35_method_27_code 22 = .ok (.aload_n 1, 1) := by decide +kernel
theorem dX7_outer_23 : decode prog_35_method_27_code 23 = .ok (.arraylength, 1) := by decide +kernel
theorem dX7_outer_24 : decode prog_35_method_27_code 24 = .ok (.if_icmp .ge 42, 3) := by decide +kernel
theorem dX7_outer_27 : decode prog_35_method_27_code 27 = .ok (.iconst 0, 1) := by decide +kernel
theorem dX7_outer_28 : decode prog_35_method_27_code 28 = .ok (.istore 6, 2) := by decide +kernel
theorem dX7_outer_30 : decode prog_35_method_27_code 30 = .ok (.iload 6, 2) := by decide +kernel
theorem dX7_outer_32 : decode prog_35_method_27_code 32 = .ok (.aload_n 2, 1) := by decide +kernel
theorem dX7_outer_33 : decode prog_35_method_27_code 33 = .ok (.arraylength, 1) := by decide +kernel
theorem dX7_outer_34 : decode prog_35_method_27_code 34 = .ok (.if_icmp .ge 26, 3) := by decide +kernel
theorem dX7_outer_37 : decode prog_35_method_27_code 37 = .ok (.aload 4, 2) := by decide +kernel
theorem dX7_outer_39 : decode prog_35_method_27_code 39 = .ok (.iload 5, 2) := by decide +kernel
theorem dX7_outer_41 : decode prog_35_method_27_code 41 = .ok (.aaload, 1) := by decide +kernel
theorem dX7_outer_42 : decode prog_35_method_27_code 42 = .ok (.iload 6, 2) := by decide +kernel
theorem dX7_outer_44 : decode prog_35_method_27_code 44 = .ok (.aload_n 1, 1) := by decide +kernel
theorem dX7_outer_45 : decode prog_35_method_27_code 45 = .ok (.iload 5, 2) := by decide +kernel
theorem dX7_outer_47 : decode prog_35_method_27_code 47 = .ok (.iaload, 1) := by decide +kernel
theorem dX7_outer_48 : decode prog_35_method_27_code 48 = .ok (.aload_n 2, 1) := by decide +kernel
theorem dX7_outer_49 : decode prog_35_method_27_code 49 = .ok (.iload 6, 2) := by decide +kernel
theorem dX7_outer_51 : decode prog_35_method_27_code 51 = .ok (.iaload, 1) := by decide +kernel
theorem dX7_outer_52 : decode prog_35_method_27_code 52 = .ok (.imul, 1) := by decide +kernel
theorem dX7_outer_53 : decode prog_35_method_27_code 53 = .ok (.iastore, 1) := by decide +kernel
theorem dX7_outer_54 : decode prog_35_method_27_code 54 = .ok (.iinc 6 1, 3) := by decide +kernel
theorem dX7_outer_57 : decode prog_35_method_27_code 57 = .ok (.goto (-27), 3) := by decide +kernel
theorem dX7_outer_60 : decode prog_35_method_27_code 60 = .ok (.iinc 5 1, 3) := by decide +kernel
theorem dX7_outer_63 : decode prog_35_method_27_code 63 = .ok (.goto (-43), 3) := by decide +kernel
theorem dX7_outer_66 : decode prog_35_method_27_code 66 = .ok (.aload 4, 2) := by decide +kernel
theorem dX7_outer_68 : decode prog_35_method_27_code 68 = .ok (.areturn, 1) := by decide +kernel
theorem dJ3_indexOf_0 : decode prog_47_method_79_code 0 = .ok (.aload_n 0, 1) := by decide +kernel
theorem dJ3_indexOf_1 : decode prog_47_method_79_code 1 = .ok (.iload_n 1, 1) := by decide +kernel
theorem dJ3_indexOf_2 : decode prog_47_method_79_code 2 = .ok (.iconst 0, 1) := by decide +kernel
theorem dJ3_indexOf_3 : decode prog_47_method_79_code 3 = .ok (.invokevirtual 633, 3) := by decide +kernel
theorem dJ3_indexOf_6 : decode prog_47_method_79_code 6 = .ok (.ireturn, 1) := by decide +kernel
theorem dJ3_indexOf_2_0 : decode prog_47_method_80_code 0 = .ok (.aload_n 0, 1) := by decide +kernel
theorem dJ3_indexOf_2_1 : decode prog_47_method_80_code 1 = .ok (.invokevirtual 492, 3) := by decide +kernel
theorem dJ3_indexOf_2_4 : decode prog_47_method_80_code 4 = .ok (.ifCond .eq 19, 3) := by decide +kernel
theorem dJ3_indexOf_2_7 : decode prog_47_method_80_code 7 = .ok (.aload_n 0, 1) := by decide +kernel
theorem dJ3_indexOf_2_8 : decode prog_47_method_80_code 8 = .ok (.getfield 9, 3) := by decide +kernel
theorem dJ3_indexOf_2_11 : decode prog_47_method_80_code 11 = .ok (.iload_n 1, 1) := by decide +kernel
theorem dJ3_indexOf_2_12 : decode prog_47_method_80_code 12 = .ok (.iload_n 2, 1) := by decide +kernel
theorem dJ3_indexOf_2_13 : decode prog_47_method_80_code 13 = .ok (.aload_n 0, 1) := by decide +kernel
theorem dJ3_indexOf_2_14 : decode prog_47_method_80_code 14 = .ok (.invokevirtual 505, 3) := by decide +kernel
theorem dJ3_indexOf_2_17 : decode prog_47_method_80_code 17 = .ok (.invokestatic 637, 3) := by decide +kernel
theorem dJ3_indexOf_2_20 : decode prog_47_method_80_code 20 = .ok (.goto 16, 3) := by decide +kernel
theorem dJ3_indexOf_2_23 : decode prog_47_method_80_code 23 = .ok (.aload_n 0, 1) := by decide +kernel
theorem dJ3_indexOf_2_24 : decode prog_47_method_80_code 24 = .ok (.getfield 9, 3) := by decide +kernel
theorem dJ3_indexOf_2_27 : decode prog_47_method_80_code 27 = .ok (.iload_n 1, 1) := by decide +kernel
theorem dJ3_indexOf_2_28 : decode prog_47_method_80_code 28 = .ok (.iload_n 2, 1) := by decide +kernel
theorem dJ3_indexOf_2_29 : decode prog_47_method_80_code 29 = .ok (.aload_n 0, 1) := by decide +kernel
theorem dJ3_indexOf_2_30 : decode prog_47_method_80_code 30 = .ok (.invokevirtual 505, 3) := by decide +kernel
theorem dJ3_indexOf_2_33 : decode prog_47_method_80_code 33 = .ok (.invokestatic 640, 3) := by decide +kernel
theorem dJ3_indexOf_2_36 : decode prog_47_method_80_code 36 = .ok (.ireturn, 1) := by decide +kernel
theorem dJ3_isLatin1_0 : decode prog_47_method_154_code 0 = .ok (.getstatic 38, 3) := by decide +kernel
theorem dJ3_isLatin1_3 : decode prog_47_method_154_code 3 = .ok (.ifCond .eq 14, 3) := by decide +kernel
theorem dJ3_isLatin1_6 : decode prog_47_method_154_code 6 = .ok (.aload_n 0, 1) := by decide +kernel
theorem dJ3_isLatin1_7 : decode prog_47_method_154_code 7 = .ok (.getfield 15, 3) := by decide +kernel
theorem dJ3_isLatin1_10 : decode prog_47_method_154_code 10 = .ok (.ifCond .ne 7, 3) := by decide +kernel
theorem dJ3_isLatin1_13 : decode prog_47_method_154_code 13 = .ok (.iconst 1, 1) := by decide +kernel
theorem dJ3_isLatin1_14 : decode prog_47_method_154_code 14 = .ok (.goto 4, 3) := by decide +kernel
theorem dJ3_isLatin1_17 : decode prog_47_method_154_code 17 = .ok (.iconst 0, 1) := by decide +kernel
theorem dJ3_isLatin1_18 : decode prog_47_method_154_code 18 = .ok (.ireturn, 1) := by decide +kernel
theorem dJ3_length_0 : decode prog_47_method_54_code 0 = .ok (.aload_n 0, 1) := by decide +kernel
theorem dJ3_length_1 : decode prog_47_method_54_code 1 = .ok (.getfield 9, 3) := by decide +kernel
theorem dJ3_length_4 : decode prog_47_method_54_code 4 = .ok (.arraylength, 1) := by decide +kernel
theorem dJ3_length_5 : decode prog_47_method_54_code 5 = .ok (.aload_n 0, 1) := by decide +kernel
theorem dJ3_length_6 : decode prog_47_method_54_code 6 = .ok (.invokevirtual 335, 3) := by decide +kernel
theorem dJ3_length_9 : decode prog_47_method_54_code 9 = .ok (.ishr, 1) := by decide +kernel
theorem dJ3_length_10 : decode prog_47_method_54_code 10 = .ok (.ireturn, 1) := by decide +kernel
theorem dJ3_coder_0 : decode prog_47_method_152_code 0 = .ok (.getstatic 38, 3) := by decide +kernel
theorem dJ3_coder_3 : decode prog_47_method_152_code 3 = .ok (.ifCond .eq 10, 3) := by decide +kernel
theorem dJ3_coder_6 : decode prog_47_method_152_code 6 = .ok (.aload_n 0, 1) := by decide +kernel
theorem dJ3_coder_7 : decode prog_47_method_152_code 7 = .ok (.getfield 15, 3) := by decide +kernel
theorem dJ3_coder_10 : decode prog_47_method_152_code 10 = .ok (.goto 4, 3) := by decide +kernel
theorem dJ3_coder_13 : decode prog_47_method_152_code 13 = .ok (.iconst 1, 1) := by decide +kernel
theorem dJ3_coder_14 : decode prog_47_method_152_code 14 = .ok (.ireturn, 1) := by decide +kernel
theorem dJ3_charAt_0 : decode prog_47_method_56_code 0 = .ok (.aload_n 0, 1) := by decide +kernel
theorem dJ3_charAt_1 : decode prog_47_method_56_code 1 = .ok (.invokevirtual 492, 3) := by decide +kernel
theorem dJ3_charAt_4 : decode prog_47_method_56_code 4 = .ok (.ifCond .eq 12, 3) := by decide +kernel
theorem dJ3_charAt_7 : decode prog_47_method_56_code 7 = .ok (.aload_n 0, 1) := by decide +kernel
theorem dJ3_charAt_8 : decode prog_47_method_56_code 8 = .ok (.getfield 9, 3) := by decide +kernel
theorem dJ3_charAt_11 : decode prog_47_method_56_code 11 = .ok (.iload_n 1, 1) := by decide +kernel
theorem dJ3_charAt_12 : decode prog_47_method_56_code 12 = .ok (.invokestatic 495, 3) := by decide +kernel
theorem dJ3_charAt_15 : decode prog_47_method_56_code 15 = .ok (.ireturn, 1) := by decide +kernel
theorem dJ3_charAt_16 : decode prog_47_method_56_code 16 = .ok (.aload_n 0, 1) := by decide +kernel
theorem dJ3_charAt_17 : decode prog_47_method_56_code 17 = .ok (.getfield 9, 3) := by decide +kernel
theorem dJ3_charAt_20 : decode prog_47_method_56_code 20 = .ok (.iload_n 1, 1) := by decide +kernel
theorem dJ3_charAt_21 : decode prog_47_method_56_code 21 = .ok (.invokestatic 498, 3) := by decide +kernel
theorem dJ3_charAt_24 : decode prog_47_method_56_code 24 = .ok (.ireturn, 1) := by decide +kernel
theorem dJ3_checkIndex_0 : decode prog_47_method_155_code 0 = .ok (.iload_n 0, 1) := by decide +kernel
theorem dJ3_checkIndex_1 : decode prog_47_method_155_code 1 = .ok (.iload_n 1, 1) := by decide +kernel
theorem dJ3_checkIndex_2 : decode prog_47_method_155_code 2 = .ok (.getstatic 1053, 3) := by decide +kernel
theorem dJ3_checkIndex_5 : decode prog_47_method_155_code 5 = .ok (.invokestatic 1059, 3) := by decide +kernel
theorem dJ3_checkIndex_8 : decode prog_47_method_155_code 8 = .ok (.pop, 1) := by decide +kernel
theorem dJ3_checkIndex_9 : decode prog_47_method_155_code 9 = .ok (.return_, 1) := by decide +kernel
theorem dJ4_indexOf_0 : decode prog_48_method_22_code 0 = .ok (.iload_n 1, 1) := by decide +kernel
theorem dJ4_indexOf_1 : decode prog_48_method_22_code 1 = .ok (.invokestatic 88, 3) := by decide +kernel
theorem dJ4_indexOf_4 : decode prog_48_method_22_code 4 = .ok (.ifCond .ne 5, 3) := by decide +kernel
theorem dJ4_indexOf_7 : decode prog_48_method_22_code 7 = .ok (.iconst (-1), 1) := by decide +kernel
theorem dJ4_indexOf_8 : decode prog_48_method_22_code 8 = .ok (.ireturn, 1) := by decide +kernel
theorem dJ4_indexOf_9 : decode prog_48_method_22_code 9 = .ok (.iload_n 2, 1) := by decide +kernel
theorem dJ4_indexOf_10 : decode prog_48_method_22_code 10 = .ok (.iconst 0, 1) := by decide +kernel
theorem dJ4_indexOf_11 : decode prog_48_method_22_code 11 = .ok (.invokestatic 92, 3) := by decide +kernel
theorem dJ4_indexOf_14 : decode prog_48_method_22_code 14 = .ok (.istore_n 2, 1) := by decide +kernel
theorem dJ4_indexOf_15 : decode prog_48_method_22_code 15 = .ok (.iload_n 3, 1) := by decide +kernel
theorem dJ4_indexOf_16 : decode prog_48_method_22_code 16 = .ok (.aload_n 0, 1) := by decide +kernel
theorem dJ4_indexOf_17 : decode prog_48_method_22_code 17 = .ok (.arraylength, 1) := by decide +kernel
theorem dJ4_indexOf_18 : decode prog_48_method_22_code 18 = .ok (.invokestatic 38, 3) := by decide +kernel
theorem dJ4_indexOf_21 : decode prog_48_method_22_code 21 = .ok (.istore_n 3, 1) := by decide +kernel
theorem dJ4_indexOf_22 : decode prog_48_method_22_code 22 = .ok (.iload_n 2, 1) := by decide +kernel
theorem dJ4_indexOf_23 : decode prog_48_method_22_code 23 = .ok (.iload_n 3, 1) := by decide +kernel
theorem dJ4_indexOf_24 : decode prog_48_method_22_code 24 = .ok (.if_icmp .lt 5, 3) := by decide +kernel
theorem dJ4_indexOf_27 : decode prog_48_method_22_code 27 = .ok (.iconst (-1), 1) := by decide +kernel
theorem dJ4_indexOf_28 : decode prog_48_method_22_code 28 = .ok (.ireturn, 1) := by decide +kernel
theorem dJ4_indexOf_29 : decode prog_48_method_22_code 29 = .ok (.aload_n 0, 1) := by decide +kernel
theorem dJ4_indexOf_30 : decode prog_48_method_22_code 30 = .ok (.iload_n 1, 1) := by decide +kernel
theorem dJ4_indexOf_31 : decode prog_48_method_22_code 31 = .ok (.iload_n 2, 1) := by decide +kernel
theorem dJ4_indexOf_32 : decode prog_48_method_22_code 32 = .ok (.iload_n 3, 1) := by decide +kernel
theorem dJ4_indexOf_33 : decode prog_48_method_22_code 33 = .ok (.invokestatic 95, 3) := by decide +kernel
theorem dJ4_indexOf_36 : decode prog_48_method_22_code 36 = .ok (.ireturn, 1) := by decide +kernel
theorem dJ4_canEncode_0 : decode prog_48_method_4_code 0 = .ok (.iload_n 0, 1) := by decide +kernel
theorem dJ4_canEncode_1 : decode prog_48_method_4_code 1 = .ok (.ifCond .lt 14, 3) := by decide +kernel
theorem dJ4_canEncode_4 : decode prog_48_method_4_code 4 = .ok (.iload_n 0, 1) := by decide +kernel
theorem dJ4_canEncode_5 : decode prog_48_method_4_code 5 = .ok (.sipush 255, 3) := by decide +kernel
theorem dJ4_canEncode_8 : decode prog_48_method_4_code 8 = .ok (.if_icmp .gt 7, 3) := by decide +kernel
theorem dJ4_canEncode_11 : decode prog_48_method_4_code 11 = .ok (.iconst 1, 1) := by decide +kernel
theorem dJ4_canEncode_12 : decode prog_48_method_4_code 12 = .ok (.goto 4, 3) := by decide +kernel
theorem dJ4_canEncode_15 : decode prog_48_method_4_code 15 = .ok (.iconst 0, 1) := by decide +kernel
theorem dJ4_canEncode_16 : decode prog_48_method_4_code 16 = .ok (.ireturn, 1) := by decide +kernel
theorem dJ4_indexOfChar_0 : decode prog_48_method_23_code 0 = .ok (.iload_n 1, 1) := by decide +kernel
theorem dJ4_indexOfChar_1 : decode prog_48_method_23_code 1 = .ok (.i2b, 1) := by decide +kernel
theorem dJ4_indexOfChar_2 : decode prog_48_method_23_code 2 = .ok (.istore 4, 2) := by decide +kernel
theorem dJ4_indexOfChar_4 : decode prog_48_method_23_code 4 = .ok (.iload_n 2, 1) := by decide +kernel
theorem dJ4_indexOfChar_5 : decode prog_48_method_23_code 5 = .ok (.istore 5, 2) := by decide +kernel
theorem dJ4_indexOfChar_7 : decode prog_48_method_23_code 7 = .ok (.iload 5, 2) := by decide +kernel
theorem dJ4_indexOfChar_9 : decode prog_48_method_23_code 9 = .ok (.iload_n 3, 1) := by decide +kernel
theorem dJ4_indexOfChar_10 : decode prog_48_method_23_code 10 = .ok (.if_icmp .ge 21, 3) := by decide +kernel
theorem dJ4_indexOfChar_13 : decode prog_48_method_23_code 13 = .ok (.aload_n 0, 1) := by decide +kernel
theorem dJ4_indexOfChar_14 : decode prog_48_method_23_code 14 = .ok (.iload 5, 2) := by decide +kernel
theorem dJ4_indexOfChar_16 : decode prog_48_method_23_code 16 = .ok (.baload, 1) := by decide +kernel
theorem dJ4_indexOfChar_17 : decode prog_48_method_23_code 17 = .ok (.iload 4, 2) := by decide +kernel
theorem dJ4_indexOfChar_19 : decode prog_48_method_23_code 19 = .ok (.if_icmp .ne 6, 3) := by decide +kernel
theorem dJ4_indexOfChar_22 : decode prog_48_method_23_code 22 = .ok (.iload 5, 2) := by decide +kernel
theorem dJ4_indexOfChar_24 : decode prog_48_method_23_code 24 = .ok (.ireturn, 1) := by decide +kernel
theorem dJ4_indexOfChar_25 : decode prog_48_method_23_code 25 = .ok (.iinc 5 1, 3) := by decide +kernel
theorem dJ4_indexOfChar_28 : decode prog_48_method_23_code 28 = .ok (.goto (-21), 3) := by decide +kernel
theorem dJ4_indexOfChar_31 : decode prog_48_method_23_code 31 = .ok (.iconst (-1), 1) := by decide +kernel
theorem dJ4_indexOfChar_32 : decode prog_48_method_23_code 32 = .ok (.ireturn, 1) := by decide +kernel
theorem dJ7_checkIndex_0 : decode prog_52_method_11_code 0 = .ok (.iload_n 0, 1) := by decide +kernel
theorem dJ7_checkIndex_1 : decode prog_52_method_11_code 1 = .ok (.ifCond .lt 8, 3) := by decide +kernel
theorem dJ7_checkIndex_4 : decode prog_52_method_11_code 4 = .ok (.iload_n 0, 1) := by decide +kernel
theorem dJ7_checkIndex_5 : decode prog_52_method_11_code 5 = .ok (.iload_n 1, 1) := by decide +kernel
theorem dJ7_checkIndex_6 : decode prog_52_method_11_code 6 = .ok (.if_icmp .lt 10, 3) := by decide +kernel
theorem dJ7_checkIndex_9 : decode prog_52_method_11_code 9 = .ok (.aload_n 2, 1) := by decide +kernel
theorem dJ7_checkIndex_10 : decode prog_52_method_11_code 10 = .ok (.iload_n 0, 1) := by decide +kernel
theorem dJ7_checkIndex_11 : decode prog_52_method_11_code 11 = .ok (.iload_n 1, 1) := by decide +kernel
theorem dJ7_checkIndex_12 : decode prog_52_method_11_code 12 = .ok (.invokestatic 95, 3) := by decide +kernel
theorem dJ7_checkIndex_15 : decode prog_52_method_11_code 15 = .ok (.athrow, 1) := by decide +kernel
theorem dJ7_checkIndex_16 : decode prog_52_method_11_code 16 = .ok (.iload_n 0, 1) := by decide +kernel
theorem dJ7_checkIndex_17 : decode prog_52_method_11_code 17 = .ok (.ireturn, 1) := by decide +kernel
theorem dJ3_checkBoundsBeginEnd_0 : decode prog_47_method_158_code 0 = .ok (.iload_n 0, 1) := by decide +kernel
theorem dJ3_checkBoundsBeginEnd_1 : decode prog_47_method_158_code 1 = .ok (.iload_n 1, 1) := by decide +kernel
theorem dJ3_checkBoundsBeginEnd_2 : decode prog_47_method_158_code 2 = .ok (.iload_n 2, 1) := by decide +kernel
theorem dJ3_checkBoundsBeginEnd_3 : decode prog_47_method_158_code 3 = .ok (.getstatic 1053, 3) := by decide +kernel
theorem dJ3_checkBoundsBeginEnd_6 : decode prog_47_method_158_code 6 = .ok (.invokestatic 1062, 3) := by decide +kernel
theorem dJ3_checkBoundsBeginEnd_9 : decode prog_47_method_158_code 9 = .ok (.pop, 1) := by decide +kernel
theorem dJ3_checkBoundsBeginEnd_10 : decode prog_47_method_158_code 10 = .ok (.return_, 1) := by decide +kernel
theorem dJ7_checkFromToIndex_0 : decode prog_52_method_12_code 0 = .ok (.iload_n 0, 1) := by decide +kernel
theorem dJ7_checkFromToIndex_1 : decode prog_52_method_12_code 1 = .ok (.ifCond .lt 13, 3) := by decide +kernel
theorem dJ7_checkFromToIndex_4 : decode prog_52_method_12_code 4 = .ok (.iload_n 0, 1) := by decide +kernel
theorem dJ7_checkFromToIndex_5 : decode prog_52_method_12_code 5 = .ok (.iload_n 1, 1) := by decide +kernel
theorem dJ7_checkFromToIndex_6 : decode prog_52_method_12_code 6 = .ok (.if_icmp .gt 8, 3) := by decide +kernel
theorem dJ7_checkFromToIndex_9 : decode prog_52_method_12_code 9 = .ok (.iload_n 1, 1) := by decide +kernel
theorem dJ7_checkFromToIndex_10 : decode prog_52_method_12_code 10 = .ok (.iload_n 2, 1) := by decide +kernel
theorem dJ7_checkFromToIndex_11 : decode prog_52_method_12_code 11 = .ok (.if_icmp .le 11, 3) := by decide +kernel
theorem dJ7_checkFromToIndex_14 : decode prog_52_method_12_code 14 = .ok (.aload_n 3, 1) := by decide +kernel
theorem dJ7_checkFromToIndex_15 : decode prog_52_method_12_code 15 = .ok (.iload_n 0, 1) := by decide +kernel
theorem dJ7_checkFromToIndex_16 : decode prog_52_method_12_code 16 = .ok (.iload_n 1, 1) := by decide +kernel
theorem dJ7_checkFromToIndex_17 : decode prog_52_method_12_code 17 = .ok (.iload_n 2, 1) := by decide +kernel
theorem dJ7_checkFromToIndex_18 : decode prog_52_method_12_code 18 = .ok (.invokestatic 99, 3) := by decide +kernel
theorem dJ7_checkFromToIndex_21 : decode prog_52_method_12_code 21 = .ok (.athrow, 1) := by decide +kernel
theorem dJ7_checkFromToIndex_22 : decode prog_52_method_12_code 22 = .ok (.iload_n 0, 1) := by decide +kernel
theorem dJ7_checkFromToIndex_23 : decode prog_52_method_12_code 23 = .ok (.ireturn, 1) := by decide +kernel
