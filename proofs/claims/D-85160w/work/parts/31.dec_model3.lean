/-! decode rows -/
theorem dX10_index_160 : decode prog_37_method_85_code 160 = .ok (.iload 4, 2) := by decide +kernel
theorem dX10_index_162 : decode prog_37_method_85_code 162 = .ok (.iload 5, 2) := by decide +kernel
theorem dX10_index_164 : decode prog_37_method_85_code 164 = .ok (.invokevirtual 610, 3) := by decide +kernel
theorem dX10_index_167 : decode prog_37_method_85_code 167 = .ok (.aload_n 0, 1) := by decide +kernel
theorem dX10_index_168 : decode prog_37_method_85_code 168 = .ok (.getfield 186, 3) := by decide +kernel
theorem dX10_index_171 : decode prog_37_method_85_code 171 = .ok (.iload_n 3, 1) := by decide +kernel
theorem dX10_index_172 : decode prog_37_method_85_code 172 = .ok (.iaload, 1) := by decide +kernel
theorem dX10_index_173 : decode prog_37_method_85_code 173 = .ok (.ifCond .ne 4, 3) := by decide +kernel
theorem dX10_index_176 : decode prog_37_method_85_code 176 = .ok (.return_, 1) := by decide +kernel
theorem dX10_index_177 : decode prog_37_method_85_code 177 = .ok (.aload_n 0, 1) := by decide +kernel
theorem dX10_index_178 : decode prog_37_method_85_code 178 = .ok (.iload_n 3, 1) := by decide +kernel
theorem dX10_index_179 : decode prog_37_method_85_code 179 = .ok (.putfield 461, 3) := by decide +kernel
theorem dX10_index_182 : decode prog_37_method_85_code 182 = .ok (.aload_n 0, 1) := by decide +kernel
theorem dX10_index_183 : decode prog_37_method_85_code 183 = .ok (.aload_n 0, 1) := by decide +kernel
theorem dX10_index_184 : decode prog_37_method_85_code 184 = .ok (.getfield 189, 3) := by decide +kernel
theorem dX10_index_187 : decode prog_37_method_85_code 187 = .ok (.iload_n 3, 1) := by decide +kernel
theorem dX10_index_188 : decode prog_37_method_85_code 188 = .ok (.iaload, 1) := by decide +kernel
theorem dX10_index_189 : decode prog_37_method_85_code 189 = .ok (.invokevirtual 528, 3) := by decide +kernel
theorem dX10_index_192 : decode prog_37_method_85_code 192 = .ok (.return_, 1) := by decide +kernel
theorem dX10_index_193 : decode prog_37_method_85_code 193 = .ok (.iconst 0, 1) := by decide +kernel
theorem dX10_index_194 : decode prog_37_method_85_code 194 = .ok (.istore 7, 2) := by decide +kernel
theorem dX10_index_196 : decode prog_37_method_85_code 196 = .ok (.iload 7, 2) := by decide +kernel
theorem dX10_index_198 : decode prog_37_method_85_code 198 = .ok (.iload 6, 2) := by decide +kernel
theorem dX10_index_200 : decode prog_37_method_85_code 200 = .ok (.if_icmp .ge 27, 3) := by decide +kernel
theorem dX10_index_203 : decode prog_37_method_85_code 203 = .ok (.aload_n 0, 1) := by decide +kernel
theorem dX10_index_204 : decode prog_37_method_85_code 204 = .ok (.iload 4, 2) := by decide +kernel
theorem dX10_index_206 : decode prog_37_method_85_code 206 = .ok (.aload_n 0, 1) := by decide +kernel
theorem dX10_index_207 : decode prog_37_method_85_code 207 = .ok (.getfield 183, 3) := by decide +kernel
theorem dX10_index_210 : decode prog_37_method_85_code 210 = .ok (.iload 5, 2) := by decide +kernel
theorem dX10_index_212 : decode prog_37_method_85_code 212 = .ok (.iconst 2, 1) := by decide +kernel
theorem dX10_index_213 : decode prog_37_method_85_code 213 = .ok (.iadd, 1) := by decide +kernel
theorem dX10_index_214 : decode prog_37_method_85_code 214 = .ok (.iload 7, 2) := by decide +kernel
theorem dX10_index_216 : decode prog_37_method_85_code 216 = .ok (.iadd, 1) := by decide +kernel
theorem dX10_index_217 : decode prog_37_method_85_code 217 = .ok (.iaload, 1) := by decide +kernel
theorem dX10_index_218 : decode prog_37_method_85_code 218 = .ok (.invokevirtual 610, 3) := by decide +kernel
theorem dX10_index_221 : decode prog_37_method_85_code 221 = .ok (.iinc 7 1, 3) := by decide +kernel
theorem dX10_index_224 : decode prog_37_method_85_code 224 = .ok (.goto (-28), 3) := by decide +kernel
theorem dX10_index_227 : decode prog_37_method_85_code 227 = .ok (.aload_n 0, 1) := by decide +kernel
theorem dX10_index_228 : decode prog_37_method_85_code 228 = .ok (.iload_n 1, 1) := by decide +kernel
theorem dX10_index_229 : decode prog_37_method_85_code 229 = .ok (.iload_n 3, 1) := by decide +kernel
theorem dX10_index_230 : decode prog_37_method_85_code 230 = .ok (.invokevirtual 628, 3) := by decide +kernel
theorem dX10_index_233 : decode prog_37_method_85_code 233 = .ok (.return_, 1) := by decide +kernel
theorem dX10_element_0 : decode prog_37_method_52_code 0 = .ok (.aload_n 0, 1) := by decide +kernel
theorem dX10_element_1 : decode prog_37_method_52_code 1 = .ok (.getfield 183, 3) := by decide +kernel
theorem dX10_element_4 : decode prog_37_method_52_code 4 = .ok (.iload_n 1, 1) := by decide +kernel
theorem dX10_element_5 : decode prog_37_method_52_code 5 = .ok (.iaload, 1) := by decide +kernel
theorem dX10_element_6 : decode prog_37_method_52_code 6 = .ok (.iconst 1, 1) := by decide +kernel
theorem dX10_element_7 : decode prog_37_method_52_code 7 = .ok (.if_icmp .ne 21, 3) := by decide +kernel
theorem dX10_element_10 : decode prog_37_method_52_code 10 = .ok (.aload_n 0, 1) := by decide +kernel
theorem dX10_element_11 : decode prog_37_method_52_code 11 = .ok (.iconst 0, 1) := by decide +kernel
theorem dX10_element_12 : decode prog_37_method_52_code 12 = .ok (.aload_n 0, 1) := by decide +kernel
theorem dX10_element_13 : decode prog_37_method_52_code 13 = .ok (.getfield 183, 3) := by decide +kernel
theorem dX10_element_16 : decode prog_37_method_52_code 16 = .ok (.iload_n 1, 1) := by decide +kernel
theorem dX10_element_17 : decode prog_37_method_52_code 17 = .ok (.iconst 2, 1) := by decide +kernel
theorem dX10_element_18 : decode prog_37_method_52_code 18 = .ok (.iadd, 1) := by decide +kernel
theorem dX10_element_19 : decode prog_37_method_52_code 19 = .ok (.iload_n 2, 1) := by decide +kernel
theorem dX10_element_20 : decode prog_37_method_52_code 20 = .ok (.iadd, 1) := by decide +kernel
theorem dX10_element_21 : decode prog_37_method_52_code 21 = .ok (.iaload, 1) := by decide +kernel
theorem dX10_element_22 : decode prog_37_method_52_code 22 = .ok (.invokevirtual 464, 3) := by decide +kernel
theorem dX10_element_25 : decode prog_37_method_52_code 25 = .ok (.goto 53, 3) := by decide +kernel
theorem dX10_element_28 : decode prog_37_method_52_code 28 = .ok (.aload_n 0, 1) := by decide +kernel
theorem dX10_element_29 : decode prog_37_method_52_code 29 = .ok (.getfield 183, 3) := by decide +kernel
theorem dX10_element_32 : decode prog_37_method_52_code 32 = .ok (.iload_n 1, 1) := by decide +kernel
theorem dX10_element_33 : decode prog_37_method_52_code 33 = .ok (.iaload, 1) := by decide +kernel
theorem dX10_element_34 : decode prog_37_method_52_code 34 = .ok (.iconst 3, 1) := by decide +kernel
theorem dX10_element_35 : decode prog_37_method_52_code 35 = .ok (.if_icmp .ne 32, 3) := by decide +kernel
theorem dX10_element_38 : decode prog_37_method_52_code 38 = .ok (.aload_n 0, 1) := by decide +kernel
theorem dX10_element_39 : decode prog_37_method_52_code 39 = .ok (.iload_n 1, 1) := by decide +kernel
theorem dX10_element_40 : decode prog_37_method_52_code 40 = .ok (.iload_n 2, 1) := by decide +kernel
theorem dX10_element_41 : decode prog_37_method_52_code 41 = .ok (.invokevirtual 467, 3) := by decide +kernel
theorem dX10_element_44 : decode prog_37_method_52_code 44 = .ok (.ifCond .eq 23, 3) := by decide +kernel
theorem dX10_element_47 : decode prog_37_method_52_code 47 = .ok (.aload_n 0, 1) := by decide +kernel
theorem dX10_element_48 : decode prog_37_method_52_code 48 = .ok (.iconst 0, 1) := by decide +kernel
theorem dX10_element_49 : decode prog_37_method_52_code 49 = .ok (.aload_n 0, 1) := by decide +kernel
theorem dX10_element_50 : decode prog_37_method_52_code 50 = .ok (.getfield 183, 3) := by decide +kernel
theorem dX10_element_53 : decode prog_37_method_52_code 53 = .ok (.iload_n 1, 1) := by decide +kernel
theorem dX10_element_54 : decode prog_37_method_52_code 54 = .ok (.iconst 3, 1) := by decide +kernel
theorem dX10_element_55 : decode prog_37_method_52_code 55 = .ok (.iadd, 1) := by decide +kernel
theorem dX10_element_56 : decode prog_37_method_52_code 56 = .ok (.iconst 2, 1) := by decide +kernel
theorem dX10_element_57 : decode prog_37_method_52_code 57 = .ok (.iload_n 2, 1) := by decide +kernel
theorem dX10_element_58 : decode prog_37_method_52_code 58 = .ok (.imul, 1) := by decide +kernel
theorem dX10_element_59 : decode prog_37_method_52_code 59 = .ok (.iadd, 1) := by decide +kernel
theorem dX10_element_60 : decode prog_37_method_52_code 60 = .ok (.iaload, 1) := by decide +kernel
theorem dX10_element_61 : decode prog_37_method_52_code 61 = .ok (.invokevirtual 464, 3) := by decide +kernel
theorem dX10_element_64 : decode prog_37_method_52_code 64 = .ok (.goto 14, 3) := by decide +kernel
theorem dX10_element_67 : decode prog_37_method_52_code 67 = .ok (.aload_n 0, 1) := by decide +kernel
theorem dX10_element_68 : decode prog_37_method_52_code 68 = .ok (.iconst 1, 1) := by decide +kernel
theorem dX10_element_69 : decode prog_37_method_52_code 69 = .ok (.aload_n 0, 1) := by decide +kernel
theorem dX10_element_70 : decode prog_37_method_52_code 70 = .ok (.iload_n 1, 1) := by decide +kernel
theorem dX10_element_71 : decode prog_37_method_52_code 71 = .ok (.iload_n 2, 1) := by decide +kernel
theorem dX10_element_72 : decode prog_37_method_52_code 72 = .ok (.invokevirtual 470, 3) := by decide +kernel
theorem dX10_element_75 : decode prog_37_method_52_code 75 = .ok (.invokevirtual 464, 3) := by decide +kernel
theorem dX10_element_78 : decode prog_37_method_52_code 78 = .ok (.return_, 1) := by decide +kernel
theorem dX10_builtIn_0 : decode prog_37_method_88_code 0 = .ok (.iconst 1, 1) := by decide +kernel
theorem dX10_builtIn_1 : decode prog_37_method_88_code 1 = .ok (.istore_n 3, 1) := by decide +kernel
theorem dX10_builtIn_2 : decode prog_37_method_88_code 2 = .ok (.iload_n 2, 1) := by decide +kernel
theorem dX10_builtIn_3 : decode prog_37_method_88_code 3 = .ok (.istore 4, 2) := by decide +kernel
theorem dX10_builtIn_5 : decode prog_37_method_88_code 5 = .ok (.iload 4, 2) := by decide +kernel
theorem dX10_builtIn_7 : decode prog_37_method_88_code 7 = .ok (.aload_n 0, 1) := by decide +kernel
theorem dX10_builtIn_8 : decode prog_37_method_88_code 8 = .ok (.getfield 461, 3) := by decide +kernel
theorem dX10_builtIn_11 : decode prog_37_method_88_code 11 = .ok (.if_icmp .ge 41, 3) := by decide +kernel
theorem dX10_builtIn_14 : decode prog_37_method_88_code 14 = .ok (.iload_n 3, 1) := by decide +kernel
theorem dX10_builtIn_15 : decode prog_37_method_88_code 15 = .ok (.ifCond .eq 29, 3) := by decide +kernel
theorem dX10_builtIn_18 : decode prog_37_method_88_code 18 = .ok (.iload_n 1, 1) := by decide +kernel
theorem dX10_builtIn_19 : decode prog_37_method_88_code 19 = .ok (.iload 4, 2) := by decide +kernel
theorem dX10_builtIn_21 : decode prog_37_method_88_code 21 = .ok (.iload_n 2, 1) := by decide +kernel
theorem dX10_builtIn_22 : decode prog_37_method_88_code 22 = .ok (.isub, 1) := by decide +kernel
theorem dX10_builtIn_23 : decode prog_37_method_88_code 23 = .ok (.aload_n 0, 1) := by decide +kernel
theorem dX10_builtIn_24 : decode prog_37_method_88_code 24 = .ok (.iload 4, 2) := by decide +kernel
theorem dX10_builtIn_26 : decode prog_37_method_88_code 26 = .ok (.invokevirtual 631, 3) := by decide +kernel
theorem dX10_builtIn_29 : decode prog_37_method_88_code 29 = .ok (.aload_n 0, 1) := by decide +kernel
theorem dX10_builtIn_30 : decode prog_37_method_88_code 30 = .ok (.iload_n 2, 1) := by decide +kernel
theorem dX10_builtIn_31 : decode prog_37_method_88_code 31 = .ok (.invokevirtual 631, 3) := by decide +kernel
theorem dX10_builtIn_34 : decode prog_37_method_88_code 34 = .ok (.invokestatic 647, 3) := by decide +kernel
theorem dX10_builtIn_37 : decode prog_37_method_88_code 37 = .ok (.ifCond .eq 7, 3) := by decide +kernel
theorem dX10_builtIn_40 : decode prog_37_method_88_code 40 = .ok (.iconst 1, 1) := by decide +kernel
theorem dX10_builtIn_41 : decode prog_37_method_88_code 41 = .ok (.goto 4, 3) := by decide +kernel
theorem dX10_builtIn_44 : decode prog_37_method_88_code 44 = .ok (.iconst 0, 1) := by decide +kernel
theorem dX10_builtIn_45 : decode prog_37_method_88_code 45 = .ok (.istore_n 3, 1) := by decide +kernel
theorem dX10_builtIn_46 : decode prog_37_method_88_code 46 = .ok (.iinc 4 1, 3) := by decide +kernel
theorem dX10_builtIn_49 : decode prog_37_method_88_code 49 = .ok (.goto (-44), 3) := by decide +kernel
theorem dX10_builtIn_52 : decode prog_37_method_88_code 52 = .ok (.iload_n 3, 1) := by decide +kernel
theorem dX10_builtIn_53 : decode prog_37_method_88_code 53 = .ok (.ifCond .ne 13, 3) := by decide +kernel
theorem dX10_builtIn_56 : decode prog_37_method_88_code 56 = .ok (.aload_n 0, 1) := by decide +kernel
theorem dX10_builtIn_57 : decode prog_37_method_88_code 57 = .ok (.iconst 3, 1) := by decide +kernel
theorem dX10_builtIn_58 : decode prog_37_method_88_code 58 = .ok (.aload_n 0, 1) := by decide +kernel
theorem dX10_builtIn_59 : decode prog_37_method_88_code 59 = .ok (.getfield 507, 3) := by decide +kernel
theorem dX10_builtIn_62 : decode prog_37_method_88_code 62 = .ok (.invokevirtual 510, 3) := by decide +kernel
theorem dX10_builtIn_65 : decode prog_37_method_88_code 65 = .ok (.return_, 1) := by decide +kernel
theorem dX10_builtIn_66 : decode prog_37_method_88_code 66 = .ok (.aload_n 0, 1) := by decide +kernel
theorem dX10_builtIn_67 : decode prog_37_method_88_code 67 = .ok (.getfield 189, 3) := by decide +kernel
theorem dX10_builtIn_70 : decode prog_37_method_88_code 70 = .ok (.iload_n 2, 1) := by decide +kernel
theorem dX10_builtIn_71 : decode prog_37_method_88_code 71 = .ok (.iaload, 1) := by decide +kernel
theorem dX10_builtIn_72 : decode prog_37_method_88_code 72 = .ok (.istore 4, 2) := by decide +kernel
theorem dX10_builtIn_74 : decode prog_37_method_88_code 74 = .ok (.aload_n 0, 1) := by decide +kernel
theorem dX10_builtIn_75 : decode prog_37_method_88_code 75 = .ok (.getfield 189, 3) := by decide +kernel
theorem dX10_builtIn_78 : decode prog_37_method_88_code 78 = .ok (.iload_n 2, 1) := by decide +kernel
theorem dX10_builtIn_79 : decode prog_37_method_88_code 79 = .ok (.iconst 1, 1) := by decide +kernel
theorem dX10_builtIn_80 : decode prog_37_method_88_code 80 = .ok (.iadd, 1) := by decide +kernel
theorem dX10_builtIn_81 : decode prog_37_method_88_code 81 = .ok (.iaload, 1) := by decide +kernel
theorem dX10_builtIn_82 : decode prog_37_method_88_code 82 = .ok (.istore 5, 2) := by decide +kernel
theorem dX10_builtIn_84 : decode prog_37_method_88_code 84 = .ok (.iload_n 1, 1) := by decide +kernel
theorem dX10_builtIn_85 : decode prog_37_method_88_code 85 = .ok (.iconst 5, 1) := by decide +kernel
theorem dX10_builtIn_86 : decode prog_37_method_88_code 86 = .ok (.if_icmp .ne 12, 3) := by decide +kernel
theorem dX10_builtIn_89 : decode prog_37_method_88_code 89 = .ok (.aload_n 0, 1) := by decide +kernel
theorem dX10_builtIn_90 : decode prog_37_method_88_code 90 = .ok (.iconst 3, 1) := by decide +kernel
theorem dX10_builtIn_91 : decode prog_37_method_88_code 91 = .ok (.iload_n 2, 1) := by decide +kernel
theorem dX10_builtIn_92 : decode prog_37_method_88_code 92 = .ok (.invokevirtual 628, 3) := by decide +kernel
theorem dX10_builtIn_95 : decode prog_37_method_88_code 95 = .ok (.goto 65, 3) := by decide +kernel
theorem dX10_builtIn_98 : decode prog_37_method_88_code 98 = .ok (.iload_n 1, 1) := by decide +kernel
theorem dX10_builtIn_99 : decode prog_37_method_88_code 99 = .ok (.iconst 5, 1) := by decide +kernel
theorem dX10_builtIn_100 : decode prog_37_method_88_code 100 = .ok (.if_icmp .ge 16, 3) := by decide +kernel
theorem dX10_builtIn_103 : decode prog_37_method_88_code 103 = .ok (.aload_n 0, 1) := by decide +kernel
theorem dX10_builtIn_104 : decode prog_37_method_88_code 104 = .ok (.iload_n 1, 1) := by decide +kernel
theorem dX10_builtIn_105 : decode prog_37_method_88_code 105 = .ok (.iload 4, 2) := by decide +kernel
theorem dX10_builtIn_107 : decode prog_37_method_88_code 107 = .ok (.iload 5, 2) := by decide +kernel
theorem dX10_builtIn_109 : decode prog_37_method_88_code 109 = .ok (.iload_n 2, 1) := by decide +kernel
theorem dX10_builtIn_110 : decode prog_37_method_88_code 110 = .ok (.invokevirtual 651, 3) := by decide +kernel
theorem dX10_builtIn_113 : decode prog_37_method_88_code 113 = .ok (.goto 47, 3) := by decide +kernel
theorem dX10_builtIn_116 : decode prog_37_method_88_code 116 = .ok (.iload_n 1, 1) := by decide +kernel
theorem dX10_builtIn_117 : decode prog_37_method_88_code 117 = .ok (.bipush 16, 2) := by decide +kernel
theorem dX10_builtIn_119 : decode prog_37_method_88_code 119 = .ok (.if_icmp .ge 14, 3) := by decide +kernel
theorem dX10_builtIn_122 : decode prog_37_method_88_code 122 = .ok (.aload_n 0, 1) := by decide +kernel
theorem dX10_builtIn_123 : decode prog_37_method_88_code 123 = .ok (.iload_n 1, 1) := by decide +kernel
theorem dX10_builtIn_124 : decode prog_37_method_88_code 124 = .ok (.iload 4, 2) := by decide +kernel
theorem dX10_builtIn_126 : decode prog_37_method_88_code 126 = .ok (.iload_n 2, 1) := by decide +kernel
theorem dX10_builtIn_127 : decode prog_37_method_88_code 127 = .ok (.invokevirtual 654, 3) := by decide +kernel
theorem dX10_builtIn_130 : decode prog_37_method_88_code 130 = .ok (.goto 30, 3) := by decide +kernel
theorem dX10_builtIn_133 : decode prog_37_method_88_code 133 = .ok (.iload_n 1, 1) := by decide +kernel
theorem dX10_builtIn_134 : decode prog_37_method_88_code 134 = .ok (.bipush 19, 2) := by decide +kernel
theorem dX10_builtIn_136 : decode prog_37_method_88_code 136 = .ok (.if_icmp .ge 14, 3) := by decide +kernel
theorem dX10_builtIn_139 : decode prog_37_method_88_code 139 = .ok (.aload_n 0, 1) := by decide +kernel
theorem dX10_builtIn_140 : decode prog_37_method_88_code 140 = .ok (.iload_n 1, 1) := by decide +kernel
theorem dX10_builtIn_141 : decode prog_37_method_88_code 141 = .ok (.iload 4, 2) := by decide +kernel
theorem dX10_builtIn_143 : decode prog_37_method_88_code 143 = .ok (.iload_n 2, 1) := by decide +kernel
theorem dX10_builtIn_144 : decode prog_37_method_88_code 144 = .ok (.invokevirtual 657, 3) := by decide +kernel
theorem dX10_builtIn_147 : decode prog_37_method_88_code 147 = .ok (.goto 13, 3) := by decide +kernel
theorem dX10_builtIn_150 : decode prog_37_method_88_code 150 = .ok (.aload_n 0, 1) := by decide +kernel
theorem dX10_builtIn_151 : decode prog_37_method_88_code 151 = .ok (.iload_n 1, 1) := by decide +kernel
theorem dX10_builtIn_152 : decode prog_37_method_88_code 152 = .ok (.iload 4, 2) := by decide +kernel
theorem dX10_builtIn_154 : decode prog_37_method_88_code 154 = .ok (.iload 5, 2) := by decide +kernel
theorem dX10_builtIn_156 : decode prog_37_method_88_code 156 = .ok (.iload_n 2, 1) := by decide +kernel
theorem dX10_builtIn_157 : decode prog_37_method_88_code 157 = .ok (.invokevirtual 660, 3) := by decide +kernel
theorem dX10_builtIn_160 : decode prog_37_method_88_code 160 = .ok (.return_, 1) := by decide +kernel
theorem dX10_suits_0 : decode prog_37_method_87_code 0 = .ok (.iload_n 0, 1) := by decide +kernel
theorem dX10_suits_1 : decode prog_37_method_87_code 1 = .ok (.iconst 5, 1) := by decide +kernel
theorem dX10_suits_2 : decode prog_37_method_87_code 2 = .ok (.if_icmp .eq 15, 3) := by decide +kernel
theorem dX10_suits_5 : decode prog_37_method_87_code 5 = .ok (.iload_n 0, 1) := by decide +kernel
theorem dX10_suits_6 : decode prog_37_method_87_code 6 = .ok (.bipush 8, 2) := by decide +kernel
theorem dX10_suits_8 : decode prog_37_method_87_code 8 = .ok (.if_icmp .eq 9, 3) := by decide +kernel
theorem dX10_suits_11 : decode prog_37_method_87_code 11 = .ok (.iload_n 0, 1) := by decide +kernel
theorem dX10_suits_12 : decode prog_37_method_87_code 12 = .ok (.bipush 27, 2) := by decide +kernel
theorem dX10_suits_14 : decode prog_37_method_87_code 14 = .ok (.if_icmp .ne 5, 3) := by decide +kernel
theorem dX10_suits_17 : decode prog_37_method_87_code 17 = .ok (.iconst 1, 1) := by decide +kernel
theorem dX10_suits_18 : decode prog_37_method_87_code 18 = .ok (.ireturn, 1) := by decide +kernel
theorem dX10_suits_19 : decode prog_37_method_87_code 19 = .ok (.iload_n 1, 1) := by decide +kernel
theorem dX10_suits_20 : decode prog_37_method_87_code 20 = .ok (.ifCond .ne 195, 3) := by decide +kernel
theorem dX10_suits_23 : decode prog_37_method_87_code 23 = .ok (.iload_n 0, 1) := by decide +kernel
theorem dX10_suits_24 : decode prog_37_method_87_code 24 = .ok (.iconst 4, 1) := by decide +kernel
theorem dX10_suits_25 : decode prog_37_method_87_code 25 = .ok (.if_icmp .lt 15, 3) := by decide +kernel
theorem dX10_suits_28 : decode prog_37_method_87_code 28 = .ok (.iload_n 0, 1) := by decide +kernel
theorem dX10_suits_29 : decode prog_37_method_87_code 29 = .ok (.bipush 20, 2) := by decide +kernel
theorem dX10_suits_31 : decode prog_37_method_87_code 31 = .ok (.if_icmp .eq 9, 3) := by decide +kernel
theorem dX10_suits_34 : decode prog_37_method_87_code 34 = .ok (.iload_n 0, 1) := by decide +kernel
theorem dX10_suits_35 : decode prog_37_method_87_code 35 = .ok (.bipush 21, 2) := by decide +kernel
theorem dX10_suits_37 : decode prog_37_method_87_code 37 = .ok (.if_icmp .ne 13, 3) := by decide +kernel
theorem dX10_suits_40 : decode prog_37_method_87_code 40 = .ok (.iload_n 2, 1) := by decide +kernel
theorem dX10_suits_41 : decode prog_37_method_87_code 41 = .ok (.ifCond .ne 7, 3) := by decide +kernel
theorem dX10_suits_44 : decode prog_37_method_87_code 44 = .ok (.iconst 1, 1) := by decide +kernel
theorem dX10_suits_45 : decode prog_37_method_87_code 45 = .ok (.goto 4, 3) := by decide +kernel
theorem dX10_suits_48 : decode prog_37_method_87_code 48 = .ok (.iconst 0, 1) := by decide +kernel
theorem dX10_suits_49 : decode prog_37_method_87_code 49 = .ok (.ireturn, 1) := by decide +kernel
theorem dX10_suits_50 : decode prog_37_method_87_code 50 = .ok (.iload_n 0, 1) := by decide +kernel
theorem dX10_suits_51 : decode prog_37_method_87_code 51 = .ok (.iconst 4, 1) := by decide +kernel
theorem dX10_suits_52 : decode prog_37_method_87_code 52 = .ok (.if_icmp .eq 33, 3) := by decide +kernel
theorem dX10_suits_55 : decode prog_37_method_87_code 55 = .ok (.iload_n 0, 1) := by decide +kernel
theorem dX10_suits_56 : decode prog_37_method_87_code 56 = .ok (.bipush 14, 2) := by decide +kernel
theorem dX10_suits_58 : decode prog_37_method_87_code 58 = .ok (.if_icmp .eq 27, 3) := by decide +kernel
theorem dX10_suits_61 : decode prog_37_method_87_code 61 = .ok (.iload_n 0, 1) := by decide +kernel
theorem dX10_suits_62 : decode prog_37_method_87_code 62 = .ok (.bipush 18, 2) := by decide +kernel
theorem dX10_suits_64 : decode prog_37_method_87_code 64 = .ok (.if_icmp .eq 21, 3) := by decide +kernel
theorem dX10_suits_67 : decode prog_37_method_87_code 67 = .ok (.iload_n 0, 1) := by decide +kernel
theorem dX10_suits_68 : decode prog_37_method_87_code 68 = .ok (.bipush 22, 2) := by decide +kernel
theorem dX10_suits_70 : decode prog_37_method_87_code 70 = .ok (.if_icmp .eq 15, 3) := by decide +kernel
theorem dX10_suits_73 : decode prog_37_method_87_code 73 = .ok (.iload_n 0, 1) := by decide +kernel
theorem dX10_suits_74 : decode prog_37_method_87_code 74 = .ok (.bipush 24, 2) := by decide +kernel
theorem dX10_suits_76 : decode prog_37_method_87_code 76 = .ok (.if_icmp .eq 9, 3) := by decide +kernel
theorem dX10_suits_79 : decode prog_37_method_87_code 79 = .ok (.iload_n 0, 1) := by decide +kernel
theorem dX10_suits_80 : decode prog_37_method_87_code 80 = .ok (.bipush 26, 2) := by decide +kernel
theorem dX10_suits_82 : decode prog_37_method_87_code 82 = .ok (.if_icmp .ne 14, 3) := by decide +kernel
theorem dX10_suits_85 : decode prog_37_method_87_code 85 = .ok (.iload_n 2, 1) := by decide +kernel
theorem dX10_suits_86 : decode prog_37_method_87_code 86 = .ok (.iconst 1, 1) := by decide +kernel
theorem dX10_suits_87 : decode prog_37_method_87_code 87 = .ok (.if_icmp .ne 7, 3) := by decide +kernel
theorem dX10_suits_90 : decode prog_37_method_87_code 90 = .ok (.iconst 1, 1) := by decide +kernel
theorem dX10_suits_91 : decode prog_37_method_87_code 91 = .ok (.goto 4, 3) := by decide +kernel
theorem dX10_suits_94 : decode prog_37_method_87_code 94 = .ok (.iconst 0, 1) := by decide +kernel
theorem dX10_suits_95 : decode prog_37_method_87_code 95 = .ok (.ireturn, 1) := by decide +kernel
theorem dX10_suits_96 : decode prog_37_method_87_code 96 = .ok (.iload_n 0, 1) := by decide +kernel
theorem dX10_suits_97 : decode prog_37_method_87_code 97 = .ok (.bipush 6, 2) := by decide +kernel
theorem dX10_suits_99 : decode prog_37_method_87_code 99 = .ok (.if_icmp .eq 15, 3) := by decide +kernel
theorem dX10_suits_102 : decode prog_37_method_87_code 102 = .ok (.iload_n 0, 1) := by decide +kernel
theorem dX10_suits_103 : decode prog_37_method_87_code 103 = .ok (.bipush 15, 2) := by decide +kernel
theorem dX10_suits_105 : decode prog_37_method_87_code 105 = .ok (.if_icmp .eq 9, 3) := by decide +kernel
theorem dX10_suits_108 : decode prog_37_method_87_code 108 = .ok (.iload_n 0, 1) := by decide +kernel
theorem dX10_suits_109 : decode prog_37_method_87_code 109 = .ok (.bipush 23, 2) := by decide +kernel
theorem dX10_suits_111 : decode prog_37_method_87_code 111 = .ok (.if_icmp .ne 13, 3) := by decide +kernel
theorem dX10_suits_114 : decode prog_37_method_87_code 114 = .ok (.iload_n 2, 1) := by decide +kernel
theorem dX10_suits_115 : decode prog_37_method_87_code 115 = .ok (.ifCond .le 7, 3) := by decide +kernel
theorem dX10_suits_118 : decode prog_37_method_87_code 118 = .ok (.iconst 1, 1) := by decide +kernel
theorem dX10_suits_119 : decode prog_37_method_87_code 119 = .ok (.goto 4, 3) := by decide +kernel
theorem dX10_suits_122 : decode prog_37_method_87_code 122 = .ok (.iconst 0, 1) := by decide +kernel
theorem dX10_suits_123 : decode prog_37_method_87_code 123 = .ok (.ireturn, 1) := by decide +kernel
theorem dX10_suits_124 : decode prog_37_method_87_code 124 = .ok (.iload_n 0, 1) := by decide +kernel
theorem dX10_suits_125 : decode prog_37_method_87_code 125 = .ok (.bipush 7, 2) := by decide +kernel
theorem dX10_suits_127 : decode prog_37_method_87_code 127 = .ok (.if_icmp .eq 15, 3) := by decide +kernel
theorem dX10_suits_130 : decode prog_37_method_87_code 130 = .ok (.iload_n 0, 1) := by decide +kernel
theorem dX10_suits_131 : decode prog_37_method_87_code 131 = .ok (.bipush 17, 2) := by decide +kernel
theorem dX10_suits_133 : decode prog_37_method_87_code 133 = .ok (.if_icmp .eq 9, 3) := by decide +kernel
theorem dX10_suits_136 : decode prog_37_method_87_code 136 = .ok (.iload_n 0, 1) := by decide +kernel
theorem dX10_suits_137 : decode prog_37_method_87_code 137 = .ok (.bipush 25, 2) := by decide +kernel
theorem dX10_suits_139 : decode prog_37_method_87_code 139 = .ok (.if_icmp .ne 14, 3) := by decide +kernel
theorem dX10_suits_142 : decode prog_37_method_87_code 142 = .ok (.iload_n 2, 1) := by decide +kernel
theorem dX10_suits_143 : decode prog_37_method_87_code 143 = .ok (.iconst 2, 1) := by decide +kernel
theorem dX10_suits_144 : decode prog_37_method_87_code 144 = .ok (.if_icmp .ne 7, 3) := by decide +kernel
theorem dX10_suits_147 : decode prog_37_method_87_code 147 = .ok (.iconst 1, 1) := by decide +kernel
theorem dX10_suits_148 : decode prog_37_method_87_code 148 = .ok (.goto 4, 3) := by decide +kernel
theorem dX10_suits_151 : decode prog_37_method_87_code 151 = .ok (.iconst 0, 1) := by decide +kernel
theorem dX10_suits_152 : decode prog_37_method_87_code 152 = .ok (.ireturn, 1) := by decide +kernel
theorem dX10_suits_153 : decode prog_37_method_87_code 153 = .ok (.iload_n 0, 1) := by decide +kernel
theorem dX10_suits_154 : decode prog_37_method_87_code 154 = .ok (.bipush 9, 2) := by decide +kernel
theorem dX10_suits_156 : decode prog_37_method_87_code 156 = .ok (.if_icmp .ne 14, 3) := by decide +kernel
theorem dX10_suits_159 : decode prog_37_method_87_code 159 = .ok (.iload_n 2, 1) := by decide +kernel
theorem dX10_suits_160 : decode prog_37_method_87_code 160 = .ok (.iconst 3, 1) := by decide +kernel
theorem dX10_suits_161 : decode prog_37_method_87_code 161 = .ok (.if_icmp .ge 7, 3) := by decide +kernel
theorem dX10_suits_164 : decode prog_37_method_87_code 164 = .ok (.iconst 1, 1) := by decide +kernel
theorem dX10_suits_165 : decode prog_37_method_87_code 165 = .ok (.goto 4, 3) := by decide +kernel
theorem dX10_suits_168 : decode prog_37_method_87_code 168 = .ok (.iconst 0, 1) := by decide +kernel
theorem dX10_suits_169 : decode prog_37_method_87_code 169 = .ok (.ireturn, 1) := by decide +kernel
theorem dX10_suits_170 : decode prog_37_method_87_code 170 = .ok (.iload_n 0, 1) := by decide +kernel
theorem dX10_suits_171 : decode prog_37_method_87_code 171 = .ok (.bipush 10, 2) := by decide +kernel
theorem dX10_suits_173 : decode prog_37_method_87_code 173 = .ok (.if_icmp .lt 25, 3) := by decide +kernel
theorem dX10_suits_176 : decode prog_37_method_87_code 176 = .ok (.iload_n 0, 1) := by decide +kernel
theorem dX10_suits_177 : decode prog_37_method_87_code 177 = .ok (.bipush 13, 2) := by decide +kernel
theorem dX10_suits_179 : decode prog_37_method_87_code 179 = .ok (.if_icmp .gt 19, 3) := by decide +kernel
theorem dX10_suits_182 : decode prog_37_method_87_code 182 = .ok (.iload_n 2, 1) := by decide +kernel
theorem dX10_suits_183 : decode prog_37_method_87_code 183 = .ok (.iconst 1, 1) := by decide +kernel
theorem dX10_suits_184 : decode prog_37_method_87_code 184 = .ok (.if_icmp .eq 8, 3) := by decide +kernel
theorem dX10_suits_187 : decode prog_37_method_87_code 187 = .ok (.iload_n 2, 1) := by decide +kernel
theorem dX10_suits_188 : decode prog_37_method_87_code 188 = .ok (.iconst 2, 1) := by decide +kernel
theorem dX10_suits_189 : decode prog_37_method_87_code 189 = .ok (.if_icmp .ne 7, 3) := by decide +kernel
theorem dX10_suits_192 : decode prog_37_method_87_code 192 = .ok (.iconst 1, 1) := by decide +kernel
theorem dX10_suits_193 : decode prog_37_method_87_code 193 = .ok (.goto 4, 3) := by decide +kernel
theorem dX10_suits_196 : decode prog_37_method_87_code 196 = .ok (.iconst 0, 1) := by decide +kernel
theorem dX10_suits_197 : decode prog_37_method_87_code 197 = .ok (.ireturn, 1) := by decide +kernel
theorem dX10_suits_198 : decode prog_37_method_87_code 198 = .ok (.iload_n 0, 1) := by decide +kernel
theorem dX10_suits_199 : decode prog_37_method_87_code 199 = .ok (.bipush 16, 2) := by decide +kernel
theorem dX10_suits_201 : decode prog_37_method_87_code 201 = .ok (.if_icmp .ne 8, 3) := by decide +kernel
theorem dX10_suits_204 : decode prog_37_method_87_code 204 = .ok (.iload_n 2, 1) := by decide +kernel
theorem dX10_suits_205 : decode prog_37_method_87_code 205 = .ok (.iconst 1, 1) := by decide +kernel
theorem dX10_suits_206 : decode prog_37_method_87_code 206 = .ok (.if_icmp .le 7, 3) := by decide +kernel
theorem dX10_suits_209 : decode prog_37_method_87_code 209 = .ok (.iconst 1, 1) := by decide +kernel
theorem dX10_suits_210 : decode prog_37_method_87_code 210 = .ok (.goto 4, 3) := by decide +kernel
theorem dX10_suits_213 : decode prog_37_method_87_code 213 = .ok (.iconst 0, 1) := by decide +kernel
theorem dX10_suits_214 : decode prog_37_method_87_code 214 = .ok (.ireturn, 1) := by decide +kernel
theorem dX10_suits_215 : decode prog_37_method_87_code 215 = .ok (.iload_n 0, 1) := by decide +kernel
theorem dX10_suits_216 : decode prog_37_method_87_code 216 = .ok (.iconst 3, 1) := by decide +kernel
theorem dX10_suits_217 : decode prog_37_method_87_code 217 = .ok (.if_icmp .eq 9, 3) := by decide +kernel
theorem dX10_suits_220 : decode prog_37_method_87_code 220 = .ok (.iload_n 0, 1) := by decide +kernel
theorem dX10_suits_221 : decode prog_37_method_87_code 221 = .ok (.bipush 25, 2) := by decide +kernel
theorem dX10_suits_223 : decode prog_37_method_87_code 223 = .ok (.if_icmp .ne 13, 3) := by decide +kernel
theorem dX10_suits_226 : decode prog_37_method_87_code 226 = .ok (.iload_n 2, 1) := by decide +kernel
theorem dX10_suits_227 : decode prog_37_method_87_code 227 = .ok (.ifCond .ne 7, 3) := by decide +kernel
theorem dX10_suits_230 : decode prog_37_method_87_code 230 = .ok (.iconst 1, 1) := by decide +kernel
theorem dX10_suits_231 : decode prog_37_method_87_code 231 = .ok (.goto 4, 3) := by decide +kernel
theorem dX10_suits_234 : decode prog_37_method_87_code 234 = .ok (.iconst 0, 1) := by decide +kernel
theorem dX10_suits_235 : decode prog_37_method_87_code 235 = .ok (.ireturn, 1) := by decide +kernel
theorem dX10_suits_236 : decode prog_37_method_87_code 236 = .ok (.iload_n 0, 1) := by decide +kernel
theorem dX10_suits_237 : decode prog_37_method_87_code 237 = .ok (.bipush 20, 2) := by decide +kernel
theorem dX10_suits_239 : decode prog_37_method_87_code 239 = .ok (.if_icmp .eq 9, 3) := by decide +kernel
theorem dX10_suits_242 : decode prog_37_method_87_code 242 = .ok (.iload_n 0, 1) := by decide +kernel
theorem dX10_suits_243 : decode prog_37_method_87_code 243 = .ok (.bipush 21, 2) := by decide +kernel
theorem dX10_suits_245 : decode prog_37_method_87_code 245 = .ok (.if_icmp .ne 13, 3) := by decide +kernel
theorem dX10_suits_248 : decode prog_37_method_87_code 248 = .ok (.iload_n 2, 1) := by decide +kernel
theorem dX10_suits_249 : decode prog_37_method_87_code 249 = .ok (.ifCond .le 7, 3) := by decide +kernel
theorem dX10_suits_252 : decode prog_37_method_87_code 252 = .ok (.iconst 1, 1) := by decide +kernel
theorem dX10_suits_253 : decode prog_37_method_87_code 253 = .ok (.goto 4, 3) := by decide +kernel
theorem dX10_suits_256 : decode prog_37_method_87_code 256 = .ok (.iconst 0, 1) := by decide +kernel
theorem dX10_suits_257 : decode prog_37_method_87_code 257 = .ok (.ireturn, 1) := by decide +kernel
theorem dX10_suits_258 : decode prog_37_method_87_code 258 = .ok (.iload_n 0, 1) := by decide +kernel
theorem dX10_suits_259 : decode prog_37_method_87_code 259 = .ok (.bipush 24, 2) := by decide +kernel
theorem dX10_suits_261 : decode prog_37_method_87_code 261 = .ok (.if_icmp .ne 14, 3) := by decide +kernel
theorem dX10_suits_264 : decode prog_37_method_87_code 264 = .ok (.iload_n 2, 1) := by decide +kernel
theorem dX10_suits_265 : decode prog_37_method_87_code 265 = .ok (.iconst 2, 1) := by decide +kernel
theorem dX10_suits_266 : decode prog_37_method_87_code 266 = .ok (.if_icmp .ge 7, 3) := by decide +kernel
theorem dX10_suits_269 : decode prog_37_method_87_code 269 = .ok (.iconst 1, 1) := by decide +kernel
theorem dX10_suits_270 : decode prog_37_method_87_code 270 = .ok (.goto 4, 3) := by decide +kernel
theorem dX10_suits_273 : decode prog_37_method_87_code 273 = .ok (.iconst 0, 1) := by decide +kernel
theorem dX10_suits_274 : decode prog_37_method_87_code 274 = .ok (.ireturn, 1) := by decide +kernel
theorem dX10_suits_275 : decode prog_37_method_87_code 275 = .ok (.iload_n 0, 1) := by decide +kernel
theorem dX10_suits_276 : decode prog_37_method_87_code 276 = .ok (.bipush 19, 2) := by decide +kernel
theorem dX10_suits_278 : decode prog_37_method_87_code 278 = .ok (.if_icmp .ne 41, 3) := by decide +kernel
theorem dX10_suits_281 : decode prog_37_method_87_code 281 = .ok (.iload_n 3, 1) := by decide +kernel
theorem dX10_suits_282 : decode prog_37_method_87_code 282 = .ok (.iconst 3, 1) := by decide +kernel
theorem dX10_suits_283 : decode prog_37_method_87_code 283 = .ok (.if_icmp .eq 30, 3) := by decide +kernel
theorem dX10_suits_286 : decode prog_37_method_87_code 286 = .ok (.iload_n 2, 1) := by decide +kernel
theorem dX10_suits_287 : decode prog_37_method_87_code 287 = .ok (.iconst 3, 1) := by decide +kernel
theorem dX10_suits_288 : decode prog_37_method_87_code 288 = .ok (.if_icmp .eq 25, 3) := by decide +kernel
theorem dX10_suits_291 : decode prog_37_method_87_code 291 = .ok (.iload_n 3, 1) := by decide +kernel
theorem dX10_suits_292 : decode prog_37_method_87_code 292 = .ok (.iconst 2, 1) := by decide +kernel
theorem dX10_suits_293 : decode prog_37_method_87_code 293 = .ok (.if_icmp .ne 10, 3) := by decide +kernel
theorem dX10_suits_296 : decode prog_37_method_87_code 296 = .ok (.iload_n 2, 1) := by decide +kernel
theorem dX10_suits_297 : decode prog_37_method_87_code 297 = .ok (.ifCond .le 20, 3) := by decide +kernel
theorem dX10_suits_300 : decode prog_37_method_87_code 300 = .ok (.goto 13, 3) := by decide +kernel
theorem dX10_suits_303 : decode prog_37_method_87_code 303 = .ok (.iload_n 2, 1) := by decide +kernel
theorem dX10_suits_304 : decode prog_37_method_87_code 304 = .ok (.iconst 2, 1) := by decide +kernel
theorem dX10_suits_305 : decode prog_37_method_87_code 305 = .ok (.if_icmp .ne 8, 3) := by decide +kernel
theorem dX10_suits_308 : decode prog_37_method_87_code 308 = .ok (.iload_n 3, 1) := by decide +kernel
theorem dX10_suits_309 : decode prog_37_method_87_code 309 = .ok (.iconst 1, 1) := by decide +kernel
theorem dX10_suits_310 : decode prog_37_method_87_code 310 = .ok (.if_icmp .ne 7, 3) := by decide +kernel
theorem dX10_suits_313 : decode prog_37_method_87_code 313 = .ok (.iconst 1, 1) := by decide +kernel
theorem dX10_suits_314 : decode prog_37_method_87_code 314 = .ok (.goto 4, 3) := by decide +kernel
theorem dX10_suits_317 : decode prog_37_method_87_code 317 = .ok (.iconst 0, 1) := by decide +kernel
theorem dX10_suits_318 : decode prog_37_method_87_code 318 = .ok (.ireturn, 1) := by decide +kernel
theorem dX10_suits_319 : decode prog_37_method_87_code 319 = .ok (.iload_n 2, 1) := by decide +kernel
theorem dX10_suits_320 : decode prog_37_method_87_code 320 = .ok (.iconst 1, 1) := by decide +kernel
theorem dX10_suits_321 : decode prog_37_method_87_code 321 = .ok (.if_icmp .ne 7, 3) := by decide +kernel
theorem dX10_suits_324 : decode prog_37_method_87_code 324 = .ok (.iconst 1, 1) := by decide +kernel
theorem dX10_suits_325 : decode prog_37_method_87_code 325 = .ok (.goto 4, 3) := by decide +kernel
theorem dX10_suits_328 : decode prog_37_method_87_code 328 = .ok (.iconst 0, 1) := by decide +kernel
theorem dX10_suits_329 : decode prog_37_method_87_code 329 = .ok (.ireturn, 1) := by decide +kernel
theorem dX10_makes_0 : decode prog_37_method_90_code 0 = .ok (.iload_n 2, 1) := by decide +kernel
theorem dX10_makes_1 : decode prog_37_method_90_code 1 = .ok (.istore 5, 2) := by decide +kernel
theorem dX10_makes_3 : decode prog_37_method_90_code 3 = .ok (.iload_n 2, 1) := by decide +kernel
theorem dX10_makes_4 : decode prog_37_method_90_code 4 = .ok (.iload_n 1, 1) := by decide +kernel
theorem dX10_makes_5 : decode prog_37_method_90_code 5 = .ok (.iconst 2, 1) := by decide +kernel
theorem dX10_makes_6 : decode prog_37_method_90_code 6 = .ok (.if_icmp .ge 8, 3) := by decide +kernel
theorem dX10_makes_9 : decode prog_37_method_90_code 9 = .ok (.bipush 64, 2) := by decide +kernel
theorem dX10_makes_11 : decode prog_37_method_90_code 11 = .ok (.goto 5, 3) := by decide +kernel
theorem dX10_makes_14 : decode prog_37_method_90_code 14 = .ok (.bipush 20, 2) := by decide +kernel
theorem dX10_makes_16 : decode prog_37_method_90_code 16 = .ok (.if_icmp .le 7, 3) := by decide +kernel
theorem dX10_makes_19 : decode prog_37_method_90_code 19 = .ok (.iconst 1, 1) := by decide +kernel
theorem dX10_makes_20 : decode prog_37_method_90_code 20 = .ok (.goto 4, 3) := by decide +kernel
theorem dX10_makes_23 : decode prog_37_method_90_code 23 = .ok (.iconst 0, 1) := by decide +kernel
theorem dX10_makes_24 : decode prog_37_method_90_code 24 = .ok (.istore 6, 2) := by decide +kernel
theorem dX10_makes_26 : decode prog_37_method_90_code 26 = .ok (.iload_n 1, 1) := by decide +kernel
theorem dX10_makes_27 : decode prog_37_method_90_code 27 = .ok (.iconst 3, 1) := by decide +kernel
theorem dX10_makes_28 : decode prog_37_method_90_code 28 = .ok (.if_icmp .ne 53, 3) := by decide +kernel
theorem dX10_makes_31 : decode prog_37_method_90_code 31 = .ok (.iload 6, 2) := by decide +kernel
theorem dX10_makes_33 : decode prog_37_method_90_code 33 = .ok (.ifCond .ne 29, 3) := by decide +kernel
theorem dX10_makes_36 : decode prog_37_method_90_code 36 = .ok (.iload_n 3, 1) := by decide +kernel
theorem dX10_makes_37 : decode prog_37_method_90_code 37 = .ok (.bipush 64, 2) := by decide +kernel
theorem dX10_makes_39 : decode prog_37_method_90_code 39 = .ok (.if_icmp .gt 23, 3) := by decide +kernel
theorem dX10_makes_42 : decode prog_37_method_90_code 42 = .ok (.iload_n 2, 1) := by decide +kernel
theorem dX10_makes_43 : decode prog_37_method_90_code 43 = .ok (.ifCond .lt 23, 3) := by decide +kernel
theorem dX10_makes_46 : decode prog_37_method_90_code 46 = .ok (.iload_n 3, 1) := by decide +kernel
theorem dX10_makes_47 : decode prog_37_method_90_code 47 = .ok (.ifCond .lt 19, 3) := by decide +kernel
theorem dX10_makes_50 : decode prog_37_method_90_code 50 = .ok (.iload_n 2, 1) := by decide +kernel
theorem dX10_makes_51 : decode prog_37_method_90_code 51 = .ok (.i2l, 1) := by decide +kernel
theorem dX10_makes_52 : decode prog_37_method_90_code 52 = .ok (.iload_n 3, 1) := by decide +kernel
theorem dX10_makes_53 : decode prog_37_method_90_code 53 = .ok (.i2l, 1) := by decide +kernel
theorem dX10_makes_54 : decode prog_37_method_90_code 54 = .ok (.lmul, 1) := by decide +kernel
theorem dX10_makes_55 : decode prog_37_method_90_code 55 = .ok (.ldc2_w 663, 3) := by decide +kernel
theorem dX10_makes_58 : decode prog_37_method_90_code 58 = .ok (.lcmp, 1) := by decide +kernel
theorem dX10_makes_59 : decode prog_37_method_90_code 59 = .ok (.ifCond .le 7, 3) := by decide +kernel
theorem dX10_makes_62 : decode prog_37_method_90_code 62 = .ok (.iconst 1, 1) := by decide +kernel
theorem dX10_makes_63 : decode prog_37_method_90_code 63 = .ok (.goto 4, 3) := by decide +kernel
theorem dX10_makes_66 : decode prog_37_method_90_code 66 = .ok (.iconst 0, 1) := by decide +kernel
theorem dX10_makes_67 : decode prog_37_method_90_code 67 = .ok (.istore 6, 2) := by decide +kernel
theorem dX10_makes_69 : decode prog_37_method_90_code 69 = .ok (.iload_n 2, 1) := by decide +kernel
theorem dX10_makes_70 : decode prog_37_method_90_code 70 = .ok (.iload_n 3, 1) := by decide +kernel
theorem dX10_makes_71 : decode prog_37_method_90_code 71 = .ok (.if_icmp .ge 7, 3) := by decide +kernel
theorem dX10_makes_74 : decode prog_37_method_90_code 74 = .ok (.iload_n 2, 1) := by decide +kernel
theorem dX10_makes_75 : decode prog_37_method_90_code 75 = .ok (.goto 4, 3) := by decide +kernel
theorem dX10_makes_78 : decode prog_37_method_90_code 78 = .ok (.iload_n 3, 1) := by decide +kernel
theorem dX10_makes_79 : decode prog_37_method_90_code 79 = .ok (.istore 5, 2) := by decide +kernel
theorem dX10_makes_81 : decode prog_37_method_90_code 81 = .ok (.iload_n 1, 1) := by decide +kernel
theorem dX10_makes_82 : decode prog_37_method_90_code 82 = .ok (.iconst 4, 1) := by decide +kernel
theorem dX10_makes_83 : decode prog_37_method_90_code 83 = .ok (.if_icmp .ne 136, 3) := by decide +kernel
theorem dX10_makes_86 : decode prog_37_method_90_code 86 = .ok (.iconst 0, 1) := by decide +kernel
theorem dX10_makes_87 : decode prog_37_method_90_code 87 = .ok (.istore 7, 2) := by decide +kernel
theorem dX10_makes_89 : decode prog_37_method_90_code 89 = .ok (.aload_n 0, 1) := by decide +kernel
theorem dX10_makes_90 : decode prog_37_method_90_code 90 = .ok (.iload_n 2, 1) := by decide +kernel
theorem dX10_makes_91 : decode prog_37_method_90_code 91 = .ok (.invokevirtual 477, 3) := by decide +kernel
theorem dX10_makes_94 : decode prog_37_method_90_code 94 = .ok (.bipush 20, 2) := by decide +kernel
theorem dX10_makes_96 : decode prog_37_method_90_code 96 = .ok (.if_icmp .le 7, 3) := by decide +kernel
theorem dX10_makes_99 : decode prog_37_method_90_code 99 = .ok (.iconst 1, 1) := by decide +kernel
theorem dX10_makes_100 : decode prog_37_method_90_code 100 = .ok (.goto 4, 3) := by decide +kernel
theorem dX10_makes_103 : decode prog_37_method_90_code 103 = .ok (.iconst 0, 1) := by decide +kernel
theorem dX10_makes_104 : decode prog_37_method_90_code 104 = .ok (.istore 6, 2) := by decide +kernel
theorem dX10_makes_106 : decode prog_37_method_90_code 106 = .ok (.iconst 0, 1) := by decide +kernel
theorem dX10_makes_107 : decode prog_37_method_90_code 107 = .ok (.istore 5, 2) := by decide +kernel
theorem dX10_makes_109 : decode prog_37_method_90_code 109 = .ok (.iconst 0, 1) := by decide +kernel
theorem dX10_makes_110 : decode prog_37_method_90_code 110 = .ok (.istore 8, 2) := by decide +kernel
theorem dX10_makes_112 : decode prog_37_method_90_code 112 = .ok (.iload 8, 2) := by decide +kernel
theorem dX10_makes_114 : decode prog_37_method_90_code 114 = .ok (.aload_n 0, 1) := by decide +kernel
theorem dX10_makes_115 : decode prog_37_method_90_code 115 = .ok (.iload_n 2, 1) := by decide +kernel
theorem dX10_makes_116 : decode prog_37_method_90_code 116 = .ok (.invokevirtual 477, 3) := by decide +kernel
theorem dX10_makes_119 : decode prog_37_method_90_code 119 = .ok (.if_icmp .ge 80, 3) := by decide +kernel
theorem dX10_makes_122 : decode prog_37_method_90_code 122 = .ok (.iload 6, 2) := by decide +kernel
theorem dX10_makes_124 : decode prog_37_method_90_code 124 = .ok (.ifCond .ne 75, 3) := by decide +kernel
theorem dX10_makes_127 : decode prog_37_method_90_code 127 = .ok (.aload_n 0, 1) := by decide +kernel
theorem dX10_makes_128 : decode prog_37_method_90_code 128 = .ok (.getfield 183, 3) := by decide +kernel
theorem dX10_makes_131 : decode prog_37_method_90_code 131 = .ok (.iload_n 2, 1) := by decide +kernel
theorem dX10_makes_132 : decode prog_37_method_90_code 132 = .ok (.iconst 2, 1) := by decide +kernel
theorem dX10_makes_133 : decode prog_37_method_90_code 133 = .ok (.iadd, 1) := by decide +kernel
theorem dX10_makes_134 : decode prog_37_method_90_code 134 = .ok (.iload 8, 2) := by decide +kernel
theorem dX10_makes_136 : decode prog_37_method_90_code 136 = .ok (.iadd, 1) := by decide +kernel
theorem dX10_makes_137 : decode prog_37_method_90_code 137 = .ok (.iaload, 1) := by decide +kernel
theorem dX10_makes_138 : decode prog_37_method_90_code 138 = .ok (.istore 9, 2) := by decide +kernel
theorem dX10_makes_140 : decode prog_37_method_90_code 140 = .ok (.iload 9, 2) := by decide +kernel
theorem dX10_makes_142 : decode prog_37_method_90_code 142 = .ok (.bipush 64, 2) := by decide +kernel
theorem dX10_makes_144 : decode prog_37_method_90_code 144 = .ok (.if_icmp .le 7, 3) := by decide +kernel
theorem dX10_makes_147 : decode prog_37_method_90_code 147 = .ok (.iconst 1, 1) := by decide +kernel
theorem dX10_makes_148 : decode prog_37_method_90_code 148 = .ok (.goto 4, 3) := by decide +kernel
theorem dX10_makes_151 : decode prog_37_method_90_code 151 = .ok (.iconst 0, 1) := by decide +kernel
theorem dX10_makes_152 : decode prog_37_method_90_code 152 = .ok (.istore 6, 2) := by decide +kernel
theorem dX10_makes_154 : decode prog_37_method_90_code 154 = .ok (.iload 7, 2) := by decide +kernel
theorem dX10_makes_156 : decode prog_37_method_90_code 156 = .ok (.iload 9, 2) := by decide +kernel
theorem dX10_makes_158 : decode prog_37_method_90_code 158 = .ok (.ifCond .le 15, 3) := by decide +kernel
theorem dX10_makes_161 : decode prog_37_method_90_code 161 = .ok (.iload 9, 2) := by decide +kernel
theorem dX10_makes_163 : decode prog_37_method_90_code 163 = .ok (.bipush 64, 2) := by decide +kernel
theorem dX10_makes_165 : decode prog_37_method_90_code 165 = .ok (.if_icmp .gt 8, 3) := by decide +kernel
theorem dX10_makes_168 : decode prog_37_method_90_code 168 = .ok (.iload 9, 2) := by decide +kernel
theorem dX10_makes_170 : decode prog_37_method_90_code 170 = .ok (.goto 4, 3) := by decide +kernel
theorem dX10_makes_173 : decode prog_37_method_90_code 173 = .ok (.iconst 0, 1) := by decide +kernel
theorem dX10_makes_174 : decode prog_37_method_90_code 174 = .ok (.iadd, 1) := by decide +kernel
theorem dX10_makes_175 : decode prog_37_method_90_code 175 = .ok (.istore 7, 2) := by decide +kernel
theorem dX10_makes_177 : decode prog_37_method_90_code 177 = .ok (.iload 9, 2) := by decide +kernel
theorem dX10_makes_179 : decode prog_37_method_90_code 179 = .ok (.iload 5, 2) := by decide +kernel
theorem dX10_makes_181 : decode prog_37_method_90_code 181 = .ok (.if_icmp .ge 8, 3) := by decide +kernel
theorem dX10_makes_184 : decode prog_37_method_90_code 184 = .ok (.iload 9, 2) := by decide +kernel
theorem dX10_makes_186 : decode prog_37_method_90_code 186 = .ok (.goto 5, 3) := by decide +kernel
theorem dX10_makes_189 : decode prog_37_method_90_code 189 = .ok (.iload 5, 2) := by decide +kernel
theorem dX10_makes_191 : decode prog_37_method_90_code 191 = .ok (.istore 5, 2) := by decide +kernel
theorem dX10_makes_193 : decode prog_37_method_90_code 193 = .ok (.iinc 8 1, 3) := by decide +kernel
theorem dX10_makes_196 : decode prog_37_method_90_code 196 = .ok (.goto (-84), 3) := by decide +kernel
theorem dX10_makes_199 : decode prog_37_method_90_code 199 = .ok (.iload 6, 2) := by decide +kernel
theorem dX10_makes_201 : decode prog_37_method_90_code 201 = .ok (.ifCond .ne 11, 3) := by decide +kernel
theorem dX10_makes_204 : decode prog_37_method_90_code 204 = .ok (.iload 7, 2) := by decide +kernel
theorem dX10_makes_206 : decode prog_37_method_90_code 206 = .ok (.sipush 200, 3) := by decide +kernel
theorem dX10_makes_209 : decode prog_37_method_90_code 209 = .ok (.if_icmp .le 7, 3) := by decide +kernel
theorem dX10_makes_212 : decode prog_37_method_90_code 212 = .ok (.iconst 1, 1) := by decide +kernel
theorem dX10_makes_213 : decode prog_37_method_90_code 213 = .ok (.goto 4, 3) := by decide +kernel
theorem dX10_makes_216 : decode prog_37_method_90_code 216 = .ok (.iconst 0, 1) := by decide +kernel
theorem dX10_makes_217 : decode prog_37_method_90_code 217 = .ok (.istore 6, 2) := by decide +kernel
theorem dX10_makes_219 : decode prog_37_method_90_code 219 = .ok (.iload 6, 2) := by decide +kernel
theorem dX10_makes_221 : decode prog_37_method_90_code 221 = .ok (.ifCond .ne 8, 3) := by decide +kernel
theorem dX10_makes_224 : decode prog_37_method_90_code 224 = .ok (.iload 5, 2) := by decide +kernel
theorem dX10_makes_226 : decode prog_37_method_90_code 226 = .ok (.ifCond .ge 22, 3) := by decide +kernel
theorem dX10_makes_229 : decode prog_37_method_90_code 229 = .ok (.aload_n 0, 1) := by decide +kernel
theorem dX10_makes_230 : decode prog_37_method_90_code 230 = .ok (.iload 6, 2) := by decide +kernel
theorem dX10_makes_232 : decode prog_37_method_90_code 232 = .ok (.ifCond .eq 7, 3) := by decide +kernel
theorem dX10_makes_235 : decode prog_37_method_90_code 235 = .ok (.iconst 2, 1) := by decide +kernel
theorem dX10_makes_236 : decode prog_37_method_90_code 236 = .ok (.goto 4, 3) := by decide +kernel
theorem dX10_makes_239 : decode prog_37_method_90_code 239 = .ok (.iconst 1, 1) := by decide +kernel
theorem dX10_makes_240 : decode prog_37_method_90_code 240 = .ok (.aload_n 0, 1) := by decide +kernel
theorem dX10_makes_241 : decode prog_37_method_90_code 241 = .ok (.getfield 507, 3) := by decide +kernel
theorem dX10_makes_244 : decode prog_37_method_90_code 244 = .ok (.invokevirtual 510, 3) := by decide +kernel
theorem dX10_makes_247 : decode prog_37_method_90_code 247 = .ok (.return_, 1) := by decide +kernel
theorem dX10_makes_248 : decode prog_37_method_90_code 248 = .ok (.aload_n 0, 1) := by decide +kernel
theorem dX10_makes_249 : decode prog_37_method_90_code 249 = .ok (.iload 4, 2) := by decide +kernel
theorem dX10_makes_251 : decode prog_37_method_90_code 251 = .ok (.putfield 461, 3) := by decide +kernel
theorem dX10_makes_254 : decode prog_37_method_90_code 254 = .ok (.iload_n 1, 1) := by decide +kernel
theorem dX10_makes_255 : decode prog_37_method_90_code 255 = .ok (.iconst 3, 1) := by decide +kernel
theorem dX10_makes_256 : decode prog_37_method_90_code 256 = .ok (.if_icmp .ge 51, 3) := by decide +kernel
theorem dX10_makes_259 : decode prog_37_method_90_code 259 = .ok (.iconst 0, 1) := by decide +kernel
theorem dX10_makes_260 : decode prog_37_method_90_code 260 = .ok (.istore 7, 2) := by decide +kernel
theorem dX10_makes_262 : decode prog_37_method_90_code 262 = .ok (.iload 7, 2) := by decide +kernel
theorem dX10_makes_264 : decode prog_37_method_90_code 264 = .ok (.iload_n 2, 1) := by decide +kernel
theorem dX10_makes_265 : decode prog_37_method_90_code 265 = .ok (.if_icmp .ge 25, 3) := by decide +kernel
theorem dX10_makes_268 : decode prog_37_method_90_code 268 = .ok (.aload_n 0, 1) := by decide +kernel
theorem dX10_makes_269 : decode prog_37_method_90_code 269 = .ok (.iconst 0, 1) := by decide +kernel
theorem dX10_makes_270 : decode prog_37_method_90_code 270 = .ok (.iload_n 1, 1) := by decide +kernel
theorem dX10_makes_271 : decode prog_37_method_90_code 271 = .ok (.iconst 1, 1) := by decide +kernel
theorem dX10_makes_272 : decode prog_37_method_90_code 272 = .ok (.if_icmp .ne 8, 3) := by decide +kernel
theorem dX10_makes_275 : decode prog_37_method_90_code 275 = .ok (.iload 7, 2) := by decide +kernel
theorem dX10_makes_277 : decode prog_37_method_90_code 277 = .ok (.goto 4, 3) := by decide +kernel
theorem dX10_makes_280 : decode prog_37_method_90_code 280 = .ok (.iconst 0, 1) := by decide +kernel
theorem dX10_makes_281 : decode prog_37_method_90_code 281 = .ok (.invokevirtual 464, 3) := by decide +kernel
theorem dX10_makes_284 : decode prog_37_method_90_code 284 = .ok (.iinc 7 1, 3) := by decide +kernel
theorem dX10_makes_287 : decode prog_37_method_90_code 287 = .ok (.goto (-25), 3) := by decide +kernel
theorem dX10_makes_290 : decode prog_37_method_90_code 290 = .ok (.aload_n 0, 1) := by decide +kernel
theorem dX10_makes_291 : decode prog_37_method_90_code 291 = .ok (.iload_n 1, 1) := by decide +kernel
theorem dX10_makes_292 : decode prog_37_method_90_code 292 = .ok (.iconst 2, 1) := by decide +kernel
theorem dX10_makes_293 : decode prog_37_method_90_code 293 = .ok (.if_icmp .ne 7, 3) := by decide +kernel
theorem dX10_makes_296 : decode prog_37_method_90_code 296 = .ok (.iconst 3, 1) := by decide +kernel
theorem dX10_makes_297 : decode prog_37_method_90_code 297 = .ok (.goto 4, 3) := by decide +kernel
theorem dX10_makes_300 : decode prog_37_method_90_code 300 = .ok (.iconst 1, 1) := by decide +kernel
theorem dX10_makes_301 : decode prog_37_method_90_code 301 = .ok (.iload 4, 2) := by decide +kernel
theorem dX10_makes_303 : decode prog_37_method_90_code 303 = .ok (.invokevirtual 628, 3) := by decide +kernel
theorem dX10_makes_306 : decode prog_37_method_90_code 306 = .ok (.return_, 1) := by decide +kernel
theorem dX10_makes_307 : decode prog_37_method_90_code 307 = .ok (.iload_n 1, 1) := by decide +kernel
theorem dX10_makes_308 : decode prog_37_method_90_code 308 = .ok (.iconst 3, 1) := by decide +kernel
theorem dX10_makes_309 : decode prog_37_method_90_code 309 = .ok (.if_icmp .ne 7, 3) := by decide +kernel
theorem dX10_makes_312 : decode prog_37_method_90_code 312 = .ok (.iload_n 2, 1) := by decide +kernel
theorem dX10_makes_313 : decode prog_37_method_90_code 313 = .ok (.goto 8, 3) := by decide +kernel
theorem dX10_makes_316 : decode prog_37_method_90_code 316 = .ok (.aload_n 0, 1) := by decide +kernel
theorem dX10_makes_317 : decode prog_37_method_90_code 317 = .ok (.iload_n 2, 1) := by decide +kernel
theorem dX10_makes_318 : decode prog_37_method_90_code 318 = .ok (.invokevirtual 477, 3) := by decide +kernel
theorem dX10_makes_321 : decode prog_37_method_90_code 321 = .ok (.istore 7, 2) := by decide +kernel
theorem dX10_makes_323 : decode prog_37_method_90_code 323 = .ok (.iconst 0, 1) := by decide +kernel
theorem dX10_makes_324 : decode prog_37_method_90_code 324 = .ok (.istore 8, 2) := by decide +kernel
theorem dX10_makes_326 : decode prog_37_method_90_code 326 = .ok (.iload 8, 2) := by decide +kernel
theorem dX10_makes_328 : decode prog_37_method_90_code 328 = .ok (.iload 7, 2) := by decide +kernel
theorem dX10_makes_330 : decode prog_37_method_90_code 330 = .ok (.if_icmp .ge 45, 3) := by decide +kernel
theorem dX10_makes_333 : decode prog_37_method_90_code 333 = .ok (.aload_n 0, 1) := by decide +kernel
theorem dX10_makes_334 : decode prog_37_method_90_code 334 = .ok (.getfield 461, 3) := by decide +kernel
theorem dX10_makes_337 : decode prog_37_method_90_code 337 = .ok (.istore 9, 2) := by decide +kernel
theorem dX10_makes_339 : decode prog_37_method_90_code 339 = .ok (.aload_n 0, 1) := by decide +kernel
theorem dX10_makes_340 : decode prog_37_method_90_code 340 = .ok (.iload_n 1, 1) := by decide +kernel
theorem dX10_makes_341 : decode prog_37_method_90_code 341 = .ok (.iconst 3, 1) := by decide +kernel
theorem dX10_makes_342 : decode prog_37_method_90_code 342 = .ok (.if_icmp .ne 7, 3) := by decide +kernel
theorem dX10_makes_345 : decode prog_37_method_90_code 345 = .ok (.iload_n 3, 1) := by decide +kernel
theorem dX10_makes_346 : decode prog_37_method_90_code 346 = .ok (.goto 14, 3) := by decide +kernel
theorem dX10_makes_349 : decode prog_37_method_90_code 349 = .ok (.aload_n 0, 1) := by decide +kernel
theorem dX10_makes_350 : decode prog_37_method_90_code 350 = .ok (.getfield 183, 3) := by decide +kernel
theorem dX10_makes_353 : decode prog_37_method_90_code 353 = .ok (.iload_n 2, 1) := by decide +kernel
theorem dX10_makes_354 : decode prog_37_method_90_code 354 = .ok (.iconst 2, 1) := by decide +kernel
theorem dX10_makes_355 : decode prog_37_method_90_code 355 = .ok (.iadd, 1) := by decide +kernel
theorem dX10_makes_356 : decode prog_37_method_90_code 356 = .ok (.iload 8, 2) := by decide +kernel
theorem dX10_makes_358 : decode prog_37_method_90_code 358 = .ok (.iadd, 1) := by decide +kernel
theorem dX10_makes_359 : decode prog_37_method_90_code 359 = .ok (.iaload, 1) := by decide +kernel
theorem dX10_makes_360 : decode prog_37_method_90_code 360 = .ok (.invokevirtual 665, 3) := by decide +kernel
theorem dX10_makes_363 : decode prog_37_method_90_code 363 = .ok (.aload_n 0, 1) := by decide +kernel
theorem dX10_makes_364 : decode prog_37_method_90_code 364 = .ok (.iload 9, 2) := by decide +kernel
theorem dX10_makes_366 : decode prog_37_method_90_code 366 = .ok (.invokevirtual 634, 3) := by decide +kernel
theorem dX10_makes_369 : decode prog_37_method_90_code 369 = .ok (.iinc 8 1, 3) := by decide +kernel
theorem dX10_makes_372 : decode prog_37_method_90_code 372 = .ok (.goto (-46), 3) := by decide +kernel
theorem dX10_makes_375 : decode prog_37_method_90_code 375 = .ok (.aload_n 0, 1) := by decide +kernel
theorem dX10_makes_376 : decode prog_37_method_90_code 376 = .ok (.iconst 2, 1) := by decide +kernel
theorem dX10_makes_377 : decode prog_37_method_90_code 377 = .ok (.iload 4, 2) := by decide +kernel
theorem dX10_makes_379 : decode prog_37_method_90_code 379 = .ok (.invokevirtual 628, 3) := by decide +kernel
theorem dX10_makes_382 : decode prog_37_method_90_code 382 = .ok (.return_, 1) := by decide +kernel
theorem dX10_zeros_0 : decode prog_37_method_89_code 0 = .ok (.iconst 0, 1) := by decide +kernel
theorem dX10_zeros_1 : decode prog_37_method_89_code 1 = .ok (.istore_n 2, 1) := by decide +kernel
theorem dX10_zeros_2 : decode prog_37_method_89_code 2 = .ok (.iload_n 2, 1) := by decide +kernel
theorem dX10_zeros_3 : decode prog_37_method_89_code 3 = .ok (.iload_n 1, 1) := by decide +kernel
theorem dX10_zeros_4 : decode prog_37_method_89_code 4 = .ok (.if_icmp .ge 15, 3) := by decide +kernel
theorem dX10_zeros_7 : decode prog_37_method_89_code 7 = .ok (.aload_n 0, 1) := by decide +kernel
theorem dX10_zeros_8 : decode prog_37_method_89_code 8 = .ok (.iconst 0, 1) := by decide +kernel
theorem dX10_zeros_9 : decode prog_37_method_89_code 9 = .ok (.iconst 0, 1) := by decide +kernel
theorem dX10_zeros_10 : decode prog_37_method_89_code 10 = .ok (.invokevirtual 464, 3) := by decide +kernel
theorem dX10_zeros_13 : decode prog_37_method_89_code 13 = .ok (.iinc 2 1, 3) := by decide +kernel
theorem dX10_zeros_16 : decode prog_37_method_89_code 16 = .ok (.goto (-14), 3) := by decide +kernel
theorem dX10_zeros_19 : decode prog_37_method_89_code 19 = .ok (.return_, 1) := by decide +kernel
theorem dX10_ofOneThing_0 : decode prog_37_method_93_code 0 = .ok (.aload_n 0, 1) := by decide +kernel
theorem dX10_ofOneThing_1 : decode prog_37_method_93_code 1 = .ok (.iload_n 3, 1) := by decide +kernel
theorem dX10_ofOneThing_2 : decode prog_37_method_93_code 2 = .ok (.invokevirtual 631, 3) := by decide +kernel
theorem dX10_ofOneThing_5 : decode prog_37_method_93_code 5 = .ok (.istore 4, 2) := by decide +kernel
theorem dX10_ofOneThing_7 : decode prog_37_method_93_code 7 = .ok (.aload_n 0, 1) := by decide +kernel
theorem dX10_ofOneThing_8 : decode prog_37_method_93_code 8 = .ok (.iload_n 3, 1) := by decide +kernel
theorem dX10_ofOneThing_9 : decode prog_37_method_93_code 9 = .ok (.putfield 461, 3) := by decide +kernel
theorem dX10_ofOneThing_12 : decode prog_37_method_93_code 12 = .ok (.iload_n 1, 1) := by decide +kernel
theorem dX10_ofOneThing_13 : decode prog_37_method_93_code 13 = .ok (.bipush 6, 2) := by decide +kernel
theorem dX10_ofOneThing_15 : decode prog_37_method_93_code 15 = .ok (.if_icmp .ne 16, 3) := by decide +kernel
theorem dX10_ofOneThing_18 : decode prog_37_method_93_code 18 = .ok (.aload_n 0, 1) := by decide +kernel
theorem dX10_ofOneThing_19 : decode prog_37_method_93_code 19 = .ok (.iconst 0, 1) := by decide +kernel
theorem dX10_ofOneThing_20 : decode prog_37_method_93_code 20 = .ok (.aload_n 0, 1) := by decide +kernel
theorem dX10_ofOneThing_21 : decode prog_37_method_93_code 21 = .ok (.iload_n 2, 1) := by decide +kernel
theorem dX10_ofOneThing_22 : decode prog_37_method_93_code 22 = .ok (.invokevirtual 477, 3) := by decide +kernel
theorem dX10_ofOneThing_25 : decode prog_37_method_93_code 25 = .ok (.invokevirtual 464, 3) := by decide +kernel
theorem dX10_ofOneThing_28 : decode prog_37_method_93_code 28 = .ok (.goto 261, 3) := by decide +kernel
theorem dX10_ofOneThing_31 : decode prog_37_method_93_code 31 = .ok (.iload_n 1, 1) := by decide +kernel
theorem dX10_ofOneThing_32 : decode prog_37_method_93_code 32 = .ok (.bipush 8, 2) := by decide +kernel
theorem dX10_ofOneThing_34 : decode prog_37_method_93_code 34 = .ok (.if_icmp .ne 13, 3) := by decide +kernel
theorem dX10_ofOneThing_37 : decode prog_37_method_93_code 37 = .ok (.aload_n 0, 1) := by decide +kernel
theorem dX10_ofOneThing_38 : decode prog_37_method_93_code 38 = .ok (.iconst 0, 1) := by decide +kernel
theorem dX10_ofOneThing_39 : decode prog_37_method_93_code 39 = .ok (.iload 4, 2) := by decide +kernel
theorem dX10_ofOneThing_41 : decode prog_37_method_93_code 41 = .ok (.invokevirtual 464, 3) := by decide +kernel
theorem dX10_ofOneThing_44 : decode prog_37_method_93_code 44 = .ok (.goto 245, 3) := by decide +kernel
theorem dX10_ofOneThing_47 : decode prog_37_method_93_code 47 = .ok (.iload_n 1, 1) := by decide +kernel
theorem dX10_ofOneThing_48 : decode prog_37_method_93_code 48 = .ok (.bipush 7, 2) := by decide +kernel
theorem dX10_ofOneThing_50 : decode prog_37_method_93_code 50 = .ok (.if_icmp .ne 47, 3) := by decide +kernel
theorem dX10_ofOneThing_53 : decode prog_37_method_93_code 53 = .ok (.iconst 0, 1) := by decide +kernel
theorem dX10_ofOneThing_54 : decode prog_37_method_93_code 54 = .ok (.istore 5, 2) := by decide +kernel
theorem dX10_ofOneThing_56 : decode prog_37_method_93_code 56 = .ok (.iload 5, 2) := by decide +kernel
theorem dX10_ofOneThing_58 : decode prog_37_method_93_code 58 = .ok (.aload_n 0, 1) := by decide +kernel
theorem dX10_ofOneThing_59 : decode prog_37_method_93_code 59 = .ok (.iload_n 2, 1) := by decide +kernel
theorem dX10_ofOneThing_60 : decode prog_37_method_93_code 60 = .ok (.invokevirtual 477, 3) := by decide +kernel
theorem dX10_ofOneThing_63 : decode prog_37_method_93_code 63 = .ok (.if_icmp .ge 25, 3) := by decide +kernel
theorem dX10_ofOneThing_66 : decode prog_37_method_93_code 66 = .ok (.aload_n 0, 1) := by decide +kernel
theorem dX10_ofOneThing_67 : decode prog_37_method_93_code 67 = .ok (.iconst 0, 1) := by decide +kernel
theorem dX10_ofOneThing_68 : decode prog_37_method_93_code 68 = .ok (.aload_n 0, 1) := by decide +kernel
theorem dX10_ofOneThing_69 : decode prog_37_method_93_code 69 = .ok (.aload_n 0, 1) := by decide +kernel
theorem dX10_ofOneThing_70 : decode prog_37_method_93_code 70 = .ok (.iload_n 2, 1) := by decide +kernel
theorem dX10_ofOneThing_71 : decode prog_37_method_93_code 71 = .ok (.iload 5, 2) := by decide +kernel
theorem dX10_ofOneThing_73 : decode prog_37_method_93_code 73 = .ok (.invokevirtual 470, 3) := by decide +kernel
theorem dX10_ofOneThing_76 : decode prog_37_method_93_code 76 = .ok (.invokevirtual 477, 3) := by decide +kernel
theorem dX10_ofOneThing_79 : decode prog_37_method_93_code 79 = .ok (.invokevirtual 464, 3) := by decide +kernel
theorem dX10_ofOneThing_82 : decode prog_37_method_93_code 82 = .ok (.iinc 5 1, 3) := by decide +kernel
theorem dX10_ofOneThing_85 : decode prog_37_method_93_code 85 = .ok (.goto (-29), 3) := by decide +kernel
theorem dX10_ofOneThing_88 : decode prog_37_method_93_code 88 = .ok (.aload_n 0, 1) := by decide +kernel
theorem dX10_ofOneThing_89 : decode prog_37_method_93_code 89 = .ok (.iconst 1, 1) := by decide +kernel
theorem dX10_ofOneThing_90 : decode prog_37_method_93_code 90 = .ok (.iload_n 3, 1) := by decide +kernel
theorem dX10_ofOneThing_91 : decode prog_37_method_93_code 91 = .ok (.invokevirtual 628, 3) := by decide +kernel
theorem dX10_ofOneThing_94 : decode prog_37_method_93_code 94 = .ok (.goto 195, 3) := by decide +kernel
theorem dX10_ofOneThing_97 : decode prog_37_method_93_code 97 = .ok (.iload_n 1, 1) := by decide +kernel
theorem dX10_ofOneThing_98 : decode prog_37_method_93_code 98 = .ok (.bipush 15, 2) := by decide +kernel
theorem dX10_ofOneThing_100 : decode prog_37_method_93_code 100 = .ok (.if_icmp .ne 40, 3) := by decide +kernel
theorem dX10_ofOneThing_103 : decode prog_37_method_93_code 103 = .ok (.aload_n 0, 1) := by decide +kernel
theorem dX10_ofOneThing_104 : decode prog_37_method_93_code 104 = .ok (.iload_n 2, 1) := by decide +kernel
theorem dX10_ofOneThing_105 : decode prog_37_method_93_code 105 = .ok (.invokevirtual 477, 3) := by decide +kernel
theorem dX10_ofOneThing_108 : decode prog_37_method_93_code 108 = .ok (.iconst 1, 1) := by decide +kernel
theorem dX10_ofOneThing_109 : decode prog_37_method_93_code 109 = .ok (.isub, 1) := by decide +kernel
theorem dX10_ofOneThing_110 : decode prog_37_method_93_code 110 = .ok (.istore 5, 2) := by decide +kernel
theorem dX10_ofOneThing_112 : decode prog_37_method_93_code 112 = .ok (.iload 5, 2) := by decide +kernel
theorem dX10_ofOneThing_114 : decode prog_37_method_93_code 114 = .ok (.ifCond .lt 16, 3) := by decide +kernel
theorem dX10_ofOneThing_117 : decode prog_37_method_93_code 117 = .ok (.aload_n 0, 1) := by decide +kernel
theorem dX10_ofOneThing_118 : decode prog_37_method_93_code 118 = .ok (.iload_n 2, 1) := by decide +kernel
theorem dX10_ofOneThing_119 : decode prog_37_method_93_code 119 = .ok (.iload 5, 2) := by decide +kernel
theorem dX10_ofOneThing_121 : decode prog_37_method_93_code 121 = .ok (.invokevirtual 610, 3) := by decide +kernel
theorem dX10_ofOneThing_124 : decode prog_37_method_93_code 124 = .ok (.iinc 5 (-1), 3) := by decide +kernel
theorem dX10_ofOneThing_127 : decode prog_37_method_93_code 127 = .ok (.goto (-15), 3) := by decide +kernel
theorem dX10_ofOneThing_130 : decode prog_37_method_93_code 130 = .ok (.aload_n 0, 1) := by decide +kernel
theorem dX10_ofOneThing_131 : decode prog_37_method_93_code 131 = .ok (.iload 4, 2) := by decide +kernel
theorem dX10_ofOneThing_133 : decode prog_37_method_93_code 133 = .ok (.iload_n 3, 1) := by decide +kernel
theorem dX10_ofOneThing_134 : decode prog_37_method_93_code 134 = .ok (.invokevirtual 628, 3) := by decide +kernel
theorem dX10_ofOneThing_137 : decode prog_37_method_93_code 137 = .ok (.goto 152, 3) := by decide +kernel
theorem dX10_ofOneThing_140 : decode prog_37_method_93_code 140 = .ok (.iload_n 1, 1) := by decide +kernel
theorem dX10_ofOneThing_141 : decode prog_37_method_93_code 141 = .ok (.bipush 11, 2) := by decide +kernel
theorem dX10_ofOneThing_143 : decode prog_37_method_93_code 143 = .ok (.if_icmp .le 15, 3) := by decide +kernel
theorem dX10_ofOneThing_146 : decode prog_37_method_93_code 146 = .ok (.aload_n 0, 1) := by decide +kernel
theorem dX10_ofOneThing_147 : decode prog_37_method_93_code 147 = .ok (.iload_n 1, 1) := by decide +kernel
theorem dX10_ofOneThing_148 : decode prog_37_method_93_code 148 = .ok (.iload_n 2, 1) := by decide +kernel
theorem dX10_ofOneThing_149 : decode prog_37_method_93_code 149 = .ok (.iload_n 3, 1) := by decide +kernel
theorem dX10_ofOneThing_150 : decode prog_37_method_93_code 150 = .ok (.iload 4, 2) := by decide +kernel
theorem dX10_ofOneThing_152 : decode prog_37_method_93_code 152 = .ok (.invokevirtual 668, 3) := by decide +kernel
theorem dX10_ofOneThing_155 : decode prog_37_method_93_code 155 = .ok (.goto 134, 3) := by decide +kernel
theorem dX10_ofOneThing_158 : decode prog_37_method_93_code 158 = .ok (.iload 4, 2) := by decide +kernel
theorem dX10_ofOneThing_160 : decode prog_37_method_93_code 160 = .ok (.ifCond .ne 12, 3) := by decide +kernel
theorem dX10_ofOneThing_163 : decode prog_37_method_93_code 163 = .ok (.aload_n 0, 1) := by decide +kernel
theorem dX10_ofOneThing_164 : decode prog_37_method_93_code 164 = .ok (.iconst 0, 1) := by decide +kernel
theorem dX10_ofOneThing_165 : decode prog_37_method_93_code 165 = .ok (.iload_n 2, 1) := by decide +kernel
theorem dX10_ofOneThing_166 : decode prog_37_method_93_code 166 = .ok (.invokevirtual 464, 3) := by decide +kernel
theorem dX10_ofOneThing_169 : decode prog_37_method_93_code 169 = .ok (.goto 120, 3) := by decide +kernel
theorem dX10_ofOneThing_172 : decode prog_37_method_93_code 172 = .ok (.iload 4, 2) := by decide +kernel
theorem dX10_ofOneThing_174 : decode prog_37_method_93_code 174 = .ok (.iconst 1, 1) := by decide +kernel
theorem dX10_ofOneThing_175 : decode prog_37_method_93_code 175 = .ok (.if_icmp .ne 43, 3) := by decide +kernel
theorem dX10_ofOneThing_178 : decode prog_37_method_93_code 178 = .ok (.iload_n 1, 1) := by decide +kernel
theorem dX10_ofOneThing_179 : decode prog_37_method_93_code 179 = .ok (.bipush 9, 2) := by decide +kernel
theorem dX10_ofOneThing_181 : decode prog_37_method_93_code 181 = .ok (.if_icmp .le 23, 3) := by decide +kernel
theorem dX10_ofOneThing_184 : decode prog_37_method_93_code 184 = .ok (.aload_n 0, 1) := by decide +kernel
theorem dX10_ofOneThing_185 : decode prog_37_method_93_code 185 = .ok (.iload_n 2, 1) := by decide +kernel
theorem dX10_ofOneThing_186 : decode prog_37_method_93_code 186 = .ok (.invokevirtual 477, 3) := by decide +kernel
theorem dX10_ofOneThing_189 : decode prog_37_method_93_code 189 = .ok (.ifCond .ne 15, 3) := by decide +kernel
theorem dX10_ofOneThing_192 : decode prog_37_method_93_code 192 = .ok (.aload_n 0, 1) := by decide +kernel
theorem dX10_ofOneThing_193 : decode prog_37_method_93_code 193 = .ok (.iconst 5, 1) := by decide +kernel
theorem dX10_ofOneThing_194 : decode prog_37_method_93_code 194 = .ok (.aload_n 0, 1) := by decide +kernel
theorem dX10_ofOneThing_195 : decode prog_37_method_93_code 195 = .ok (.getfield 507, 3) := by decide +kernel
theorem dX10_ofOneThing_198 : decode prog_37_method_93_code 198 = .ok (.invokevirtual 510, 3) := by decide +kernel
theorem dX10_ofOneThing_201 : decode prog_37_method_93_code 201 = .ok (.goto 88, 3) := by decide +kernel
theorem dX10_ofOneThing_204 : decode prog_37_method_93_code 204 = .ok (.aload_n 0, 1) := by decide +kernel
theorem dX10_ofOneThing_205 : decode prog_37_method_93_code 205 = .ok (.iconst 0, 1) := by decide +kernel
theorem dX10_ofOneThing_206 : decode prog_37_method_93_code 206 = .ok (.aload_n 0, 1) := by decide +kernel
theorem dX10_ofOneThing_207 : decode prog_37_method_93_code 207 = .ok (.iload_n 1, 1) := by decide +kernel
theorem dX10_ofOneThing_208 : decode prog_37_method_93_code 208 = .ok (.iload_n 2, 1) := by decide +kernel
theorem dX10_ofOneThing_209 : decode prog_37_method_93_code 209 = .ok (.invokevirtual 671, 3) := by decide +kernel
theorem dX10_ofOneThing_212 : decode prog_37_method_93_code 212 = .ok (.invokevirtual 464, 3) := by decide +kernel
theorem dX10_ofOneThing_215 : decode prog_37_method_93_code 215 = .ok (.goto 74, 3) := by decide +kernel
theorem dX10_ofOneThing_218 : decode prog_37_method_93_code 218 = .ok (.iconst 0, 1) := by decide +kernel
theorem dX10_ofOneThing_219 : decode prog_37_method_93_code 219 = .ok (.istore 5, 2) := by decide +kernel
theorem dX10_ofOneThing_221 : decode prog_37_method_93_code 221 = .ok (.iload 5, 2) := by decide +kernel
theorem dX10_ofOneThing_223 : decode prog_37_method_93_code 223 = .ok (.aload_n 0, 1) := by decide +kernel
theorem dX10_ofOneThing_224 : decode prog_37_method_93_code 224 = .ok (.iload_n 2, 1) := by decide +kernel
theorem dX10_ofOneThing_225 : decode prog_37_method_93_code 225 = .ok (.invokevirtual 477, 3) := by decide +kernel
theorem dX10_ofOneThing_228 : decode prog_37_method_93_code 228 = .ok (.if_icmp .ge 55, 3) := by decide +kernel
theorem dX10_ofOneThing_231 : decode prog_37_method_93_code 231 = .ok (.aload_n 0, 1) := by decide +kernel
theorem dX10_ofOneThing_232 : decode prog_37_method_93_code 232 = .ok (.iload_n 2, 1) := by decide +kernel
theorem dX10_ofOneThing_233 : decode prog_37_method_93_code 233 = .ok (.iload 5, 2) := by decide +kernel
theorem dX10_ofOneThing_235 : decode prog_37_method_93_code 235 = .ok (.invokevirtual 470, 3) := by decide +kernel
theorem dX10_ofOneThing_238 : decode prog_37_method_93_code 238 = .ok (.istore 6, 2) := by decide +kernel
theorem dX10_ofOneThing_240 : decode prog_37_method_93_code 240 = .ok (.iload_n 1, 1) := by decide +kernel
theorem dX10_ofOneThing_241 : decode prog_37_method_93_code 241 = .ok (.bipush 9, 2) := by decide +kernel
theorem dX10_ofOneThing_243 : decode prog_37_method_93_code 243 = .ok (.if_icmp .le 22, 3) := by decide +kernel
theorem dX10_ofOneThing_246 : decode prog_37_method_93_code 246 = .ok (.aload_n 0, 1) := by decide +kernel
theorem dX10_ofOneThing_247 : decode prog_37_method_93_code 247 = .ok (.iload 6, 2) := by decide +kernel
theorem dX10_ofOneThing_249 : decode prog_37_method_93_code 249 = .ok (.invokevirtual 477, 3) := by decide +kernel
theorem dX10_ofOneThing_252 : decode prog_37_method_93_code 252 = .ok (.ifCond .ne 13, 3) := by decide +kernel
theorem dX10_ofOneThing_255 : decode prog_37_method_93_code 255 = .ok (.aload_n 0, 1) := by decide +kernel
theorem dX10_ofOneThing_256 : decode prog_37_method_93_code 256 = .ok (.iconst 5, 1) := by decide +kernel
theorem dX10_ofOneThing_257 : decode prog_37_method_93_code 257 = .ok (.aload_n 0, 1) := by decide +kernel
theorem dX10_ofOneThing_258 : decode prog_37_method_93_code 258 = .ok (.getfield 507, 3) := by decide +kernel
theorem dX10_ofOneThing_261 : decode prog_37_method_93_code 261 = .ok (.invokevirtual 510, 3) := by decide +kernel
theorem dX10_ofOneThing_264 : decode prog_37_method_93_code 264 = .ok (.return_, 1) := by decide +kernel
theorem dX10_ofOneThing_265 : decode prog_37_method_93_code 265 = .ok (.aload_n 0, 1) := by decide +kernel
theorem dX10_ofOneThing_266 : decode prog_37_method_93_code 266 = .ok (.iconst 0, 1) := by decide +kernel
theorem dX10_ofOneThing_267 : decode prog_37_method_93_code 267 = .ok (.aload_n 0, 1) := by decide +kernel
theorem dX10_ofOneThing_268 : decode prog_37_method_93_code 268 = .ok (.iload_n 1, 1) := by decide +kernel
theorem dX10_ofOneThing_269 : decode prog_37_method_93_code 269 = .ok (.iload 6, 2) := by decide +kernel
theorem dX10_ofOneThing_271 : decode prog_37_method_93_code 271 = .ok (.invokevirtual 671, 3) := by decide +kernel
theorem dX10_ofOneThing_274 : decode prog_37_method_93_code 274 = .ok (.invokevirtual 464, 3) := by decide +kernel
theorem dX10_ofOneThing_277 : decode prog_37_method_93_code 277 = .ok (.iinc 5 1, 3) := by decide +kernel
theorem dX10_ofOneThing_280 : decode prog_37_method_93_code 280 = .ok (.goto (-59), 3) := by decide +kernel
theorem dX10_ofOneThing_283 : decode prog_37_method_93_code 283 = .ok (.aload_n 0, 1) := by decide +kernel
theorem dX10_ofOneThing_284 : decode prog_37_method_93_code 284 = .ok (.iconst 1, 1) := by decide +kernel
theorem dX10_ofOneThing_285 : decode prog_37_method_93_code 285 = .ok (.iload_n 3, 1) := by decide +kernel
theorem dX10_ofOneThing_286 : decode prog_37_method_93_code 286 = .ok (.invokevirtual 628, 3) := by decide +kernel
theorem dX10_ofOneThing_289 : decode prog_37_method_93_code 289 = .ok (.return_, 1) := by decide +kernel
theorem dX10_eachRow_0 : decode prog_37_method_94_code 0 = .ok (.iload 4, 2) := by decide +kernel
theorem dX10_eachRow_2 : decode prog_37_method_94_code 2 = .ok (.iconst 1, 1) := by decide +kernel
theorem dX10_eachRow_3 : decode prog_37_method_94_code 3 = .ok (.if_icmp .ne 16, 3) := by decide +kernel
theorem dX10_eachRow_6 : decode prog_37_method_94_code 6 = .ok (.aload_n 0, 1) := by decide +kernel
theorem dX10_eachRow_7 : decode prog_37_method_94_code 7 = .ok (.iload_n 1, 1) := by decide +kernel
theorem dX10_eachRow_8 : decode prog_37_method_94_code 8 = .ok (.iload_n 2, 1) := by decide +kernel
theorem dX10_eachRow_9 : decode prog_37_method_94_code 9 = .ok (.invokevirtual 674, 3) := by decide +kernel
theorem dX10_eachRow_12 : decode prog_37_method_94_code 12 = .ok (.aload_n 0, 1) := by decide +kernel
theorem dX10_eachRow_13 : decode prog_37_method_94_code 13 = .ok (.iconst 1, 1) := by decide +kernel
theorem dX10_eachRow_14 : decode prog_37_method_94_code 14 = .ok (.iload_n 3, 1) := by decide +kernel
theorem dX10_eachRow_15 : decode prog_37_method_94_code 15 = .ok (.invokevirtual 628, 3) := by decide +kernel
theorem dX10_eachRow_18 : decode prog_37_method_94_code 18 = .ok (.return_, 1) := by decide +kernel
theorem dX10_eachRow_19 : decode prog_37_method_94_code 19 = .ok (.iconst 0, 1) := by decide +kernel
theorem dX10_eachRow_20 : decode prog_37_method_94_code 20 = .ok (.istore 5, 2) := by decide +kernel
theorem dX10_eachRow_22 : decode prog_37_method_94_code 22 = .ok (.iload 5, 2) := by decide +kernel
theorem dX10_eachRow_24 : decode prog_37_method_94_code 24 = .ok (.aload_n 0, 1) := by decide +kernel
theorem dX10_eachRow_25 : decode prog_37_method_94_code 25 = .ok (.iload_n 2, 1) := by decide +kernel
theorem dX10_eachRow_26 : decode prog_37_method_94_code 26 = .ok (.invokevirtual 477, 3) := by decide +kernel
theorem dX10_eachRow_29 : decode prog_37_method_94_code 29 = .ok (.if_icmp .ge 33, 3) := by decide +kernel
theorem dX10_eachRow_32 : decode prog_37_method_94_code 32 = .ok (.aload_n 0, 1) := by decide +kernel
theorem dX10_eachRow_33 : decode prog_37_method_94_code 33 = .ok (.getfield 461, 3) := by decide +kernel
theorem dX10_eachRow_36 : decode prog_37_method_94_code 36 = .ok (.istore 6, 2) := by decide +kernel
theorem dX10_eachRow_38 : decode prog_37_method_94_code 38 = .ok (.aload_n 0, 1) := by decide +kernel
theorem dX10_eachRow_39 : decode prog_37_method_94_code 39 = .ok (.iload_n 1, 1) := by decide +kernel
theorem dX10_eachRow_40 : decode prog_37_method_94_code 40 = .ok (.aload_n 0, 1) := by decide +kernel
theorem dX10_eachRow_41 : decode prog_37_method_94_code 41 = .ok (.iload_n 2, 1) := by decide +kernel
theorem dX10_eachRow_42 : decode prog_37_method_94_code 42 = .ok (.iload 5, 2) := by decide +kernel
theorem dX10_eachRow_44 : decode prog_37_method_94_code 44 = .ok (.invokevirtual 470, 3) := by decide +kernel
theorem dX10_eachRow_47 : decode prog_37_method_94_code 47 = .ok (.invokevirtual 674, 3) := by decide +kernel
theorem dX10_eachRow_50 : decode prog_37_method_94_code 50 = .ok (.aload_n 0, 1) := by decide +kernel
theorem dX10_eachRow_51 : decode prog_37_method_94_code 51 = .ok (.iload 6, 2) := by decide +kernel
theorem dX10_eachRow_53 : decode prog_37_method_94_code 53 = .ok (.invokevirtual 634, 3) := by decide +kernel
theorem dX10_eachRow_56 : decode prog_37_method_94_code 56 = .ok (.iinc 5 1, 3) := by decide +kernel
theorem dX10_eachRow_59 : decode prog_37_method_94_code 59 = .ok (.goto (-37), 3) := by decide +kernel
theorem dX10_eachRow_62 : decode prog_37_method_94_code 62 = .ok (.aload_n 0, 1) := by decide +kernel
theorem dX10_eachRow_63 : decode prog_37_method_94_code 63 = .ok (.iconst 2, 1) := by decide +kernel
theorem dX10_eachRow_64 : decode prog_37_method_94_code 64 = .ok (.iload_n 3, 1) := by decide +kernel
theorem dX10_eachRow_65 : decode prog_37_method_94_code 65 = .ok (.invokevirtual 628, 3) := by decide +kernel
theorem dX10_eachRow_68 : decode prog_37_method_94_code 68 = .ok (.return_, 1) := by decide +kernel
theorem dX10_worked_0 : decode prog_37_method_92_code 0 = .ok (.aload_n 0, 1) := by decide +kernel
theorem dX10_worked_1 : decode prog_37_method_92_code 1 = .ok (.getfield 461, 3) := by decide +kernel
theorem dX10_worked_4 : decode prog_37_method_92_code 4 = .ok (.istore_n 3, 1) := by decide +kernel
theorem dX10_worked_5 : decode prog_37_method_92_code 5 = .ok (.iconst 0, 1) := by decide +kernel
theorem dX10_worked_6 : decode prog_37_method_92_code 6 = .ok (.istore 4, 2) := by decide +kernel
theorem dX10_worked_8 : decode prog_37_method_92_code 8 = .ok (.iconst 0, 1) := by decide +kernel
theorem dX10_worked_9 : decode prog_37_method_92_code 9 = .ok (.istore 5, 2) := by decide +kernel
theorem dX10_worked_11 : decode prog_37_method_92_code 11 = .ok (.iload 5, 2) := by decide +kernel
theorem dX10_worked_13 : decode prog_37_method_92_code 13 = .ok (.aload_n 0, 1) := by decide +kernel
theorem dX10_worked_14 : decode prog_37_method_92_code 14 = .ok (.iload_n 2, 1) := by decide +kernel
theorem dX10_worked_15 : decode prog_37_method_92_code 15 = .ok (.invokevirtual 477, 3) := by decide +kernel
theorem dX10_worked_18 : decode prog_37_method_92_code 18 = .ok (.if_icmp .ge 58, 3) := by decide +kernel
theorem dX10_worked_21 : decode prog_37_method_92_code 21 = .ok (.aload_n 0, 1) := by decide +kernel
theorem dX10_worked_22 : decode prog_37_method_92_code 22 = .ok (.getfield 183, 3) := by decide +kernel
theorem dX10_worked_25 : decode prog_37_method_92_code 25 = .ok (.iload_n 2, 1) := by decide +kernel
theorem dX10_worked_26 : decode prog_37_method_92_code 26 = .ok (.iconst 2, 1) := by decide +kernel
theorem dX10_worked_27 : decode prog_37_method_92_code 27 = .ok (.iadd, 1) := by decide +kernel
theorem dX10_worked_28 : decode prog_37_method_92_code 28 = .ok (.iload 5, 2) := by decide +kernel
theorem dX10_worked_30 : decode prog_37_method_92_code 30 = .ok (.iadd, 1) := by decide +kernel
theorem dX10_worked_31 : decode prog_37_method_92_code 31 = .ok (.iaload, 1) := by decide +kernel
theorem dX10_worked_32 : decode prog_37_method_92_code 32 = .ok (.istore 6, 2) := by decide +kernel
theorem dX10_worked_34 : decode prog_37_method_92_code 34 = .ok (.iload 4, 2) := by decide +kernel
theorem dX10_worked_36 : decode prog_37_method_92_code 36 = .ok (.iload 6, 2) := by decide +kernel
theorem dX10_worked_38 : decode prog_37_method_92_code 38 = .ok (.iadd, 1) := by decide +kernel
theorem dX10_worked_39 : decode prog_37_method_92_code 39 = .ok (.istore 4, 2) := by decide +kernel
theorem dX10_worked_41 : decode prog_37_method_92_code 41 = .ok (.aload_n 0, 1) := by decide +kernel
theorem dX10_worked_42 : decode prog_37_method_92_code 42 = .ok (.iconst 0, 1) := by decide +kernel
theorem dX10_worked_43 : decode prog_37_method_92_code 43 = .ok (.iload_n 1, 1) := by decide +kernel
theorem dX10_worked_44 : decode prog_37_method_92_code 44 = .ok (.bipush 12, 2) := by decide +kernel
theorem dX10_worked_46 : decode prog_37_method_92_code 46 = .ok (.if_icmp .ne 8, 3) := by decide +kernel
theorem dX10_worked_49 : decode prog_37_method_92_code 49 = .ok (.iload 4, 2) := by decide +kernel
theorem dX10_worked_51 : decode prog_37_method_92_code 51 = .ok (.goto 16, 3) := by decide +kernel
theorem dX10_worked_54 : decode prog_37_method_92_code 54 = .ok (.iload_n 1, 1) := by decide +kernel
theorem dX10_worked_55 : decode prog_37_method_92_code 55 = .ok (.bipush 13, 2) := by decide +kernel
theorem dX10_worked_57 : decode prog_37_method_92_code 57 = .ok (.if_icmp .ne 8, 3) := by decide +kernel
theorem dX10_worked_60 : decode prog_37_method_92_code 60 = .ok (.iload 6, 2) := by decide +kernel
theorem dX10_worked_62 : decode prog_37_method_92_code 62 = .ok (.goto 5, 3) := by decide +kernel
theorem dX10_worked_65 : decode prog_37_method_92_code 65 = .ok (.iload 5, 2) := by decide +kernel
theorem dX10_worked_67 : decode prog_37_method_92_code 67 = .ok (.invokevirtual 464, 3) := by decide +kernel
theorem dX10_worked_70 : decode prog_37_method_92_code 70 = .ok (.iinc 5 1, 3) := by decide +kernel
theorem dX10_worked_73 : decode prog_37_method_92_code 73 = .ok (.goto (-62), 3) := by decide +kernel
theorem dX10_worked_76 : decode prog_37_method_92_code 76 = .ok (.iload_n 1, 1) := by decide +kernel
theorem dX10_worked_77 : decode prog_37_method_92_code 77 = .ok (.bipush 12, 2) := by decide +kernel
theorem dX10_worked_79 : decode prog_37_method_92_code 79 = .ok (.if_icmp .ne 4, 3) := by decide +kernel
theorem dX10_worked_82 : decode prog_37_method_92_code 82 = .ok (.return_, 1) := by decide +kernel
theorem dX10_worked_83 : decode prog_37_method_92_code 83 = .ok (.iload_n 3, 1) := by decide +kernel
theorem dX10_worked_84 : decode prog_37_method_92_code 84 = .ok (.iconst 1, 1) := by decide +kernel
theorem dX10_worked_85 : decode prog_37_method_92_code 85 = .ok (.iadd, 1) := by decide +kernel
theorem dX10_worked_86 : decode prog_37_method_92_code 86 = .ok (.istore 5, 2) := by decide +kernel
theorem dX10_worked_88 : decode prog_37_method_92_code 88 = .ok (.iload 5, 2) := by decide +kernel
theorem dX10_worked_90 : decode prog_37_method_92_code 90 = .ok (.aload_n 0, 1) := by decide +kernel
theorem dX10_worked_91 : decode prog_37_method_92_code 91 = .ok (.getfield 461, 3) := by decide +kernel
theorem dX10_worked_94 : decode prog_37_method_92_code 94 = .ok (.if_icmp .ge 124, 3) := by decide +kernel
theorem dX10_worked_97 : decode prog_37_method_92_code 97 = .ok (.aload_n 0, 1) := by decide +kernel
theorem dX10_worked_98 : decode prog_37_method_92_code 98 = .ok (.getfield 189, 3) := by decide +kernel
theorem dX10_worked_101 : decode prog_37_method_92_code 101 = .ok (.iload 5, 2) := by decide +kernel
theorem dX10_worked_103 : decode prog_37_method_92_code 103 = .ok (.iaload, 1) := by decide +kernel
theorem dX10_worked_104 : decode prog_37_method_92_code 104 = .ok (.istore 6, 2) := by decide +kernel
theorem dX10_worked_106 : decode prog_37_method_92_code 106 = .ok (.iload_n 1, 1) := by decide +kernel
theorem dX10_worked_107 : decode prog_37_method_92_code 107 = .ok (.bipush 13, 2) := by decide +kernel
theorem dX10_worked_109 : decode prog_37_method_92_code 109 = .ok (.if_icmp .ne 8, 3) := by decide +kernel
theorem dX10_worked_112 : decode prog_37_method_92_code 112 = .ok (.iload 6, 2) := by decide +kernel
theorem dX10_worked_114 : decode prog_37_method_92_code 114 = .ok (.goto 14, 3) := by decide +kernel
theorem dX10_worked_117 : decode prog_37_method_92_code 117 = .ok (.aload_n 0, 1) := by decide +kernel
theorem dX10_worked_118 : decode prog_37_method_92_code 118 = .ok (.getfield 183, 3) := by decide +kernel
theorem dX10_worked_121 : decode prog_37_method_92_code 121 = .ok (.iload_n 2, 1) := by decide +kernel
theorem dX10_worked_122 : decode prog_37_method_92_code 122 = .ok (.iconst 2, 1) := by decide +kernel
theorem dX10_worked_123 : decode prog_37_method_92_code 123 = .ok (.iadd, 1) := by decide +kernel
theorem dX10_worked_124 : decode prog_37_method_92_code 124 = .ok (.iload 6, 2) := by decide +kernel
theorem dX10_worked_126 : decode prog_37_method_92_code 126 = .ok (.iadd, 1) := by decide +kernel
theorem dX10_worked_127 : decode prog_37_method_92_code 127 = .ok (.iaload, 1) := by decide +kernel
theorem dX10_worked_128 : decode prog_37_method_92_code 128 = .ok (.istore 7, 2) := by decide +kernel
theorem dX10_worked_130 : decode prog_37_method_92_code 130 = .ok (.iload 5, 2) := by decide +kernel
theorem dX10_worked_132 : decode prog_37_method_92_code 132 = .ok (.istore 8, 2) := by decide +kernel
theorem dX10_worked_134 : decode prog_37_method_92_code 134 = .ok (.iload 8, 2) := by decide +kernel
theorem dX10_worked_136 : decode prog_37_method_92_code 136 = .ok (.iload_n 3, 1) := by decide +kernel
theorem dX10_worked_137 : decode prog_37_method_92_code 137 = .ok (.if_icmp .le 66, 3) := by decide +kernel
theorem dX10_worked_140 : decode prog_37_method_92_code 140 = .ok (.iload_n 1, 1) := by decide +kernel
theorem dX10_worked_141 : decode prog_37_method_92_code 141 = .ok (.bipush 13, 2) := by decide +kernel
theorem dX10_worked_143 : decode prog_37_method_92_code 143 = .ok (.if_icmp .ne 15, 3) := by decide +kernel
theorem dX10_worked_146 : decode prog_37_method_92_code 146 = .ok (.aload_n 0, 1) := by decide +kernel
theorem dX10_worked_147 : decode prog_37_method_92_code 147 = .ok (.getfield 189, 3) := by decide +kernel
theorem dX10_worked_150 : decode prog_37_method_92_code 150 = .ok (.iload 8, 2) := by decide +kernel
theorem dX10_worked_152 : decode prog_37_method_92_code 152 = .ok (.iconst 1, 1) := by decide +kernel
theorem dX10_worked_153 : decode prog_37_method_92_code 153 = .ok (.isub, 1) := by decide +kernel
theorem dX10_worked_154 : decode prog_37_method_92_code 154 = .ok (.iaload, 1) := by decide +kernel
theorem dX10_worked_155 : decode prog_37_method_92_code 155 = .ok (.goto 21, 3) := by decide +kernel
theorem dX10_worked_158 : decode prog_37_method_92_code 158 = .ok (.aload_n 0, 1) := by decide +kernel
theorem dX10_worked_159 : decode prog_37_method_92_code 159 = .ok (.getfield 183, 3) := by decide +kernel
theorem dX10_worked_162 : decode prog_37_method_92_code 162 = .ok (.iload_n 2, 1) := by decide +kernel
theorem dX10_worked_163 : decode prog_37_method_92_code 163 = .ok (.iconst 2, 1) := by decide +kernel
theorem dX10_worked_164 : decode prog_37_method_92_code 164 = .ok (.iadd, 1) := by decide +kernel
theorem dX10_worked_165 : decode prog_37_method_92_code 165 = .ok (.aload_n 0, 1) := by decide +kernel
theorem dX10_worked_166 : decode prog_37_method_92_code 166 = .ok (.getfield 189, 3) := by decide +kernel
theorem dX10_worked_169 : decode prog_37_method_92_code 169 = .ok (.iload 8, 2) := by decide +kernel
theorem dX10_worked_171 : decode prog_37_method_92_code 171 = .ok (.iconst 1, 1) := by decide +kernel
theorem dX10_worked_172 : decode prog_37_method_92_code 172 = .ok (.isub, 1) := by decide +kernel
theorem dX10_worked_173 : decode prog_37_method_92_code 173 = .ok (.iaload, 1) := by decide +kernel
theorem dX10_worked_174 : decode prog_37_method_92_code 174 = .ok (.iadd, 1) := by decide +kernel
theorem dX10_worked_175 : decode prog_37_method_92_code 175 = .ok (.iaload, 1) := by decide +kernel
theorem dX10_worked_176 : decode prog_37_method_92_code 176 = .ok (.iload 7, 2) := by decide +kernel
theorem dX10_worked_178 : decode prog_37_method_92_code 178 = .ok (.if_icmp .le 25, 3) := by decide +kernel
theorem dX10_worked_181 : decode prog_37_method_92_code 181 = .ok (.aload_n 0, 1) := by decide +kernel
theorem dX10_worked_182 : decode prog_37_method_92_code 182 = .ok (.getfield 189, 3) := by decide +kernel
theorem dX10_worked_185 : decode prog_37_method_92_code 185 = .ok (.iload 8, 2) := by decide +kernel
theorem dX10_worked_187 : decode prog_37_method_92_code 187 = .ok (.aload_n 0, 1) := by decide +kernel
theorem dX10_worked_188 : decode prog_37_method_92_code 188 = .ok (.getfield 189, 3) := by decide +kernel
theorem dX10_worked_191 : decode prog_37_method_92_code 191 = .ok (.iload 8, 2) := by decide +kernel
theorem dX10_worked_193 : decode prog_37_method_92_code 193 = .ok (.iconst 1, 1) := by decide +kernel
theorem dX10_worked_194 : decode prog_37_method_92_code 194 = .ok (.isub, 1) := by decide +kernel
theorem dX10_worked_195 : decode prog_37_method_92_code 195 = .ok (.iaload, 1) := by decide +kernel
theorem dX10_worked_196 : decode prog_37_method_92_code 196 = .ok (.iastore, 1) := by decide +kernel
theorem dX10_worked_197 : decode prog_37_method_92_code 197 = .ok (.iinc 8 (-1), 3) := by decide +kernel
theorem dX10_worked_200 : decode prog_37_method_92_code 200 = .ok (.goto (-66), 3) := by decide +kernel
theorem dX10_worked_203 : decode prog_37_method_92_code 203 = .ok (.aload_n 0, 1) := by decide +kernel
theorem dX10_worked_204 : decode prog_37_method_92_code 204 = .ok (.getfield 189, 3) := by decide +kernel
theorem dX10_worked_207 : decode prog_37_method_92_code 207 = .ok (.iload 8, 2) := by decide +kernel
theorem dX10_worked_209 : decode prog_37_method_92_code 209 = .ok (.iload 6, 2) := by decide +kernel
theorem dX10_worked_211 : decode prog_37_method_92_code 211 = .ok (.iastore, 1) := by decide +kernel
theorem dX10_worked_212 : decode prog_37_method_92_code 212 = .ok (.iinc 5 1, 3) := by decide +kernel
theorem dX10_worked_215 : decode prog_37_method_92_code 215 = .ok (.goto (-127), 3) := by decide +kernel
theorem dX10_worked_218 : decode prog_37_method_92_code 218 = .ok (.return_, 1) := by decide +kernel
theorem dX10_reduced_0 : decode prog_37_method_91_code 0 = .ok (.iload_n 1, 1) := by decide +kernel
theorem dX10_reduced_1 : decode prog_37_method_91_code 1 = .ok (.bipush 9, 2) := by decide +kernel
theorem dX10_reduced_3 : decode prog_37_method_91_code 3 = .ok (.if_icmp .ne 7, 3) := by decide +kernel
theorem dX10_reduced_6 : decode prog_37_method_91_code 6 = .ok (.iconst 0, 1) := by decide +kernel
theorem dX10_reduced_7 : decode prog_37_method_91_code 7 = .ok (.goto 11, 3) := by decide +kernel
theorem dX10_reduced_10 : decode prog_37_method_91_code 10 = .ok (.aload_n 0, 1) := by decide +kernel
theorem dX10_reduced_11 : decode prog_37_method_91_code 11 = .ok (.getfield 183, 3) := by decide +kernel
theorem dX10_reduced_14 : decode prog_37_method_91_code 14 = .ok (.iload_n 2, 1) := by decide +kernel
theorem dX10_reduced_15 : decode prog_37_method_91_code 15 = .ok (.iconst 2, 1) := by decide +kernel
theorem dX10_reduced_16 : decode prog_37_method_91_code 16 = .ok (.iadd, 1) := by decide +kernel
theorem dX10_reduced_17 : decode prog_37_method_91_code 17 = .ok (.iaload, 1) := by decide +kernel
theorem dX10_reduced_18 : decode prog_37_method_91_code 18 = .ok (.istore_n 3, 1) := by decide +kernel
theorem dX10_reduced_19 : decode prog_37_method_91_code 19 = .ok (.iconst 0, 1) := by decide +kernel
theorem dX10_reduced_20 : decode prog_37_method_91_code 20 = .ok (.istore 4, 2) := by decide +kernel
theorem dX10_reduced_22 : decode prog_37_method_91_code 22 = .ok (.iload 4, 2) := by decide +kernel
theorem dX10_reduced_24 : decode prog_37_method_91_code 24 = .ok (.aload_n 0, 1) := by decide +kernel
theorem dX10_reduced_25 : decode prog_37_method_91_code 25 = .ok (.iload_n 2, 1) := by decide +kernel
theorem dX10_reduced_26 : decode prog_37_method_91_code 26 = .ok (.invokevirtual 477, 3) := by decide +kernel
theorem dX10_reduced_29 : decode prog_37_method_91_code 29 = .ok (.if_icmp .ge 60, 3) := by decide +kernel
theorem dX10_reduced_32 : decode prog_37_method_91_code 32 = .ok (.aload_n 0, 1) := by decide +kernel
theorem dX10_reduced_33 : decode prog_37_method_91_code 33 = .ok (.getfield 183, 3) := by decide +kernel
theorem dX10_reduced_36 : decode prog_37_method_91_code 36 = .ok (.iload_n 2, 1) := by decide +kernel
theorem dX10_reduced_37 : decode prog_37_method_91_code 37 = .ok (.iconst 2, 1) := by decide +kernel
theorem dX10_reduced_38 : decode prog_37_method_91_code 38 = .ok (.iadd, 1) := by decide +kernel
theorem dX10_reduced_39 : decode prog_37_method_91_code 39 = .ok (.iload 4, 2) := by decide +kernel
theorem dX10_reduced_41 : decode prog_37_method_91_code 41 = .ok (.iadd, 1) := by decide +kernel
theorem dX10_reduced_42 : decode prog_37_method_91_code 42 = .ok (.iaload, 1) := by decide +kernel
theorem dX10_reduced_43 : decode prog_37_method_91_code 43 = .ok (.istore 5, 2) := by decide +kernel
theorem dX10_reduced_45 : decode prog_37_method_91_code 45 = .ok (.iload_n 1, 1) := by decide +kernel
theorem dX10_reduced_46 : decode prog_37_method_91_code 46 = .ok (.bipush 9, 2) := by decide +kernel
theorem dX10_reduced_48 : decode prog_37_method_91_code 48 = .ok (.if_icmp .ne 11, 3) := by decide +kernel
theorem dX10_reduced_51 : decode prog_37_method_91_code 51 = .ok (.iload_n 3, 1) := by decide +kernel
theorem dX10_reduced_52 : decode prog_37_method_91_code 52 = .ok (.iload 5, 2) := by decide +kernel
theorem dX10_reduced_54 : decode prog_37_method_91_code 54 = .ok (.iadd, 1) := by decide +kernel
theorem dX10_reduced_55 : decode prog_37_method_91_code 55 = .ok (.istore_n 3, 1) := by decide +kernel
theorem dX10_reduced_56 : decode prog_37_method_91_code 56 = .ok (.goto 27, 3) := by decide +kernel
theorem dX10_reduced_59 : decode prog_37_method_91_code 59 = .ok (.iload_n 1, 1) := by decide +kernel
theorem dX10_reduced_60 : decode prog_37_method_91_code 60 = .ok (.bipush 10, 2) := by decide +kernel
theorem dX10_reduced_62 : decode prog_37_method_91_code 62 = .ok (.if_icmp .ne 12, 3) := by decide +kernel
theorem dX10_reduced_65 : decode prog_37_method_91_code 65 = .ok (.iload 5, 2) := by decide +kernel
theorem dX10_reduced_67 : decode prog_37_method_91_code 67 = .ok (.iload_n 3, 1) := by decide +kernel
theorem dX10_reduced_68 : decode prog_37_method_91_code 68 = .ok (.if_icmp .le 15, 3) := by decide +kernel
theorem dX10_reduced_71 : decode prog_37_method_91_code 71 = .ok (.goto 9, 3) := by decide +kernel
theorem dX10_reduced_74 : decode prog_37_method_91_code 74 = .ok (.iload 5, 2) := by decide +kernel
theorem dX10_reduced_76 : decode prog_37_method_91_code 76 = .ok (.iload_n 3, 1) := by decide +kernel
theorem dX10_reduced_77 : decode prog_37_method_91_code 77 = .ok (.if_icmp .ge 6, 3) := by decide +kernel
theorem dX10_reduced_80 : decode prog_37_method_91_code 80 = .ok (.iload 5, 2) := by decide +kernel
theorem dX10_reduced_82 : decode prog_37_method_91_code 82 = .ok (.istore_n 3, 1) := by decide +kernel
theorem dX10_reduced_83 : decode prog_37_method_91_code 83 = .ok (.iinc 4 1, 3) := by decide +kernel
theorem dX10_reduced_86 : decode prog_37_method_91_code 86 = .ok (.goto (-64), 3) := by decide +kernel
theorem dX10_reduced_89 : decode prog_37_method_91_code 89 = .ok (.iload_n 3, 1) := by decide +kernel
theorem dX10_reduced_90 : decode prog_37_method_91_code 90 = .ok (.ireturn, 1) := by decide +kernel
theorem dX10_shapes_0 : decode prog_37_method_95_code 0 = .ok (.aload_n 0, 1) := by decide +kernel
theorem dX10_shapes_1 : decode prog_37_method_95_code 1 = .ok (.getfield 183, 3) := by decide +kernel
theorem dX10_shapes_4 : decode prog_37_method_95_code 4 = .ok (.iload_n 2, 1) := by decide +kernel
theorem dX10_shapes_5 : decode prog_37_method_95_code 5 = .ok (.iaload, 1) := by decide +kernel
theorem dX10_shapes_6 : decode prog_37_method_95_code 6 = .ok (.istore 4, 2) := by decide +kernel
theorem dX10_shapes_8 : decode prog_37_method_95_code 8 = .ok (.aload_n 0, 1) := by decide +kernel
theorem dX10_shapes_9 : decode prog_37_method_95_code 9 = .ok (.iload_n 3, 1) := by decide +kernel
theorem dX10_shapes_10 : decode prog_37_method_95_code 10 = .ok (.putfield 461, 3) := by decide +kernel
theorem dX10_shapes_13 : decode prog_37_method_95_code 13 = .ok (.iconst 0, 1) := by decide +kernel
theorem dX10_shapes_14 : decode prog_37_method_95_code 14 = .ok (.istore 5, 2) := by decide +kernel
theorem dX10_shapes_16 : decode prog_37_method_95_code 16 = .ok (.iload_n 1, 1) := by decide +kernel
theorem dX10_shapes_17 : decode prog_37_method_95_code 17 = .ok (.bipush 16, 2) := by decide +kernel
theorem dX10_shapes_19 : decode prog_37_method_95_code 19 = .ok (.if_icmp .ne 211, 3) := by decide +kernel
theorem dX10_shapes_22 : decode prog_37_method_95_code 22 = .ok (.iconst 0, 1) := by decide +kernel
theorem dX10_shapes_23 : decode prog_37_method_95_code 23 = .ok (.istore 6, 2) := by decide +kernel
theorem dX10_shapes_25 : decode prog_37_method_95_code 25 = .ok (.iconst 0, 1) := by decide +kernel
theorem dX10_shapes_26 : decode prog_37_method_95_code 26 = .ok (.istore 7, 2) := by decide +kernel
theorem dX10_shapes_28 : decode prog_37_method_95_code 28 = .ok (.iload 7, 2) := by decide +kernel
theorem dX10_shapes_30 : decode prog_37_method_95_code 30 = .ok (.aload_n 0, 1) := by decide +kernel
theorem dX10_shapes_31 : decode prog_37_method_95_code 31 = .ok (.iload_n 2, 1) := by decide +kernel
theorem dX10_shapes_32 : decode prog_37_method_95_code 32 = .ok (.invokevirtual 477, 3) := by decide +kernel
theorem dX10_shapes_35 : decode prog_37_method_95_code 35 = .ok (.if_icmp .ge 88, 3) := by decide +kernel
theorem dX10_shapes_38 : decode prog_37_method_95_code 38 = .ok (.iload 4, 2) := by decide +kernel
theorem dX10_shapes_40 : decode prog_37_method_95_code 40 = .ok (.iconst 3, 1) := by decide +kernel
theorem dX10_shapes_41 : decode prog_37_method_95_code 41 = .ok (.if_icmp .ne 17, 3) := by decide +kernel
theorem dX10_shapes_44 : decode prog_37_method_95_code 44 = .ok (.aload_n 0, 1) := by decide +kernel
theorem dX10_shapes_45 : decode prog_37_method_95_code 45 = .ok (.iload_n 2, 1) := by decide +kernel
theorem dX10_shapes_46 : decode prog_37_method_95_code 46 = .ok (.iload 7, 2) := by decide +kernel
theorem dX10_shapes_48 : decode prog_37_method_95_code 48 = .ok (.invokevirtual 467, 3) := by decide +kernel
theorem dX10_shapes_51 : decode prog_37_method_95_code 51 = .ok (.ifCond .eq 7, 3) := by decide +kernel
theorem dX10_shapes_54 : decode prog_37_method_95_code 54 = .ok (.iconst 1, 1) := by decide +kernel
theorem dX10_shapes_55 : decode prog_37_method_95_code 55 = .ok (.goto 4, 3) := by decide +kernel
theorem dX10_shapes_58 : decode prog_37_method_95_code 58 = .ok (.iconst 0, 1) := by decide +kernel
theorem dX10_shapes_59 : decode prog_37_method_95_code 59 = .ok (.istore 8, 2) := by decide +kernel
theorem dX10_shapes_61 : decode prog_37_method_95_code 61 = .ok (.iload 8, 2) := by decide +kernel
theorem dX10_shapes_63 : decode prog_37_method_95_code 63 = .ok (.ifCond .ne 29, 3) := by decide +kernel
theorem dX10_shapes_66 : decode prog_37_method_95_code 66 = .ok (.aload_n 0, 1) := by decide +kernel
theorem dX10_shapes_67 : decode prog_37_method_95_code 67 = .ok (.getfield 183, 3) := by decide +kernel
theorem dX10_shapes_70 : decode prog_37_method_95_code 70 = .ok (.aload_n 0, 1) := by decide +kernel
theorem dX10_shapes_71 : decode prog_37_method_95_code 71 = .ok (.iload_n 2, 1) := by decide +kernel
theorem dX10_shapes_72 : decode prog_37_method_95_code 72 = .ok (.iload 7, 2) := by decide +kernel
theorem dX10_shapes_74 : decode prog_37_method_95_code 74 = .ok (.invokevirtual 470, 3) := by decide +kernel
theorem dX10_shapes_77 : decode prog_37_method_95_code 77 = .ok (.iaload, 1) := by decide +kernel
theorem dX10_shapes_78 : decode prog_37_method_95_code 78 = .ok (.iconst 1, 1) := by decide +kernel
theorem dX10_shapes_79 : decode prog_37_method_95_code 79 = .ok (.if_icmp .le 13, 3) := by decide +kernel
theorem dX10_shapes_82 : decode prog_37_method_95_code 82 = .ok (.aload_n 0, 1) := by decide +kernel
theorem dX10_shapes_83 : decode prog_37_method_95_code 83 = .ok (.iconst 3, 1) := by decide +kernel
theorem dX10_shapes_84 : decode prog_37_method_95_code 84 = .ok (.aload_n 0, 1) := by decide +kernel
theorem dX10_shapes_85 : decode prog_37_method_95_code 85 = .ok (.getfield 507, 3) := by decide +kernel
theorem dX10_shapes_88 : decode prog_37_method_95_code 88 = .ok (.invokevirtual 510, 3) := by decide +kernel
theorem dX10_shapes_91 : decode prog_37_method_95_code 91 = .ok (.return_, 1) := by decide +kernel
theorem dX10_shapes_92 : decode prog_37_method_95_code 92 = .ok (.iload 6, 2) := by decide +kernel
theorem dX10_shapes_94 : decode prog_37_method_95_code 94 = .ok (.iload 8, 2) := by decide +kernel
theorem dX10_shapes_96 : decode prog_37_method_95_code 96 = .ok (.ifCond .eq 7, 3) := by decide +kernel
theorem dX10_shapes_99 : decode prog_37_method_95_code 99 = .ok (.iconst 1, 1) := by decide +kernel
theorem dX10_shapes_100 : decode prog_37_method_95_code 100 = .ok (.goto 14, 3) := by decide +kernel
theorem dX10_shapes_103 : decode prog_37_method_95_code 103 = .ok (.aload_n 0, 1) := by decide +kernel
theorem dX10_shapes_104 : decode prog_37_method_95_code 104 = .ok (.aload_n 0, 1) := by decide +kernel
theorem dX10_shapes_105 : decode prog_37_method_95_code 105 = .ok (.iload_n 2, 1) := by decide +kernel
theorem dX10_shapes_106 : decode prog_37_method_95_code 106 = .ok (.iload 7, 2) := by decide +kernel
theorem dX10_shapes_108 : decode prog_37_method_95_code 108 = .ok (.invokevirtual 470, 3) := by decide +kernel
theorem dX10_shapes_111 : decode prog_37_method_95_code 111 = .ok (.invokevirtual 477, 3) := by decide +kernel
theorem dX10_shapes_114 : decode prog_37_method_95_code 114 = .ok (.iadd, 1) := by decide +kernel
theorem dX10_shapes_115 : decode prog_37_method_95_code 115 = .ok (.istore 6, 2) := by decide +kernel
theorem dX10_shapes_117 : decode prog_37_method_95_code 117 = .ok (.iinc 7 1, 3) := by decide +kernel
theorem dX10_shapes_120 : decode prog_37_method_95_code 120 = .ok (.goto (-92), 3) := by decide +kernel
theorem dX10_shapes_123 : decode prog_37_method_95_code 123 = .ok (.iload 6, 2) := by decide +kernel
theorem dX10_shapes_125 : decode prog_37_method_95_code 125 = .ok (.bipush 64, 2) := by decide +kernel
theorem dX10_shapes_127 : decode prog_37_method_95_code 127 = .ok (.if_icmp .le 13, 3) := by decide +kernel
theorem dX10_shapes_130 : decode prog_37_method_95_code 130 = .ok (.aload_n 0, 1) := by decide +kernel
theorem dX10_shapes_131 : decode prog_37_method_95_code 131 = .ok (.iconst 2, 1) := by decide +kernel
theorem dX10_shapes_132 : decode prog_37_method_95_code 132 = .ok (.aload_n 0, 1) := by decide +kernel
theorem dX10_shapes_133 : decode prog_37_method_95_code 133 = .ok (.getfield 507, 3) := by decide +kernel
theorem dX10_shapes_136 : decode prog_37_method_95_code 136 = .ok (.invokevirtual 510, 3) := by decide +kernel
theorem dX10_shapes_139 : decode prog_37_method_95_code 139 = .ok (.return_, 1) := by decide +kernel
theorem dX10_shapes_140 : decode prog_37_method_95_code 140 = .ok (.iconst 0, 1) := by decide +kernel
theorem dX10_shapes_141 : decode prog_37_method_95_code 141 = .ok (.istore 7, 2) := by decide +kernel
theorem dX10_shapes_143 : decode prog_37_method_95_code 143 = .ok (.iload 7, 2) := by decide +kernel
theorem dX10_shapes_145 : decode prog_37_method_95_code 145 = .ok (.aload_n 0, 1) := by decide +kernel
theorem dX10_shapes_146 : decode prog_37_method_95_code 146 = .ok (.iload_n 2, 1) := by decide +kernel
theorem dX10_shapes_147 : decode prog_37_method_95_code 147 = .ok (.invokevirtual 477, 3) := by decide +kernel
theorem dX10_shapes_150 : decode prog_37_method_95_code 150 = .ok (.if_icmp .ge 73, 3) := by decide +kernel
theorem dX10_shapes_153 : decode prog_37_method_95_code 153 = .ok (.iload 4, 2) := by decide +kernel
theorem dX10_shapes_155 : decode prog_37_method_95_code 155 = .ok (.iconst 3, 1) := by decide +kernel
theorem dX10_shapes_156 : decode prog_37_method_95_code 156 = .ok (.if_icmp .ne 23, 3) := by decide +kernel
theorem dX10_shapes_159 : decode prog_37_method_95_code 159 = .ok (.aload_n 0, 1) := by decide +kernel
theorem dX10_shapes_160 : decode prog_37_method_95_code 160 = .ok (.iload_n 2, 1) := by decide +kernel
theorem dX10_shapes_161 : decode prog_37_method_95_code 161 = .ok (.iload 7, 2) := by decide +kernel
theorem dX10_shapes_163 : decode prog_37_method_95_code 163 = .ok (.invokevirtual 467, 3) := by decide +kernel
theorem dX10_shapes_166 : decode prog_37_method_95_code 166 = .ok (.ifCond .eq 13, 3) := by decide +kernel
theorem dX10_shapes_169 : decode prog_37_method_95_code 169 = .ok (.aload_n 0, 1) := by decide +kernel
theorem dX10_shapes_170 : decode prog_37_method_95_code 170 = .ok (.iload_n 2, 1) := by decide +kernel
theorem dX10_shapes_171 : decode prog_37_method_95_code 171 = .ok (.iload 7, 2) := by decide +kernel
theorem dX10_shapes_173 : decode prog_37_method_95_code 173 = .ok (.invokevirtual 610, 3) := by decide +kernel
theorem dX10_shapes_176 : decode prog_37_method_95_code 176 = .ok (.goto 41, 3) := by decide +kernel
theorem dX10_shapes_179 : decode prog_37_method_95_code 179 = .ok (.iconst 0, 1) := by decide +kernel
theorem dX10_shapes_180 : decode prog_37_method_95_code 180 = .ok (.istore 8, 2) := by decide +kernel
theorem dX10_shapes_182 : decode prog_37_method_95_code 182 = .ok (.iload 8, 2) := by decide +kernel
theorem dX10_shapes_184 : decode prog_37_method_95_code 184 = .ok (.aload_n 0, 1) := by decide +kernel
theorem dX10_shapes_185 : decode prog_37_method_95_code 185 = .ok (.aload_n 0, 1) := by decide +kernel
theorem dX10_shapes_186 : decode prog_37_method_95_code 186 = .ok (.iload_n 2, 1) := by decide +kernel
theorem dX10_shapes_187 : decode prog_37_method_95_code 187 = .ok (.iload 7, 2) := by decide +kernel
theorem dX10_shapes_189 : decode prog_37_method_95_code 189 = .ok (.invokevirtual 470, 3) := by decide +kernel
theorem dX10_shapes_192 : decode prog_37_method_95_code 192 = .ok (.invokevirtual 477, 3) := by decide +kernel
theorem dX10_shapes_195 : decode prog_37_method_95_code 195 = .ok (.if_icmp .ge 22, 3) := by decide +kernel
theorem dX10_shapes_198 : decode prog_37_method_95_code 198 = .ok (.aload_n 0, 1) := by decide +kernel
theorem dX10_shapes_199 : decode prog_37_method_95_code 199 = .ok (.aload_n 0, 1) := by decide +kernel
theorem dX10_shapes_200 : decode prog_37_method_95_code 200 = .ok (.iload_n 2, 1) := by decide +kernel
theorem dX10_shapes_201 : decode prog_37_method_95_code 201 = .ok (.iload 7, 2) := by decide +kernel
theorem dX10_shapes_203 : decode prog_37_method_95_code 203 = .ok (.invokevirtual 470, 3) := by decide +kernel
theorem dX10_shapes_206 : decode prog_37_method_95_code 206 = .ok (.iload 8, 2) := by decide +kernel
theorem dX10_shapes_208 : decode prog_37_method_95_code 208 = .ok (.invokevirtual 610, 3) := by decide +kernel
theorem dX10_shapes_211 : decode prog_37_method_95_code 211 = .ok (.iinc 8 1, 3) := by decide +kernel
theorem dX10_shapes_214 : decode prog_37_method_95_code 214 = .ok (.goto (-32), 3) := by decide +kernel
theorem dX10_shapes_217 : decode prog_37_method_95_code 217 = .ok (.iinc 7 1, 3) := by decide +kernel
theorem dX10_shapes_220 : decode prog_37_method_95_code 220 = .ok (.goto (-77), 3) := by decide +kernel
theorem dX10_shapes_223 : decode prog_37_method_95_code 223 = .ok (.aload_n 0, 1) := by decide +kernel
theorem dX10_shapes_224 : decode prog_37_method_95_code 224 = .ok (.iconst 1, 1) := by decide +kernel
theorem dX10_shapes_225 : decode prog_37_method_95_code 225 = .ok (.iload_n 3, 1) := by decide +kernel
theorem dX10_shapes_226 : decode prog_37_method_95_code 226 = .ok (.invokevirtual 628, 3) := by decide +kernel
theorem dX10_shapes_229 : decode prog_37_method_95_code 229 = .ok (.return_, 1) := by decide +kernel
theorem dX10_shapes_230 : decode prog_37_method_95_code 230 = .ok (.iconst 0, 1) := by decide +kernel
theorem dX10_shapes_231 : decode prog_37_method_95_code 231 = .ok (.istore 6, 2) := by decide +kernel
theorem dX10_shapes_233 : decode prog_37_method_95_code 233 = .ok (.iload_n 1, 1) := by decide +kernel
theorem dX10_shapes_234 : decode prog_37_method_95_code 234 = .ok (.bipush 17, 2) := by decide +kernel
theorem dX10_shapes_236 : decode prog_37_method_95_code 236 = .ok (.if_icmp .ne 43, 3) := by decide +kernel
theorem dX10_shapes_239 : decode prog_37_method_95_code 239 = .ok (.iconst 0, 1) := by decide +kernel
theorem dX10_shapes_240 : decode prog_37_method_95_code 240 = .ok (.istore 7, 2) := by decide +kernel
theorem dX10_shapes_242 : decode prog_37_method_95_code 242 = .ok (.iload 7, 2) := by decide +kernel
theorem dX10_shapes_244 : decode prog_37_method_95_code 244 = .ok (.aload_n 0, 1) := by decide +kernel
theorem dX10_shapes_245 : decode prog_37_method_95_code 245 = .ok (.iload_n 2, 1) := by decide +kernel
theorem dX10_shapes_246 : decode prog_37_method_95_code 246 = .ok (.invokevirtual 477, 3) := by decide +kernel
theorem dX10_shapes_249 : decode prog_37_method_95_code 249 = .ok (.if_icmp .ge 27, 3) := by decide +kernel
theorem dX10_shapes_252 : decode prog_37_method_95_code 252 = .ok (.iload 5, 2) := by decide +kernel
theorem dX10_shapes_254 : decode prog_37_method_95_code 254 = .ok (.aload_n 0, 1) := by decide +kernel
theorem dX10_shapes_255 : decode prog_37_method_95_code 255 = .ok (.aload_n 0, 1) := by decide +kernel
theorem dX10_shapes_256 : decode prog_37_method_95_code 256 = .ok (.iload_n 2, 1) := by decide +kernel
theorem dX10_shapes_257 : decode prog_37_method_95_code 257 = .ok (.iload 7, 2) := by decide +kernel
theorem dX10_shapes_259 : decode prog_37_method_95_code 259 = .ok (.invokevirtual 470, 3) := by decide +kernel
theorem dX10_shapes_262 : decode prog_37_method_95_code 262 = .ok (.invokevirtual 477, 3) := by decide +kernel
theorem dX10_shapes_265 : decode prog_37_method_95_code 265 = .ok (.invokestatic 677, 3) := by decide +kernel
theorem dX10_shapes_268 : decode prog_37_method_95_code 268 = .ok (.istore 5, 2) := by decide +kernel
theorem dX10_shapes_270 : decode prog_37_method_95_code 270 = .ok (.iinc 7 1, 3) := by decide +kernel
theorem dX10_shapes_273 : decode prog_37_method_95_code 273 = .ok (.goto (-31), 3) := by decide +kernel
theorem dX10_shapes_276 : decode prog_37_method_95_code 276 = .ok (.goto 81, 3) := by decide +kernel
theorem dX10_shapes_279 : decode prog_37_method_95_code 279 = .ok (.iconst 0, 1) := by decide +kernel
theorem dX10_shapes_280 : decode prog_37_method_95_code 280 = .ok (.istore 7, 2) := by decide +kernel
theorem dX10_shapes_282 : decode prog_37_method_95_code 282 = .ok (.iload 7, 2) := by decide +kernel
theorem dX10_shapes_284 : decode prog_37_method_95_code 284 = .ok (.aload_n 0, 1) := by decide +kernel
theorem dX10_shapes_285 : decode prog_37_method_95_code 285 = .ok (.iload_n 2, 1) := by decide +kernel
theorem dX10_shapes_286 : decode prog_37_method_95_code 286 = .ok (.invokevirtual 477, 3) := by decide +kernel
theorem dX10_shapes_289 : decode prog_37_method_95_code 289 = .ok (.if_icmp .ge 68, 3) := by decide +kernel
theorem dX10_shapes_292 : decode prog_37_method_95_code 292 = .ok (.aload_n 0, 1) := by decide +kernel
theorem dX10_shapes_293 : decode prog_37_method_95_code 293 = .ok (.getfield 183, 3) := by decide +kernel
theorem dX10_shapes_296 : decode prog_37_method_95_code 296 = .ok (.iload_n 2, 1) := by decide +kernel
theorem dX10_shapes_297 : decode prog_37_method_95_code 297 = .ok (.iconst 2, 1) := by decide +kernel
theorem dX10_shapes_298 : decode prog_37_method_95_code 298 = .ok (.iadd, 1) := by decide +kernel
theorem dX10_shapes_299 : decode prog_37_method_95_code 299 = .ok (.iload 7, 2) := by decide +kernel
theorem dX10_shapes_301 : decode prog_37_method_95_code 301 = .ok (.iadd, 1) := by decide +kernel
theorem dX10_shapes_302 : decode prog_37_method_95_code 302 = .ok (.iaload, 1) := by decide +kernel
theorem dX10_shapes_303 : decode prog_37_method_95_code 303 = .ok (.istore 8, 2) := by decide +kernel
theorem dX10_shapes_305 : decode prog_37_method_95_code 305 = .ok (.iload 8, 2) := by decide +kernel
theorem dX10_shapes_307 : decode prog_37_method_95_code 307 = .ok (.bipush 19, 2) := by decide +kernel
theorem dX10_shapes_309 : decode prog_37_method_95_code 309 = .ok (.if_icmp .le 10, 3) := by decide +kernel
theorem dX10_shapes_312 : decode prog_37_method_95_code 312 = .ok (.bipush 21, 2) := by decide +kernel
theorem dX10_shapes_314 : decode prog_37_method_95_code 314 = .ok (.istore 5, 2) := by decide +kernel
theorem dX10_shapes_316 : decode prog_37_method_95_code 316 = .ok (.goto 19, 3) := by decide +kernel
theorem dX10_shapes_319 : decode prog_37_method_95_code 319 = .ok (.iload 8, 2) := by decide +kernel
theorem dX10_shapes_321 : decode prog_37_method_95_code 321 = .ok (.ifCond .lt 14, 3) := by decide +kernel
theorem dX10_shapes_324 : decode prog_37_method_95_code 324 = .ok (.iload 5, 2) := by decide +kernel
theorem dX10_shapes_326 : decode prog_37_method_95_code 326 = .ok (.iload 8, 2) := by decide +kernel
theorem dX10_shapes_328 : decode prog_37_method_95_code 328 = .ok (.iconst 1, 1) := by decide +kernel
theorem dX10_shapes_329 : decode prog_37_method_95_code 329 = .ok (.iadd, 1) := by decide +kernel
theorem dX10_shapes_330 : decode prog_37_method_95_code 330 = .ok (.invokestatic 677, 3) := by decide +kernel
theorem dX10_shapes_333 : decode prog_37_method_95_code 333 = .ok (.istore 5, 2) := by decide +kernel
theorem dX10_shapes_335 : decode prog_37_method_95_code 335 = .ok (.iload 8, 2) := by decide +kernel
theorem dX10_shapes_337 : decode prog_37_method_95_code 337 = .ok (.iload 6, 2) := by decide +kernel
theorem dX10_shapes_339 : decode prog_37_method_95_code 339 = .ok (.if_icmp .ge 8, 3) := by decide +kernel
theorem dX10_shapes_342 : decode prog_37_method_95_code 342 = .ok (.iload 8, 2) := by decide +kernel
theorem dX10_shapes_344 : decode prog_37_method_95_code 344 = .ok (.goto 5, 3) := by decide +kernel
theorem dX10_shapes_347 : decode prog_37_method_95_code 347 = .ok (.iload 6, 2) := by decide +kernel
theorem dX10_shapes_349 : decode prog_37_method_95_code 349 = .ok (.istore 6, 2) := by decide +kernel
theorem dX10_shapes_351 : decode prog_37_method_95_code 351 = .ok (.iinc 7 1, 3) := by decide +kernel
theorem dX10_shapes_354 : decode prog_37_method_95_code 354 = .ok (.goto (-72), 3) := by decide +kernel
theorem dX10_shapes_357 : decode prog_37_method_95_code 357 = .ok (.iload 5, 2) := by decide +kernel
theorem dX10_shapes_359 : decode prog_37_method_95_code 359 = .ok (.bipush 20, 2) := by decide +kernel
theorem dX10_shapes_361 : decode prog_37_method_95_code 361 = .ok (.if_icmp .gt 8, 3) := by decide +kernel
theorem dX10_shapes_364 : decode prog_37_method_95_code 364 = .ok (.iload 6, 2) := by decide +kernel
theorem dX10_shapes_366 : decode prog_37_method_95_code 366 = .ok (.ifCond .ge 24, 3) := by decide +kernel
theorem dX10_shapes_369 : decode prog_37_method_95_code 369 = .ok (.aload_n 0, 1) := by decide +kernel
theorem dX10_shapes_370 : decode prog_37_method_95_code 370 = .ok (.iload 5, 2) := by decide +kernel
theorem dX10_shapes_372 : decode prog_37_method_95_code 372 = .ok (.bipush 20, 2) := by decide +kernel
theorem dX10_shapes_374 : decode prog_37_method_95_code 374 = .ok (.if_icmp .le 7, 3) := by decide +kernel
theorem dX10_shapes_377 : decode prog_37_method_95_code 377 = .ok (.iconst 2, 1) := by decide +kernel
theorem dX10_shapes_378 : decode prog_37_method_95_code 378 = .ok (.goto 4, 3) := by decide +kernel
theorem dX10_shapes_381 : decode prog_37_method_95_code 381 = .ok (.iconst 1, 1) := by decide +kernel
theorem dX10_shapes_382 : decode prog_37_method_95_code 382 = .ok (.aload_n 0, 1) := by decide +kernel
theorem dX10_shapes_383 : decode prog_37_method_95_code 383 = .ok (.getfield 507, 3) := by decide +kernel
theorem dX10_shapes_386 : decode prog_37_method_95_code 386 = .ok (.invokevirtual 510, 3) := by decide +kernel
theorem dX10_shapes_389 : decode prog_37_method_95_code 389 = .ok (.return_, 1) := by decide +kernel
theorem dX10_shapes_390 : decode prog_37_method_95_code 390 = .ok (.iconst 0, 1) := by decide +kernel
theorem dX10_shapes_391 : decode prog_37_method_95_code 391 = .ok (.istore 7, 2) := by decide +kernel
theorem dX10_shapes_393 : decode prog_37_method_95_code 393 = .ok (.iload 7, 2) := by decide +kernel
theorem dX10_shapes_395 : decode prog_37_method_95_code 395 = .ok (.iload 5, 2) := by decide +kernel
theorem dX10_shapes_397 : decode prog_37_method_95_code 397 = .ok (.if_icmp .ge 104, 3) := by decide +kernel
theorem dX10_shapes_400 : decode prog_37_method_95_code 400 = .ok (.aload_n 0, 1) := by decide +kernel
theorem dX10_shapes_401 : decode prog_37_method_95_code 401 = .ok (.getfield 461, 3) := by decide +kernel
theorem dX10_shapes_404 : decode prog_37_method_95_code 404 = .ok (.istore 8, 2) := by decide +kernel
theorem dX10_shapes_406 : decode prog_37_method_95_code 406 = .ok (.iconst 0, 1) := by decide +kernel
theorem dX10_shapes_407 : decode prog_37_method_95_code 407 = .ok (.istore 9, 2) := by decide +kernel
theorem dX10_shapes_409 : decode prog_37_method_95_code 409 = .ok (.iload 9, 2) := by decide +kernel
theorem dX10_shapes_411 : decode prog_37_method_95_code 411 = .ok (.aload_n 0, 1) := by decide +kernel
theorem dX10_shapes_412 : decode prog_37_method_95_code 412 = .ok (.iload_n 2, 1) := by decide +kernel
theorem dX10_shapes_413 : decode prog_37_method_95_code 413 = .ok (.invokevirtual 477, 3) := by decide +kernel
theorem dX10_shapes_416 : decode prog_37_method_95_code 416 = .ok (.if_icmp .ge 73, 3) := by decide +kernel
theorem dX10_shapes_419 : decode prog_37_method_95_code 419 = .ok (.iload 4, 2) := by decide +kernel
theorem dX10_shapes_421 : decode prog_37_method_95_code 421 = .ok (.iconst 1, 1) := by decide +kernel
theorem dX10_shapes_422 : decode prog_37_method_95_code 422 = .ok (.if_icmp .ne 26, 3) := by decide +kernel
theorem dX10_shapes_425 : decode prog_37_method_95_code 425 = .ok (.aload_n 0, 1) := by decide +kernel
theorem dX10_shapes_426 : decode prog_37_method_95_code 426 = .ok (.getfield 183, 3) := by decide +kernel
theorem dX10_shapes_429 : decode prog_37_method_95_code 429 = .ok (.iload_n 2, 1) := by decide +kernel
theorem dX10_shapes_430 : decode prog_37_method_95_code 430 = .ok (.iconst 2, 1) := by decide +kernel
theorem dX10_shapes_431 : decode prog_37_method_95_code 431 = .ok (.iadd, 1) := by decide +kernel
theorem dX10_shapes_432 : decode prog_37_method_95_code 432 = .ok (.iload 9, 2) := by decide +kernel
theorem dX10_shapes_434 : decode prog_37_method_95_code 434 = .ok (.iadd, 1) := by decide +kernel
theorem dX10_shapes_435 : decode prog_37_method_95_code 435 = .ok (.iaload, 1) := by decide +kernel
theorem dX10_shapes_436 : decode prog_37_method_95_code 436 = .ok (.iload 7, 2) := by decide +kernel
theorem dX10_shapes_438 : decode prog_37_method_95_code 438 = .ok (.if_icmp .ne 10, 3) := by decide +kernel
theorem dX10_shapes_441 : decode prog_37_method_95_code 441 = .ok (.aload_n 0, 1) := by decide +kernel
theorem dX10_shapes_442 : decode prog_37_method_95_code 442 = .ok (.iconst 0, 1) := by decide +kernel
theorem dX10_shapes_443 : decode prog_37_method_95_code 443 = .ok (.iload 9, 2) := by decide +kernel
theorem dX10_shapes_445 : decode prog_37_method_95_code 445 = .ok (.invokevirtual 464, 3) := by decide +kernel
theorem dX10_shapes_448 : decode prog_37_method_95_code 448 = .ok (.iload 4, 2) := by decide +kernel
theorem dX10_shapes_450 : decode prog_37_method_95_code 450 = .ok (.iconst 2, 1) := by decide +kernel
theorem dX10_shapes_451 : decode prog_37_method_95_code 451 = .ok (.if_icmp .ne 32, 3) := by decide +kernel
theorem dX10_shapes_454 : decode prog_37_method_95_code 454 = .ok (.aload_n 0, 1) := by decide +kernel
theorem dX10_shapes_455 : decode prog_37_method_95_code 455 = .ok (.aload_n 0, 1) := by decide +kernel
theorem dX10_shapes_456 : decode prog_37_method_95_code 456 = .ok (.iload_n 2, 1) := by decide +kernel
theorem dX10_shapes_457 : decode prog_37_method_95_code 457 = .ok (.iload 9, 2) := by decide +kernel
theorem dX10_shapes_459 : decode prog_37_method_95_code 459 = .ok (.invokevirtual 470, 3) := by decide +kernel
theorem dX10_shapes_462 : decode prog_37_method_95_code 462 = .ok (.invokevirtual 477, 3) := by decide +kernel
theorem dX10_shapes_465 : decode prog_37_method_95_code 465 = .ok (.iload 7, 2) := by decide +kernel
theorem dX10_shapes_467 : decode prog_37_method_95_code 467 = .ok (.if_icmp .le 16, 3) := by decide +kernel
theorem dX10_shapes_470 : decode prog_37_method_95_code 470 = .ok (.aload_n 0, 1) := by decide +kernel
theorem dX10_shapes_471 : decode prog_37_method_95_code 471 = .ok (.aload_n 0, 1) := by decide +kernel
theorem dX10_shapes_472 : decode prog_37_method_95_code 472 = .ok (.iload_n 2, 1) := by decide +kernel
theorem dX10_shapes_473 : decode prog_37_method_95_code 473 = .ok (.iload 9, 2) := by decide +kernel
theorem dX10_shapes_475 : decode prog_37_method_95_code 475 = .ok (.invokevirtual 470, 3) := by decide +kernel
theorem dX10_shapes_478 : decode prog_37_method_95_code 478 = .ok (.iload 7, 2) := by decide +kernel
theorem dX10_shapes_480 : decode prog_37_method_95_code 480 = .ok (.invokevirtual 610, 3) := by decide +kernel
theorem dX10_shapes_483 : decode prog_37_method_95_code 483 = .ok (.iinc 9 1, 3) := by decide +kernel
theorem dX10_shapes_486 : decode prog_37_method_95_code 486 = .ok (.goto (-77), 3) := by decide +kernel
theorem dX10_shapes_489 : decode prog_37_method_95_code 489 = .ok (.aload_n 0, 1) := by decide +kernel
theorem dX10_shapes_490 : decode prog_37_method_95_code 490 = .ok (.iload 8, 2) := by decide +kernel
theorem dX10_shapes_492 : decode prog_37_method_95_code 492 = .ok (.invokevirtual 634, 3) := by decide +kernel
theorem dX10_shapes_495 : decode prog_37_method_95_code 495 = .ok (.iinc 7 1, 3) := by decide +kernel
theorem dX10_shapes_498 : decode prog_37_method_95_code 498 = .ok (.goto (-105), 3) := by decide +kernel
theorem dX10_shapes_501 : decode prog_37_method_95_code 501 = .ok (.aload_n 0, 1) := by decide +kernel
theorem dX10_shapes_502 : decode prog_37_method_95_code 502 = .ok (.iconst 2, 1) := by decide +kernel
theorem dX10_shapes_503 : decode prog_37_method_95_code 503 = .ok (.iload_n 3, 1) := by decide +kernel
theorem dX10_shapes_504 : decode prog_37_method_95_code 504 = .ok (.invokevirtual 628, 3) := by decide +kernel
theorem dX10_shapes_507 : decode prog_37_method_95_code 507 = .ok (.return_, 1) := by decide +kernel
theorem dX10_most_0 : decode prog_37_method_86_code 0 = .ok (.iload_n 0, 1) := by decide +kernel
theorem dX10_most_1 : decode prog_37_method_86_code 1 = .ok (.iload_n 1, 1) := by decide +kernel
theorem dX10_most_2 : decode prog_37_method_86_code 2 = .ok (.if_icmp .le 7, 3) := by decide +kernel
theorem dX10_most_5 : decode prog_37_method_86_code 5 = .ok (.iload_n 0, 1) := by decide +kernel
theorem dX10_most_6 : decode prog_37_method_86_code 6 = .ok (.goto 4, 3) := by decide +kernel
theorem dX10_most_9 : decode prog_37_method_86_code 9 = .ok (.iload_n 1, 1) := by decide +kernel
theorem dX10_most_10 : decode prog_37_method_86_code 10 = .ok (.ireturn, 1) := by decide +kernel
theorem dX10_ofTwo_0 : decode prog_37_method_107_code 0 = .ok (.iload_n 1, 1) := by decide +kernel
theorem dX10_ofTwo_1 : decode prog_37_method_107_code 1 = .ok (.tableswitch 185 19 26 #[47, 56, 56, 66, 75, 84, 167, 176], 47) := by decide +kernel
theorem dX10_ofTwo_48 : decode prog_37_method_107_code 48 = .ok (.aload_n 0, 1) := by decide +kernel
theorem dX10_ofTwo_49 : decode prog_37_method_107_code 49 = .ok (.iload_n 2, 1) := by decide +kernel
theorem dX10_ofTwo_50 : decode prog_37_method_107_code 50 = .ok (.iload_n 3, 1) := by decide +kernel
theorem dX10_ofTwo_51 : decode prog_37_method_107_code 51 = .ok (.iload 4, 2) := by decide +kernel
theorem dX10_ofTwo_53 : decode prog_37_method_107_code 53 = .ok (.invokevirtual 694, 3) := by decide +kernel
theorem dX10_ofTwo_56 : decode prog_37_method_107_code 56 = .ok (.return_, 1) := by decide +kernel
theorem dX10_ofTwo_57 : decode prog_37_method_107_code 57 = .ok (.aload_n 0, 1) := by decide +kernel
theorem dX10_ofTwo_58 : decode prog_37_method_107_code 58 = .ok (.iload_n 1, 1) := by decide +kernel
theorem dX10_ofTwo_59 : decode prog_37_method_107_code 59 = .ok (.iload_n 2, 1) := by decide +kernel
theorem dX10_ofTwo_60 : decode prog_37_method_107_code 60 = .ok (.iload_n 3, 1) := by decide +kernel
theorem dX10_ofTwo_61 : decode prog_37_method_107_code 61 = .ok (.iload 4, 2) := by decide +kernel
theorem dX10_ofTwo_63 : decode prog_37_method_107_code 63 = .ok (.invokevirtual 697, 3) := by decide +kernel
theorem dX10_ofTwo_66 : decode prog_37_method_107_code 66 = .ok (.return_, 1) := by decide +kernel
theorem dX10_ofTwo_67 : decode prog_37_method_107_code 67 = .ok (.aload_n 0, 1) := by decide +kernel
theorem dX10_ofTwo_68 : decode prog_37_method_107_code 68 = .ok (.iload_n 2, 1) := by decide +kernel
theorem dX10_ofTwo_69 : decode prog_37_method_107_code 69 = .ok (.iload_n 3, 1) := by decide +kernel
theorem dX10_ofTwo_70 : decode prog_37_method_107_code 70 = .ok (.iload 4, 2) := by decide +kernel
theorem dX10_ofTwo_72 : decode prog_37_method_107_code 72 = .ok (.invokevirtual 699, 3) := by decide +kernel
theorem dX10_ofTwo_75 : decode prog_37_method_107_code 75 = .ok (.return_, 1) := by decide +kernel
theorem dX10_ofTwo_76 : decode prog_37_method_107_code 76 = .ok (.aload_n 0, 1) := by decide +kernel
theorem dX10_ofTwo_77 : decode prog_37_method_107_code 77 = .ok (.iload_n 2, 1) := by decide +kernel
theorem dX10_ofTwo_78 : decode prog_37_method_107_code 78 = .ok (.iload_n 3, 1) := by decide +kernel
theorem dX10_ofTwo_79 : decode prog_37_method_107_code 79 = .ok (.iload 4, 2) := by decide +kernel
theorem dX10_ofTwo_81 : decode prog_37_method_107_code 81 = .ok (.invokevirtual 702, 3) := by decide +kernel
theorem dX10_ofTwo_84 : decode prog_37_method_107_code 84 = .ok (.return_, 1) := by decide +kernel
theorem dX10_ofTwo_85 : decode prog_37_method_107_code 85 = .ok (.aload_n 0, 1) := by decide +kernel
theorem dX10_ofTwo_86 : decode prog_37_method_107_code 86 = .ok (.iload 4, 2) := by decide +kernel
theorem dX10_ofTwo_88 : decode prog_37_method_107_code 88 = .ok (.iconst 1, 1) := by decide +kernel
theorem dX10_ofTwo_89 : decode prog_37_method_107_code 89 = .ok (.iadd, 1) := by decide +kernel
theorem dX10_ofTwo_90 : decode prog_37_method_107_code 90 = .ok (.invokevirtual 631, 3) := by decide +kernel
theorem dX10_ofTwo_93 : decode prog_37_method_107_code 93 = .ok (.istore 5, 2) := by decide +kernel
theorem dX10_ofTwo_95 : decode prog_37_method_107_code 95 = .ok (.aload_n 0, 1) := by decide +kernel
theorem dX10_ofTwo_96 : decode prog_37_method_107_code 96 = .ok (.iload 4, 2) := by decide +kernel
theorem dX10_ofTwo_98 : decode prog_37_method_107_code 98 = .ok (.putfield 461, 3) := by decide +kernel
theorem dX10_ofTwo_101 : decode prog_37_method_107_code 101 = .ok (.iload 5, 2) := by decide +kernel
theorem dX10_ofTwo_103 : decode prog_37_method_107_code 103 = .ok (.ifCond .ne 17, 3) := by decide +kernel
theorem dX10_ofTwo_106 : decode prog_37_method_107_code 106 = .ok (.aload_n 0, 1) := by decide +kernel
theorem dX10_ofTwo_107 : decode prog_37_method_107_code 107 = .ok (.iconst 0, 1) := by decide +kernel
theorem dX10_ofTwo_108 : decode prog_37_method_107_code 108 = .ok (.aload_n 0, 1) := by decide +kernel
theorem dX10_ofTwo_109 : decode prog_37_method_107_code 109 = .ok (.iload_n 2, 1) := by decide +kernel
theorem dX10_ofTwo_110 : decode prog_37_method_107_code 110 = .ok (.iload_n 3, 1) := by decide +kernel
theorem dX10_ofTwo_111 : decode prog_37_method_107_code 111 = .ok (.invokevirtual 705, 3) := by decide +kernel
theorem dX10_ofTwo_114 : decode prog_37_method_107_code 114 = .ok (.invokevirtual 464, 3) := by decide +kernel
theorem dX10_ofTwo_117 : decode prog_37_method_107_code 117 = .ok (.goto 50, 3) := by decide +kernel
theorem dX10_ofTwo_120 : decode prog_37_method_107_code 120 = .ok (.iconst 0, 1) := by decide +kernel
theorem dX10_ofTwo_121 : decode prog_37_method_107_code 121 = .ok (.istore 6, 2) := by decide +kernel
theorem dX10_ofTwo_123 : decode prog_37_method_107_code 123 = .ok (.iload 6, 2) := by decide +kernel
theorem dX10_ofTwo_125 : decode prog_37_method_107_code 125 = .ok (.aload_n 0, 1) := by decide +kernel
theorem dX10_ofTwo_126 : decode prog_37_method_107_code 126 = .ok (.iload_n 3, 1) := by decide +kernel
theorem dX10_ofTwo_127 : decode prog_37_method_107_code 127 = .ok (.invokevirtual 477, 3) := by decide +kernel
theorem dX10_ofTwo_130 : decode prog_37_method_107_code 130 = .ok (.if_icmp .ge 30, 3) := by decide +kernel
theorem dX10_ofTwo_133 : decode prog_37_method_107_code 133 = .ok (.aload_n 0, 1) := by decide +kernel
theorem dX10_ofTwo_134 : decode prog_37_method_107_code 134 = .ok (.iconst 0, 1) := by decide +kernel
theorem dX10_ofTwo_135 : decode prog_37_method_107_code 135 = .ok (.aload_n 0, 1) := by decide +kernel
theorem dX10_ofTwo_136 : decode prog_37_method_107_code 136 = .ok (.iload_n 2, 1) := by decide +kernel
theorem dX10_ofTwo_137 : decode prog_37_method_107_code 137 = .ok (.aload_n 0, 1) := by decide +kernel
theorem dX10_ofTwo_138 : decode prog_37_method_107_code 138 = .ok (.getfield 183, 3) := by decide +kernel
theorem dX10_ofTwo_141 : decode prog_37_method_107_code 141 = .ok (.iload_n 3, 1) := by decide +kernel
theorem dX10_ofTwo_142 : decode prog_37_method_107_code 142 = .ok (.iconst 2, 1) := by decide +kernel
theorem dX10_ofTwo_143 : decode prog_37_method_107_code 143 = .ok (.iadd, 1) := by decide +kernel
theorem dX10_ofTwo_144 : decode prog_37_method_107_code 144 = .ok (.iload 6, 2) := by decide +kernel
theorem dX10_ofTwo_146 : decode prog_37_method_107_code 146 = .ok (.iadd, 1) := by decide +kernel
theorem dX10_ofTwo_147 : decode prog_37_method_107_code 147 = .ok (.iaload, 1) := by decide +kernel
theorem dX10_ofTwo_148 : decode prog_37_method_107_code 148 = .ok (.invokevirtual 705, 3) := by decide +kernel
theorem dX10_ofTwo_151 : decode prog_37_method_107_code 151 = .ok (.invokevirtual 464, 3) := by decide +kernel
theorem dX10_ofTwo_154 : decode prog_37_method_107_code 154 = .ok (.iinc 6 1, 3) := by decide +kernel
theorem dX10_ofTwo_157 : decode prog_37_method_107_code 157 = .ok (.goto (-34), 3) := by decide +kernel
theorem dX10_ofTwo_160 : decode prog_37_method_107_code 160 = .ok (.aload_n 0, 1) := by decide +kernel
theorem dX10_ofTwo_161 : decode prog_37_method_107_code 161 = .ok (.iconst 1, 1) := by decide +kernel
theorem dX10_ofTwo_162 : decode prog_37_method_107_code 162 = .ok (.iload 4, 2) := by decide +kernel
theorem dX10_ofTwo_164 : decode prog_37_method_107_code 164 = .ok (.invokevirtual 628, 3) := by decide +kernel
theorem dX10_ofTwo_167 : decode prog_37_method_107_code 167 = .ok (.return_, 1) := by decide +kernel
theorem dX10_ofTwo_168 : decode prog_37_method_107_code 168 = .ok (.aload_n 0, 1) := by decide +kernel
theorem dX10_ofTwo_169 : decode prog_37_method_107_code 169 = .ok (.iload_n 2, 1) := by decide +kernel
theorem dX10_ofTwo_170 : decode prog_37_method_107_code 170 = .ok (.iload_n 3, 1) := by decide +kernel
theorem dX10_ofTwo_171 : decode prog_37_method_107_code 171 = .ok (.iload 4, 2) := by decide +kernel
theorem dX10_ofTwo_173 : decode prog_37_method_107_code 173 = .ok (.invokevirtual 708, 3) := by decide +kernel
theorem dX10_ofTwo_176 : decode prog_37_method_107_code 176 = .ok (.return_, 1) := by decide +kernel
theorem dX10_ofTwo_177 : decode prog_37_method_107_code 177 = .ok (.aload_n 0, 1) := by decide +kernel
theorem dX10_ofTwo_178 : decode prog_37_method_107_code 178 = .ok (.iload_n 2, 1) := by decide +kernel
theorem dX10_ofTwo_179 : decode prog_37_method_107_code 179 = .ok (.iload_n 3, 1) := by decide +kernel
theorem dX10_ofTwo_180 : decode prog_37_method_107_code 180 = .ok (.iload 4, 2) := by decide +kernel
theorem dX10_ofTwo_182 : decode prog_37_method_107_code 182 = .ok (.invokevirtual 711, 3) := by decide +kernel
theorem dX10_ofTwo_185 : decode prog_37_method_107_code 185 = .ok (.return_, 1) := by decide +kernel
theorem dX10_ofTwo_186 : decode prog_37_method_107_code 186 = .ok (.aload_n 0, 1) := by decide +kernel
theorem dX10_ofTwo_187 : decode prog_37_method_107_code 187 = .ok (.getfield 186, 3) := by decide +kernel
theorem dX10_ofTwo_190 : decode prog_37_method_107_code 190 = .ok (.iload 4, 2) := by decide +kernel
theorem dX10_ofTwo_192 : decode prog_37_method_107_code 192 = .ok (.iaload, 1) := by decide +kernel
theorem dX10_ofTwo_193 : decode prog_37_method_107_code 193 = .ok (.aload_n 0, 1) := by decide +kernel
theorem dX10_ofTwo_194 : decode prog_37_method_107_code 194 = .ok (.getfield 186, 3) := by decide +kernel
theorem dX10_ofTwo_197 : decode prog_37_method_107_code 197 = .ok (.iload 4, 2) := by decide +kernel
theorem dX10_ofTwo_199 : decode prog_37_method_107_code 199 = .ok (.iconst 1, 1) := by decide +kernel
theorem dX10_ofTwo_200 : decode prog_37_method_107_code 200 = .ok (.iadd, 1) := by decide +kernel
theorem dX10_ofTwo_201 : decode prog_37_method_107_code 201 = .ok (.iaload, 1) := by decide +kernel
theorem dX10_ofTwo_202 : decode prog_37_method_107_code 202 = .ok (.if_icmp .ne 34, 3) := by decide +kernel
theorem dX10_ofTwo_205 : decode prog_37_method_107_code 205 = .ok (.aload_n 0, 1) := by decide +kernel
theorem dX10_ofTwo_206 : decode prog_37_method_107_code 206 = .ok (.getfield 186, 3) := by decide +kernel
theorem dX10_ofTwo_209 : decode prog_37_method_107_code 209 = .ok (.iload 4, 2) := by decide +kernel
theorem dX10_ofTwo_211 : decode prog_37_method_107_code 211 = .ok (.iaload, 1) := by decide +kernel
theorem dX10_ofTwo_212 : decode prog_37_method_107_code 212 = .ok (.ifCond .ne 11, 3) := by decide +kernel
theorem dX10_ofTwo_215 : decode prog_37_method_107_code 215 = .ok (.iload_n 2, 1) := by decide +kernel
theorem dX10_ofTwo_216 : decode prog_37_method_107_code 216 = .ok (.iload_n 3, 1) := by decide +kernel
theorem dX10_ofTwo_217 : decode prog_37_method_107_code 217 = .ok (.if_icmp .ne 19, 3) := by decide +kernel
theorem dX10_ofTwo_220 : decode prog_37_method_107_code 220 = .ok (.goto 12, 3) := by decide +kernel
theorem dX10_ofTwo_223 : decode prog_37_method_107_code 223 = .ok (.aload_n 0, 1) := by decide +kernel
theorem dX10_ofTwo_224 : decode prog_37_method_107_code 224 = .ok (.iload_n 2, 1) := by decide +kernel
theorem dX10_ofTwo_225 : decode prog_37_method_107_code 225 = .ok (.iload_n 3, 1) := by decide +kernel
theorem dX10_ofTwo_226 : decode prog_37_method_107_code 226 = .ok (.invokevirtual 714, 3) := by decide +kernel
theorem dX10_ofTwo_229 : decode prog_37_method_107_code 229 = .ok (.ifCond .eq 7, 3) := by decide +kernel
theorem dX10_ofTwo_232 : decode prog_37_method_107_code 232 = .ok (.iconst 1, 1) := by decide +kernel
theorem dX10_ofTwo_233 : decode prog_37_method_107_code 233 = .ok (.goto 4, 3) := by decide +kernel
theorem dX10_ofTwo_236 : decode prog_37_method_107_code 236 = .ok (.iconst 0, 1) := by decide +kernel
theorem dX10_ofTwo_237 : decode prog_37_method_107_code 237 = .ok (.istore 6, 2) := by decide +kernel
theorem dX10_ofTwo_239 : decode prog_37_method_107_code 239 = .ok (.aload_n 0, 1) := by decide +kernel
theorem dX10_ofTwo_240 : decode prog_37_method_107_code 240 = .ok (.iload 4, 2) := by decide +kernel
theorem dX10_ofTwo_242 : decode prog_37_method_107_code 242 = .ok (.putfield 461, 3) := by decide +kernel
theorem dX10_ofTwo_245 : decode prog_37_method_107_code 245 = .ok (.aload_n 0, 1) := by decide +kernel
theorem dX10_ofTwo_246 : decode prog_37_method_107_code 246 = .ok (.iconst 0, 1) := by decide +kernel
theorem dX10_ofTwo_247 : decode prog_37_method_107_code 247 = .ok (.iload 6, 2) := by decide +kernel
theorem dX10_ofTwo_249 : decode prog_37_method_107_code 249 = .ok (.ifCond .eq 7, 3) := by decide +kernel
theorem dX10_ofTwo_252 : decode prog_37_method_107_code 252 = .ok (.iconst 1, 1) := by decide +kernel
theorem dX10_ofTwo_253 : decode prog_37_method_107_code 253 = .ok (.goto 4, 3) := by decide +kernel
theorem dX10_ofTwo_256 : decode prog_37_method_107_code 256 = .ok (.iconst 0, 1) := by decide +kernel
theorem dX10_ofTwo_257 : decode prog_37_method_107_code 257 = .ok (.invokevirtual 464, 3) := by decide +kernel
theorem dX10_ofTwo_260 : decode prog_37_method_107_code 260 = .ok (.return_, 1) := by decide +kernel
theorem dX10_join_0 : decode prog_37_method_97_code 0 = .ok (.aload_n 0, 1) := by decide +kernel
theorem dX10_join_1 : decode prog_37_method_97_code 1 = .ok (.getfield 186, 3) := by decide +kernel
theorem dX10_join_4 : decode prog_37_method_97_code 4 = .ok (.iload_n 3, 1) := by decide +kernel
theorem dX10_join_5 : decode prog_37_method_97_code 5 = .ok (.iaload, 1) := by decide +kernel
theorem dX10_join_6 : decode prog_37_method_97_code 6 = .ok (.istore 4, 2) := by decide +kernel
theorem dX10_join_8 : decode prog_37_method_97_code 8 = .ok (.aload_n 0, 1) := by decide +kernel
theorem dX10_join_9 : decode prog_37_method_97_code 9 = .ok (.getfield 186, 3) := by decide +kernel
theorem dX10_join_12 : decode prog_37_method_97_code 12 = .ok (.iload_n 3, 1) := by decide +kernel
theorem dX10_join_13 : decode prog_37_method_97_code 13 = .ok (.iconst 1, 1) := by decide +kernel
theorem dX10_join_14 : decode prog_37_method_97_code 14 = .ok (.iadd, 1) := by decide +kernel
theorem dX10_join_15 : decode prog_37_method_97_code 15 = .ok (.iaload, 1) := by decide +kernel
theorem dX10_join_16 : decode prog_37_method_97_code 16 = .ok (.istore 5, 2) := by decide +kernel
theorem dX10_join_18 : decode prog_37_method_97_code 18 = .ok (.aload_n 0, 1) := by decide +kernel
theorem dX10_join_19 : decode prog_37_method_97_code 19 = .ok (.iload_n 3, 1) := by decide +kernel
theorem dX10_join_20 : decode prog_37_method_97_code 20 = .ok (.invokevirtual 631, 3) := by decide +kernel
theorem dX10_join_23 : decode prog_37_method_97_code 23 = .ok (.istore 6, 2) := by decide +kernel
theorem dX10_join_25 : decode prog_37_method_97_code 25 = .ok (.aload_n 0, 1) := by decide +kernel
theorem dX10_join_26 : decode prog_37_method_97_code 26 = .ok (.iload_n 3, 1) := by decide +kernel
theorem dX10_join_27 : decode prog_37_method_97_code 27 = .ok (.iconst 1, 1) := by decide +kernel
theorem dX10_join_28 : decode prog_37_method_97_code 28 = .ok (.iadd, 1) := by decide +kernel
theorem dX10_join_29 : decode prog_37_method_97_code 29 = .ok (.invokevirtual 631, 3) := by decide +kernel
theorem dX10_join_32 : decode prog_37_method_97_code 32 = .ok (.istore 7, 2) := by decide +kernel
theorem dX10_join_34 : decode prog_37_method_97_code 34 = .ok (.iload 6, 2) := by decide +kernel
theorem dX10_join_36 : decode prog_37_method_97_code 36 = .ok (.iconst 3, 1) := by decide +kernel
theorem dX10_join_37 : decode prog_37_method_97_code 37 = .ok (.if_icmp .eq 9, 3) := by decide +kernel
theorem dX10_join_40 : decode prog_37_method_97_code 40 = .ok (.iload 7, 2) := by decide +kernel
theorem dX10_join_42 : decode prog_37_method_97_code 42 = .ok (.iconst 3, 1) := by decide +kernel
theorem dX10_join_43 : decode prog_37_method_97_code 43 = .ok (.if_icmp .ne 7, 3) := by decide +kernel
theorem dX10_join_46 : decode prog_37_method_97_code 46 = .ok (.iconst 3, 1) := by decide +kernel
theorem dX10_join_47 : decode prog_37_method_97_code 47 = .ok (.goto 20, 3) := by decide +kernel
theorem dX10_join_50 : decode prog_37_method_97_code 50 = .ok (.iload 6, 2) := by decide +kernel
theorem dX10_join_52 : decode prog_37_method_97_code 52 = .ok (.iconst 2, 1) := by decide +kernel
theorem dX10_join_53 : decode prog_37_method_97_code 53 = .ok (.if_icmp .eq 9, 3) := by decide +kernel
theorem dX10_join_56 : decode prog_37_method_97_code 56 = .ok (.iload 7, 2) := by decide +kernel
theorem dX10_join_58 : decode prog_37_method_97_code 58 = .ok (.iconst 2, 1) := by decide +kernel
theorem dX10_join_59 : decode prog_37_method_97_code 59 = .ok (.if_icmp .ne 7, 3) := by decide +kernel
theorem dX10_join_62 : decode prog_37_method_97_code 62 = .ok (.iconst 2, 1) := by decide +kernel
theorem dX10_join_63 : decode prog_37_method_97_code 63 = .ok (.goto 4, 3) := by decide +kernel
theorem dX10_join_66 : decode prog_37_method_97_code 66 = .ok (.iconst 1, 1) := by decide +kernel
theorem dX10_join_67 : decode prog_37_method_97_code 67 = .ok (.istore 8, 2) := by decide +kernel
theorem dX10_join_69 : decode prog_37_method_97_code 69 = .ok (.aload_n 0, 1) := by decide +kernel
theorem dX10_join_70 : decode prog_37_method_97_code 70 = .ok (.iload_n 3, 1) := by decide +kernel
theorem dX10_join_71 : decode prog_37_method_97_code 71 = .ok (.putfield 461, 3) := by decide +kernel
theorem dX10_join_74 : decode prog_37_method_97_code 74 = .ok (.aload_n 0, 1) := by decide +kernel
theorem dX10_join_75 : decode prog_37_method_97_code 75 = .ok (.iload 4, 2) := by decide +kernel
theorem dX10_join_77 : decode prog_37_method_97_code 77 = .ok (.iload_n 1, 1) := by decide +kernel
theorem dX10_join_78 : decode prog_37_method_97_code 78 = .ok (.iload 6, 2) := by decide +kernel
theorem dX10_join_80 : decode prog_37_method_97_code 80 = .ok (.iload 8, 2) := by decide +kernel
theorem dX10_join_82 : decode prog_37_method_97_code 82 = .ok (.if_icmp .ne 7, 3) := by decide +kernel
theorem dX10_join_85 : decode prog_37_method_97_code 85 = .ok (.iconst 1, 1) := by decide +kernel
theorem dX10_join_86 : decode prog_37_method_97_code 86 = .ok (.goto 4, 3) := by decide +kernel
theorem dX10_join_89 : decode prog_37_method_97_code 89 = .ok (.iconst 0, 1) := by decide +kernel
theorem dX10_join_90 : decode prog_37_method_97_code 90 = .ok (.invokevirtual 680, 3) := by decide +kernel
theorem dX10_join_93 : decode prog_37_method_97_code 93 = .ok (.aload_n 0, 1) := by decide +kernel
theorem dX10_join_94 : decode prog_37_method_97_code 94 = .ok (.iload 5, 2) := by decide +kernel
theorem dX10_join_96 : decode prog_37_method_97_code 96 = .ok (.iload_n 2, 1) := by decide +kernel
theorem dX10_join_97 : decode prog_37_method_97_code 97 = .ok (.iload 7, 2) := by decide +kernel
theorem dX10_join_99 : decode prog_37_method_97_code 99 = .ok (.iload 8, 2) := by decide +kernel
theorem dX10_join_101 : decode prog_37_method_97_code 101 = .ok (.if_icmp .ne 7, 3) := by decide +kernel
theorem dX10_join_104 : decode prog_37_method_97_code 104 = .ok (.iconst 1, 1) := by decide +kernel
theorem dX10_join_105 : decode prog_37_method_97_code 105 = .ok (.goto 4, 3) := by decide +kernel
theorem dX10_join_108 : decode prog_37_method_97_code 108 = .ok (.iconst 0, 1) := by decide +kernel
theorem dX10_join_109 : decode prog_37_method_97_code 109 = .ok (.invokevirtual 680, 3) := by decide +kernel
theorem dX10_join_112 : decode prog_37_method_97_code 112 = .ok (.aload_n 0, 1) := by decide +kernel
theorem dX10_join_113 : decode prog_37_method_97_code 113 = .ok (.iload 8, 2) := by decide +kernel
theorem dX10_join_115 : decode prog_37_method_97_code 115 = .ok (.iload_n 3, 1) := by decide +kernel
theorem dX10_join_116 : decode prog_37_method_97_code 116 = .ok (.invokevirtual 628, 3) := by decide +kernel
theorem dX10_join_119 : decode prog_37_method_97_code 119 = .ok (.return_, 1) := by decide +kernel
theorem dX10_all_0 : decode prog_37_method_96_code 0 = .ok (.iload_n 1, 1) := by decide +kernel
theorem dX10_all_1 : decode prog_37_method_96_code 1 = .ok (.ifCond .eq 7, 3) := by decide +kernel
theorem dX10_all_4 : decode prog_37_method_96_code 4 = .ok (.iload_n 3, 1) := by decide +kernel
theorem dX10_all_5 : decode prog_37_method_96_code 5 = .ok (.ifCond .ne 12, 3) := by decide +kernel
theorem dX10_all_8 : decode prog_37_method_96_code 8 = .ok (.aload_n 0, 1) := by decide +kernel
theorem dX10_all_9 : decode prog_37_method_96_code 9 = .ok (.iload_n 1, 1) := by decide +kernel
theorem dX10_all_10 : decode prog_37_method_96_code 10 = .ok (.iload_n 2, 1) := by decide +kernel
theorem dX10_all_11 : decode prog_37_method_96_code 11 = .ok (.invokevirtual 464, 3) := by decide +kernel
theorem dX10_all_14 : decode prog_37_method_96_code 14 = .ok (.goto 29, 3) := by decide +kernel
theorem dX10_all_17 : decode prog_37_method_96_code 17 = .ok (.iconst 0, 1) := by decide +kernel
theorem dX10_all_18 : decode prog_37_method_96_code 18 = .ok (.istore 4, 2) := by decide +kernel
theorem dX10_all_20 : decode prog_37_method_96_code 20 = .ok (.iload 4, 2) := by decide +kernel
theorem dX10_all_22 : decode prog_37_method_96_code 22 = .ok (.aload_n 0, 1) := by decide +kernel
theorem dX10_all_23 : decode prog_37_method_96_code 23 = .ok (.iload_n 2, 1) := by decide +kernel
theorem dX10_all_24 : decode prog_37_method_96_code 24 = .ok (.invokevirtual 477, 3) := by decide +kernel
theorem dX10_all_27 : decode prog_37_method_96_code 27 = .ok (.if_icmp .ge 16, 3) := by decide +kernel
theorem dX10_all_30 : decode prog_37_method_96_code 30 = .ok (.aload_n 0, 1) := by decide +kernel
theorem dX10_all_31 : decode prog_37_method_96_code 31 = .ok (.iload_n 2, 1) := by decide +kernel
theorem dX10_all_32 : decode prog_37_method_96_code 32 = .ok (.iload 4, 2) := by decide +kernel
theorem dX10_all_34 : decode prog_37_method_96_code 34 = .ok (.invokevirtual 610, 3) := by decide +kernel
theorem dX10_all_37 : decode prog_37_method_96_code 37 = .ok (.iinc 4 1, 3) := by decide +kernel
theorem dX10_all_40 : decode prog_37_method_96_code 40 = .ok (.goto (-20), 3) := by decide +kernel
theorem dX10_all_43 : decode prog_37_method_96_code 43 = .ok (.return_, 1) := by decide +kernel
theorem dX10_ends2_2_0 : decode prog_37_method_98_code 0 = .ok (.aload_n 0, 1) := by decide +kernel
theorem dX10_ends2_2_1 : decode prog_37_method_98_code 1 = .ok (.getfield 183, 3) := by decide +kernel
theorem dX10_ends2_2_4 : decode prog_37_method_98_code 4 = .ok (.iload_n 3, 1) := by decide +kernel
theorem dX10_ends2_2_5 : decode prog_37_method_98_code 5 = .ok (.iaload, 1) := by decide +kernel
theorem dX10_ends2_2_6 : decode prog_37_method_98_code 6 = .ok (.istore 5, 2) := by decide +kernel
theorem dX10_ends2_2_8 : decode prog_37_method_98_code 8 = .ok (.aload_n 0, 1) := by decide +kernel
theorem dX10_ends2_2_9 : decode prog_37_method_98_code 9 = .ok (.iload_n 3, 1) := by decide +kernel
theorem dX10_ends2_2_10 : decode prog_37_method_98_code 10 = .ok (.invokevirtual 477, 3) := by decide +kernel
theorem dX10_ends2_2_13 : decode prog_37_method_98_code 13 = .ok (.istore 6, 2) := by decide +kernel
theorem dX10_ends2_2_15 : decode prog_37_method_98_code 15 = .ok (.iload_n 2, 1) := by decide +kernel
theorem dX10_ends2_2_16 : decode prog_37_method_98_code 16 = .ok (.ifCond .ge 9, 3) := by decide +kernel
theorem dX10_ends2_2_19 : decode prog_37_method_98_code 19 = .ok (.iload_n 2, 1) := by decide +kernel
theorem dX10_ends2_2_20 : decode prog_37_method_98_code 20 = .ok (.i2l, 1) := by decide +kernel
theorem dX10_ends2_2_21 : decode prog_37_method_98_code 21 = .ok (.lneg, 1) := by decide +kernel
theorem dX10_ends2_2_22 : decode prog_37_method_98_code 22 = .ok (.goto 5, 3) := by decide +kernel
theorem dX10_ends2_2_25 : decode prog_37_method_98_code 25 = .ok (.iload_n 2, 1) := by decide +kernel
theorem dX10_ends2_2_26 : decode prog_37_method_98_code 26 = .ok (.i2l, 1) := by decide +kernel
theorem dX10_ends2_2_27 : decode prog_37_method_98_code 27 = .ok (.lstore 7, 2) := by decide +kernel
theorem dX10_ends2_2_29 : decode prog_37_method_98_code 29 = .ok (.iload_n 1, 1) := by decide +kernel
theorem dX10_ends2_2_30 : decode prog_37_method_98_code 30 = .ok (.bipush 20, 2) := by decide +kernel
theorem dX10_ends2_2_32 : decode prog_37_method_98_code 32 = .ok (.if_icmp .ne 34, 3) := by decide +kernel
theorem dX10_ends2_2_35 : decode prog_37_method_98_code 35 = .ok (.lload 7, 2) := by decide +kernel
theorem dX10_ends2_2_37 : decode prog_37_method_98_code 37 = .ok (.iload 5, 2) := by decide +kernel
theorem dX10_ends2_2_39 : decode prog_37_method_98_code 39 = .ok (.iconst 1, 1) := by decide +kernel
theorem dX10_ends2_2_40 : decode prog_37_method_98_code 40 = .ok (.if_icmp .ne 9, 3) := by decide +kernel
theorem dX10_ends2_2_43 : decode prog_37_method_98_code 43 = .ok (.ldc2_w 684, 3) := by decide +kernel
theorem dX10_ends2_2_46 : decode prog_37_method_98_code 46 = .ok (.goto 6, 3) := by decide +kernel
theorem dX10_ends2_2_49 : decode prog_37_method_98_code 49 = .ok (.ldc2_w 686, 3) := by decide +kernel
theorem dX10_ends2_2_52 : decode prog_37_method_98_code 52 = .ok (.lcmp, 1) := by decide +kernel
theorem dX10_ends2_2_53 : decode prog_37_method_98_code 53 = .ok (.ifCond .le 13, 3) := by decide +kernel
theorem dX10_ends2_2_56 : decode prog_37_method_98_code 56 = .ok (.aload_n 0, 1) := by decide +kernel
theorem dX10_ends2_2_57 : decode prog_37_method_98_code 57 = .ok (.iconst 2, 1) := by decide +kernel
theorem dX10_ends2_2_58 : decode prog_37_method_98_code 58 = .ok (.aload_n 0, 1) := by decide +kernel
theorem dX10_ends2_2_59 : decode prog_37_method_98_code 59 = .ok (.getfield 507, 3) := by decide +kernel
theorem dX10_ends2_2_62 : decode prog_37_method_98_code 62 = .ok (.invokevirtual 510, 3) := by decide +kernel
theorem dX10_ends2_2_65 : decode prog_37_method_98_code 65 = .ok (.return_, 1) := by decide +kernel
theorem dX10_ends2_2_66 : decode prog_37_method_98_code 66 = .ok (.aload_n 0, 1) := by decide +kernel
theorem dX10_ends2_2_67 : decode prog_37_method_98_code 67 = .ok (.iload 4, 2) := by decide +kernel
theorem dX10_ends2_2_69 : decode prog_37_method_98_code 69 = .ok (.putfield 461, 3) := by decide +kernel
theorem dX10_ends2_2_72 : decode prog_37_method_98_code 72 = .ok (.iload_n 1, 1) := by decide +kernel
theorem dX10_ends2_2_73 : decode prog_37_method_98_code 73 = .ok (.bipush 21, 2) := by decide +kernel
theorem dX10_ends2_2_75 : decode prog_37_method_98_code 75 = .ok (.if_icmp .ne 73, 3) := by decide +kernel
theorem dX10_ends2_2_78 : decode prog_37_method_98_code 78 = .ok (.lload 7, 2) := by decide +kernel
theorem dX10_ends2_2_80 : decode prog_37_method_98_code 80 = .ok (.iload 6, 2) := by decide +kernel
theorem dX10_ends2_2_82 : decode prog_37_method_98_code 82 = .ok (.i2l, 1) := by decide +kernel
theorem dX10_ends2_2_83 : decode prog_37_method_98_code 83 = .ok (.lcmp, 1) := by decide +kernel
theorem dX10_ends2_2_84 : decode prog_37_method_98_code 84 = .ok (.ifCond .le 8, 3) := by decide +kernel
theorem dX10_ends2_2_87 : decode prog_37_method_98_code 87 = .ok (.iload 6, 2) := by decide +kernel
theorem dX10_ends2_2_89 : decode prog_37_method_98_code 89 = .ok (.goto 6, 3) := by decide +kernel
theorem dX10_ends2_2_92 : decode prog_37_method_98_code 92 = .ok (.lload 7, 2) := by decide +kernel
theorem dX10_ends2_2_94 : decode prog_37_method_98_code 94 = .ok (.l2i, 1) := by decide +kernel
theorem dX10_ends2_2_95 : decode prog_37_method_98_code 95 = .ok (.istore 9, 2) := by decide +kernel
theorem dX10_ends2_2_97 : decode prog_37_method_98_code 97 = .ok (.iload_n 2, 1) := by decide +kernel
theorem dX10_ends2_2_98 : decode prog_37_method_98_code 98 = .ok (.ifCond .ge 7, 3) := by decide +kernel
theorem dX10_ends2_2_101 : decode prog_37_method_98_code 101 = .ok (.iconst 0, 1) := by decide +kernel
theorem dX10_ends2_2_102 : decode prog_37_method_98_code 102 = .ok (.goto 5, 3) := by decide +kernel
theorem dX10_ends2_2_105 : decode prog_37_method_98_code 105 = .ok (.iload 9, 2) := by decide +kernel
theorem dX10_ends2_2_107 : decode prog_37_method_98_code 107 = .ok (.istore 10, 2) := by decide +kernel
theorem dX10_ends2_2_109 : decode prog_37_method_98_code 109 = .ok (.iload 10, 2) := by decide +kernel
theorem dX10_ends2_2_111 : decode prog_37_method_98_code 111 = .ok (.istore 11, 2) := by decide +kernel
theorem dX10_ends2_2_113 : decode prog_37_method_98_code 113 = .ok (.iload 11, 2) := by decide +kernel
theorem dX10_ends2_2_115 : decode prog_37_method_98_code 115 = .ok (.iload 10, 2) := by decide +kernel
theorem dX10_ends2_2_117 : decode prog_37_method_98_code 117 = .ok (.iload 6, 2) := by decide +kernel
theorem dX10_ends2_2_119 : decode prog_37_method_98_code 119 = .ok (.iadd, 1) := by decide +kernel
theorem dX10_ends2_2_120 : decode prog_37_method_98_code 120 = .ok (.iload 9, 2) := by decide +kernel
theorem dX10_ends2_2_122 : decode prog_37_method_98_code 122 = .ok (.isub, 1) := by decide +kernel
theorem dX10_ends2_2_123 : decode prog_37_method_98_code 123 = .ok (.if_icmp .ge 16, 3) := by decide +kernel
theorem dX10_ends2_2_126 : decode prog_37_method_98_code 126 = .ok (.aload_n 0, 1) := by decide +kernel
theorem dX10_ends2_2_127 : decode prog_37_method_98_code 127 = .ok (.iload_n 3, 1) := by decide +kernel
theorem dX10_ends2_2_128 : decode prog_37_method_98_code 128 = .ok (.iload 11, 2) := by decide +kernel
theorem dX10_ends2_2_130 : decode prog_37_method_98_code 130 = .ok (.invokevirtual 610, 3) := by decide +kernel
theorem dX10_ends2_2_133 : decode prog_37_method_98_code 133 = .ok (.iinc 11 1, 3) := by decide +kernel
theorem dX10_ends2_2_136 : decode prog_37_method_98_code 136 = .ok (.goto (-23), 3) := by decide +kernel
theorem dX10_ends2_2_139 : decode prog_37_method_98_code 139 = .ok (.aload_n 0, 1) := by decide +kernel
theorem dX10_ends2_2_140 : decode prog_37_method_98_code 140 = .ok (.iload 5, 2) := by decide +kernel
theorem dX10_ends2_2_142 : decode prog_37_method_98_code 142 = .ok (.iload 4, 2) := by decide +kernel
theorem dX10_ends2_2_144 : decode prog_37_method_98_code 144 = .ok (.invokevirtual 628, 3) := by decide +kernel
theorem dX10_ends2_2_147 : decode prog_37_method_98_code 147 = .ok (.return_, 1) := by decide +kernel
theorem dX10_ends2_2_148 : decode prog_37_method_98_code 148 = .ok (.iload_n 2, 1) := by decide +kernel
theorem dX10_ends2_2_149 : decode prog_37_method_98_code 149 = .ok (.ifCond .ge 12, 3) := by decide +kernel
theorem dX10_ends2_2_152 : decode prog_37_method_98_code 152 = .ok (.iload 6, 2) := by decide +kernel
theorem dX10_ends2_2_154 : decode prog_37_method_98_code 154 = .ok (.lload 7, 2) := by decide +kernel
theorem dX10_ends2_2_156 : decode prog_37_method_98_code 156 = .ok (.l2i, 1) := by decide +kernel
theorem dX10_ends2_2_157 : decode prog_37_method_98_code 157 = .ok (.isub, 1) := by decide +kernel
theorem dX10_ends2_2_158 : decode prog_37_method_98_code 158 = .ok (.goto 4, 3) := by decide +kernel
theorem dX10_ends2_2_161 : decode prog_37_method_98_code 161 = .ok (.iconst 0, 1) := by decide +kernel
theorem dX10_ends2_2_162 : decode prog_37_method_98_code 162 = .ok (.istore 9, 2) := by decide +kernel
theorem dX10_ends2_2_164 : decode prog_37_method_98_code 164 = .ok (.iload 9, 2) := by decide +kernel
theorem dX10_ends2_2_166 : decode prog_37_method_98_code 166 = .ok (.istore 10, 2) := by decide +kernel
theorem dX10_ends2_2_168 : decode prog_37_method_98_code 168 = .ok (.iload 10, 2) := by decide +kernel
theorem dX10_ends2_2_170 : decode prog_37_method_98_code 170 = .ok (.iload 9, 2) := by decide +kernel
theorem dX10_ends2_2_172 : decode prog_37_method_98_code 172 = .ok (.lload 7, 2) := by decide +kernel
theorem dX10_ends2_2_174 : decode prog_37_method_98_code 174 = .ok (.l2i, 1) := by decide +kernel
theorem dX10_ends2_2_175 : decode prog_37_method_98_code 175 = .ok (.iadd, 1) := by decide +kernel
theorem dX10_ends2_2_176 : decode prog_37_method_98_code 176 = .ok (.if_icmp .ge 59, 3) := by decide +kernel
theorem dX10_ends2_2_179 : decode prog_37_method_98_code 179 = .ok (.iload 10, 2) := by decide +kernel
theorem dX10_ends2_2_181 : decode prog_37_method_98_code 181 = .ok (.ifCond .lt 20, 3) := by decide +kernel
theorem dX10_ends2_2_184 : decode prog_37_method_98_code 184 = .ok (.iload 10, 2) := by decide +kernel
theorem dX10_ends2_2_186 : decode prog_37_method_98_code 186 = .ok (.iload 6, 2) := by decide +kernel
theorem dX10_ends2_2_188 : decode prog_37_method_98_code 188 = .ok (.if_icmp .ge 13, 3) := by decide +kernel
theorem dX10_ends2_2_191 : decode prog_37_method_98_code 191 = .ok (.aload_n 0, 1) := by decide +kernel
theorem dX10_ends2_2_192 : decode prog_37_method_98_code 192 = .ok (.iload_n 3, 1) := by decide +kernel
theorem dX10_ends2_2_193 : decode prog_37_method_98_code 193 = .ok (.iload 10, 2) := by decide +kernel
theorem dX10_ends2_2_195 : decode prog_37_method_98_code 195 = .ok (.invokevirtual 610, 3) := by decide +kernel
theorem dX10_ends2_2_198 : decode prog_37_method_98_code 198 = .ok (.goto 31, 3) := by decide +kernel
theorem dX10_ends2_2_201 : decode prog_37_method_98_code 201 = .ok (.aload_n 0, 1) := by decide +kernel
theorem dX10_ends2_2_202 : decode prog_37_method_98_code 202 = .ok (.iload 5, 2) := by decide +kernel
theorem dX10_ends2_2_204 : decode prog_37_method_98_code 204 = .ok (.iconst 2, 1) := by decide +kernel
theorem dX10_ends2_2_205 : decode prog_37_method_98_code 205 = .ok (.if_icmp .ne 7, 3) := by decide +kernel
theorem dX10_ends2_2_208 : decode prog_37_method_98_code 208 = .ok (.iconst 1, 1) := by decide +kernel
theorem dX10_ends2_2_209 : decode prog_37_method_98_code 209 = .ok (.goto 4, 3) := by decide +kernel
theorem dX10_ends2_2_212 : decode prog_37_method_98_code 212 = .ok (.iconst 0, 1) := by decide +kernel
theorem dX10_ends2_2_213 : decode prog_37_method_98_code 213 = .ok (.iload 5, 2) := by decide +kernel
theorem dX10_ends2_2_215 : decode prog_37_method_98_code 215 = .ok (.iconst 2, 1) := by decide +kernel
theorem dX10_ends2_2_216 : decode prog_37_method_98_code 216 = .ok (.if_icmp .ne 9, 3) := by decide +kernel
theorem dX10_ends2_2_219 : decode prog_37_method_98_code 219 = .ok (.ldc_w 559, 3) := by decide +kernel
theorem dX10_ends2_2_222 : decode prog_37_method_98_code 222 = .ok (.goto 4, 3) := by decide +kernel
theorem dX10_ends2_2_225 : decode prog_37_method_98_code 225 = .ok (.iconst 0, 1) := by decide +kernel
theorem dX10_ends2_2_226 : decode prog_37_method_98_code 226 = .ok (.invokevirtual 464, 3) := by decide +kernel
theorem dX10_ends2_2_229 : decode prog_37_method_98_code 229 = .ok (.iinc 10 1, 3) := by decide +kernel
theorem dX10_ends2_2_232 : decode prog_37_method_98_code 232 = .ok (.goto (-64), 3) := by decide +kernel
theorem dX10_ends2_2_235 : decode prog_37_method_98_code 235 = .ok (.aload_n 0, 1) := by decide +kernel
theorem dX10_ends2_2_236 : decode prog_37_method_98_code 236 = .ok (.iload 5, 2) := by decide +kernel
theorem dX10_ends2_2_238 : decode prog_37_method_98_code 238 = .ok (.iload 4, 2) := by decide +kernel
theorem dX10_ends2_2_240 : decode prog_37_method_98_code 240 = .ok (.invokevirtual 628, 3) := by decide +kernel
theorem dX10_ends2_2_243 : decode prog_37_method_98_code 243 = .ok (.return_, 1) := by decide +kernel
theorem dX10_cut_0 : decode prog_37_method_99_code 0 = .ok (.aload_n 0, 1) := by decide +kernel
theorem dX10_cut_1 : decode prog_37_method_99_code 1 = .ok (.iload_n 2, 1) := by decide +kernel
theorem dX10_cut_2 : decode prog_37_method_99_code 2 = .ok (.invokevirtual 477, 3) := by decide +kernel
theorem dX10_cut_5 : decode prog_37_method_99_code 5 = .ok (.istore 4, 2) := by decide +kernel
theorem dX10_cut_7 : decode prog_37_method_99_code 7 = .ok (.lconst 0, 1) := by decide +kernel
theorem dX10_cut_8 : decode prog_37_method_99_code 8 = .ok (.lstore 5, 2) := by decide +kernel
theorem dX10_cut_10 : decode prog_37_method_99_code 10 = .ok (.iconst 0, 1) := by decide +kernel
theorem dX10_cut_11 : decode prog_37_method_99_code 11 = .ok (.istore 7, 2) := by decide +kernel
theorem dX10_cut_13 : decode prog_37_method_99_code 13 = .ok (.iconst 0, 1) := by decide +kernel
theorem dX10_cut_14 : decode prog_37_method_99_code 14 = .ok (.istore 8, 2) := by decide +kernel
theorem dX10_cut_16 : decode prog_37_method_99_code 16 = .ok (.iload 8, 2) := by decide +kernel
theorem dX10_cut_18 : decode prog_37_method_99_code 18 = .ok (.iload 4, 2) := by decide +kernel
theorem dX10_cut_20 : decode prog_37_method_99_code 20 = .ok (.if_icmp .ge 52, 3) := by decide +kernel
theorem dX10_cut_23 : decode prog_37_method_99_code 23 = .ok (.lload 5, 2) := by decide +kernel
theorem dX10_cut_25 : decode prog_37_method_99_code 25 = .ok (.aload_n 0, 1) := by decide +kernel
theorem dX10_cut_26 : decode prog_37_method_99_code 26 = .ok (.getfield 183, 3) := by decide +kernel
theorem dX10_cut_29 : decode prog_37_method_99_code 29 = .ok (.iload_n 2, 1) := by decide +kernel
theorem dX10_cut_30 : decode prog_37_method_99_code 30 = .ok (.iconst 2, 1) := by decide +kernel
theorem dX10_cut_31 : decode prog_37_method_99_code 31 = .ok (.iadd, 1) := by decide +kernel
theorem dX10_cut_32 : decode prog_37_method_99_code 32 = .ok (.iload 8, 2) := by decide +kernel
theorem dX10_cut_34 : decode prog_37_method_99_code 34 = .ok (.iadd, 1) := by decide +kernel
theorem dX10_cut_35 : decode prog_37_method_99_code 35 = .ok (.iaload, 1) := by decide +kernel
theorem dX10_cut_36 : decode prog_37_method_99_code 36 = .ok (.i2l, 1) := by decide +kernel
theorem dX10_cut_37 : decode prog_37_method_99_code 37 = .ok (.ladd, 1) := by decide +kernel
theorem dX10_cut_38 : decode prog_37_method_99_code 38 = .ok (.lstore 5, 2) := by decide +kernel
theorem dX10_cut_40 : decode prog_37_method_99_code 40 = .ok (.iload 7, 2) := by decide +kernel
theorem dX10_cut_42 : decode prog_37_method_99_code 42 = .ok (.ifCond .ne 17, 3) := by decide +kernel
theorem dX10_cut_45 : decode prog_37_method_99_code 45 = .ok (.aload_n 0, 1) := by decide +kernel
theorem dX10_cut_46 : decode prog_37_method_99_code 46 = .ok (.getfield 183, 3) := by decide +kernel
theorem dX10_cut_49 : decode prog_37_method_99_code 49 = .ok (.iload_n 2, 1) := by decide +kernel
theorem dX10_cut_50 : decode prog_37_method_99_code 50 = .ok (.iconst 2, 1) := by decide +kernel
theorem dX10_cut_51 : decode prog_37_method_99_code 51 = .ok (.iadd, 1) := by decide +kernel
theorem dX10_cut_52 : decode prog_37_method_99_code 52 = .ok (.iload 8, 2) := by decide +kernel
theorem dX10_cut_54 : decode prog_37_method_99_code 54 = .ok (.iadd, 1) := by decide +kernel
theorem dX10_cut_55 : decode prog_37_method_99_code 55 = .ok (.iaload, 1) := by decide +kernel
theorem dX10_cut_56 : decode prog_37_method_99_code 56 = .ok (.ifCond .ge 7, 3) := by decide +kernel
theorem dX10_cut_59 : decode prog_37_method_99_code 59 = .ok (.iconst 1, 1) := by decide +kernel
theorem dX10_cut_60 : decode prog_37_method_99_code 60 = .ok (.goto 4, 3) := by decide +kernel
theorem dX10_cut_63 : decode prog_37_method_99_code 63 = .ok (.iconst 0, 1) := by decide +kernel
theorem dX10_cut_64 : decode prog_37_method_99_code 64 = .ok (.istore 7, 2) := by decide +kernel
theorem dX10_cut_66 : decode prog_37_method_99_code 66 = .ok (.iinc 8 1, 3) := by decide +kernel
theorem dX10_cut_69 : decode prog_37_method_99_code 69 = .ok (.goto (-53), 3) := by decide +kernel
theorem dX10_cut_72 : decode prog_37_method_99_code 72 = .ok (.iload 4, 2) := by decide +kernel
theorem dX10_cut_74 : decode prog_37_method_99_code 74 = .ok (.bipush 20, 2) := by decide +kernel
theorem dX10_cut_76 : decode prog_37_method_99_code 76 = .ok (.if_icmp .gt 20, 3) := by decide +kernel
theorem dX10_cut_79 : decode prog_37_method_99_code 79 = .ok (.iload 7, 2) := by decide +kernel
theorem dX10_cut_81 : decode prog_37_method_99_code 81 = .ok (.ifCond .ne 15, 3) := by decide +kernel
theorem dX10_cut_84 : decode prog_37_method_99_code 84 = .ok (.lload 5, 2) := by decide +kernel
theorem dX10_cut_86 : decode prog_37_method_99_code 86 = .ok (.aload_n 0, 1) := by decide +kernel
theorem dX10_cut_87 : decode prog_37_method_99_code 87 = .ok (.iload_n 1, 1) := by decide +kernel
theorem dX10_cut_88 : decode prog_37_method_99_code 88 = .ok (.invokevirtual 477, 3) := by decide +kernel
theorem dX10_cut_91 : decode prog_37_method_99_code 91 = .ok (.i2l, 1) := by decide +kernel
theorem dX10_cut_92 : decode prog_37_method_99_code 92 = .ok (.lcmp, 1) := by decide +kernel
theorem dX10_cut_93 : decode prog_37_method_99_code 93 = .ok (.ifCond .eq 33, 3) := by decide +kernel
theorem dX10_cut_96 : decode prog_37_method_99_code 96 = .ok (.aload_n 0, 1) := by decide +kernel
theorem dX10_cut_97 : decode prog_37_method_99_code 97 = .ok (.iload 4, 2) := by decide +kernel
theorem dX10_cut_99 : decode prog_37_method_99_code 99 = .ok (.bipush 20, 2) := by decide +kernel
theorem dX10_cut_101 : decode prog_37_method_99_code 101 = .ok (.if_icmp .le 7, 3) := by decide +kernel
theorem dX10_cut_104 : decode prog_37_method_99_code 104 = .ok (.iconst 2, 1) := by decide +kernel
theorem dX10_cut_105 : decode prog_37_method_99_code 105 = .ok (.goto 13, 3) := by decide +kernel
theorem dX10_cut_108 : decode prog_37_method_99_code 108 = .ok (.iload 7, 2) := by decide +kernel
theorem dX10_cut_110 : decode prog_37_method_99_code 110 = .ok (.ifCond .eq 7, 3) := by decide +kernel
theorem dX10_cut_113 : decode prog_37_method_99_code 113 = .ok (.iconst 1, 1) := by decide +kernel
theorem dX10_cut_114 : decode prog_37_method_99_code 114 = .ok (.goto 4, 3) := by decide +kernel
theorem dX10_cut_117 : decode prog_37_method_99_code 117 = .ok (.iconst 4, 1) := by decide +kernel
theorem dX10_cut_118 : decode prog_37_method_99_code 118 = .ok (.aload_n 0, 1) := by decide +kernel
theorem dX10_cut_119 : decode prog_37_method_99_code 119 = .ok (.getfield 507, 3) := by decide +kernel
theorem dX10_cut_122 : decode prog_37_method_99_code 122 = .ok (.invokevirtual 510, 3) := by decide +kernel
theorem dX10_cut_125 : decode prog_37_method_99_code 125 = .ok (.return_, 1) := by decide +kernel
theorem dX10_cut_126 : decode prog_37_method_99_code 126 = .ok (.aload_n 0, 1) := by decide +kernel
theorem dX10_cut_127 : decode prog_37_method_99_code 127 = .ok (.iload_n 3, 1) := by decide +kernel
theorem dX10_cut_128 : decode prog_37_method_99_code 128 = .ok (.putfield 461, 3) := by decide +kernel
theorem dX10_cut_131 : decode prog_37_method_99_code 131 = .ok (.iconst 0, 1) := by decide +kernel
theorem dX10_cut_132 : decode prog_37_method_99_code 132 = .ok (.istore 8, 2) := by decide +kernel
theorem dX10_cut_134 : decode prog_37_method_99_code 134 = .ok (.iconst 0, 1) := by decide +kernel
theorem dX10_cut_135 : decode prog_37_method_99_code 135 = .ok (.istore 9, 2) := by decide +kernel
theorem dX10_cut_137 : decode prog_37_method_99_code 137 = .ok (.iload 9, 2) := by decide +kernel
theorem dX10_cut_139 : decode prog_37_method_99_code 139 = .ok (.iload 4, 2) := by decide +kernel
theorem dX10_cut_141 : decode prog_37_method_99_code 141 = .ok (.if_icmp .ge 57, 3) := by decide +kernel
theorem dX10_cut_144 : decode prog_37_method_99_code 144 = .ok (.aload_n 0, 1) := by decide +kernel
theorem dX10_cut_145 : decode prog_37_method_99_code 145 = .ok (.getfield 461, 3) := by decide +kernel
theorem dX10_cut_148 : decode prog_37_method_99_code 148 = .ok (.istore 10, 2) := by decide +kernel
theorem dX10_cut_150 : decode prog_37_method_99_code 150 = .ok (.iload 8, 2) := by decide +kernel
theorem dX10_cut_152 : decode prog_37_method_99_code 152 = .ok (.aload_n 0, 1) := by decide +kernel
theorem dX10_cut_153 : decode prog_37_method_99_code 153 = .ok (.getfield 183, 3) := by decide +kernel
theorem dX10_cut_156 : decode prog_37_method_99_code 156 = .ok (.iload_n 2, 1) := by decide +kernel
theorem dX10_cut_157 : decode prog_37_method_99_code 157 = .ok (.iconst 2, 1) := by decide +kernel
theorem dX10_cut_158 : decode prog_37_method_99_code 158 = .ok (.iadd, 1) := by decide +kernel
theorem dX10_cut_159 : decode prog_37_method_99_code 159 = .ok (.iload 9, 2) := by decide +kernel
theorem dX10_cut_161 : decode prog_37_method_99_code 161 = .ok (.iadd, 1) := by decide +kernel
theorem dX10_cut_162 : decode prog_37_method_99_code 162 = .ok (.iaload, 1) := by decide +kernel
theorem dX10_cut_163 : decode prog_37_method_99_code 163 = .ok (.iadd, 1) := by decide +kernel
theorem dX10_cut_164 : decode prog_37_method_99_code 164 = .ok (.istore 11, 2) := by decide +kernel
theorem dX10_cut_166 : decode prog_37_method_99_code 166 = .ok (.iload 8, 2) := by decide +kernel
theorem dX10_cut_168 : decode prog_37_method_99_code 168 = .ok (.iload 11, 2) := by decide +kernel
theorem dX10_cut_170 : decode prog_37_method_99_code 170 = .ok (.if_icmp .ge 16, 3) := by decide +kernel
theorem dX10_cut_173 : decode prog_37_method_99_code 173 = .ok (.aload_n 0, 1) := by decide +kernel
theorem dX10_cut_174 : decode prog_37_method_99_code 174 = .ok (.iload_n 1, 1) := by decide +kernel
theorem dX10_cut_175 : decode prog_37_method_99_code 175 = .ok (.iload 8, 2) := by decide +kernel
theorem dX10_cut_177 : decode prog_37_method_99_code 177 = .ok (.invokevirtual 610, 3) := by decide +kernel
theorem dX10_cut_180 : decode prog_37_method_99_code 180 = .ok (.iinc 8 1, 3) := by decide +kernel
theorem dX10_cut_183 : decode prog_37_method_99_code 183 = .ok (.goto (-17), 3) := by decide +kernel
theorem dX10_cut_186 : decode prog_37_method_99_code 186 = .ok (.aload_n 0, 1) := by decide +kernel
theorem dX10_cut_187 : decode prog_37_method_99_code 187 = .ok (.iload 10, 2) := by decide +kernel
theorem dX10_cut_189 : decode prog_37_method_99_code 189 = .ok (.invokevirtual 634, 3) := by decide +kernel
theorem dX10_cut_192 : decode prog_37_method_99_code 192 = .ok (.iinc 9 1, 3) := by decide +kernel
theorem dX10_cut_195 : decode prog_37_method_99_code 195 = .ok (.goto (-58), 3) := by decide +kernel
theorem dX10_cut_198 : decode prog_37_method_99_code 198 = .ok (.aload_n 0, 1) := by decide +kernel
theorem dX10_cut_199 : decode prog_37_method_99_code 199 = .ok (.iconst 2, 1) := by decide +kernel
theorem dX10_cut_200 : decode prog_37_method_99_code 200 = .ok (.iload_n 3, 1) := by decide +kernel
theorem dX10_cut_201 : decode prog_37_method_99_code 201 = .ok (.invokevirtual 628, 3) := by decide +kernel
theorem dX10_cut_204 : decode prog_37_method_99_code 204 = .ok (.return_, 1) := by decide +kernel
theorem dX10_pick_0 : decode prog_37_method_100_code 0 = .ok (.aload_n 0, 1) := by decide +kernel
theorem dX10_pick_1 : decode prog_37_method_100_code 1 = .ok (.getfield 183, 3) := by decide +kernel
theorem dX10_pick_4 : decode prog_37_method_100_code 4 = .ok (.iload_n 1, 1) := by decide +kernel
theorem dX10_pick_5 : decode prog_37_method_100_code 5 = .ok (.iaload, 1) := by decide +kernel
theorem dX10_pick_6 : decode prog_37_method_100_code 6 = .ok (.istore 4, 2) := by decide +kernel
theorem dX10_pick_8 : decode prog_37_method_100_code 8 = .ok (.aload_n 0, 1) := by decide +kernel
theorem dX10_pick_9 : decode prog_37_method_100_code 9 = .ok (.iload_n 1, 1) := by decide +kernel
theorem dX10_pick_10 : decode prog_37_method_100_code 10 = .ok (.invokevirtual 477, 3) := by decide +kernel
theorem dX10_pick_13 : decode prog_37_method_100_code 13 = .ok (.aload_n 0, 1) := by decide +kernel
theorem dX10_pick_14 : decode prog_37_method_100_code 14 = .ok (.iload_n 2, 1) := by decide +kernel
theorem dX10_pick_15 : decode prog_37_method_100_code 15 = .ok (.invokevirtual 477, 3) := by decide +kernel
theorem dX10_pick_18 : decode prog_37_method_100_code 18 = .ok (.if_icmp .eq 13, 3) := by decide +kernel
theorem dX10_pick_21 : decode prog_37_method_100_code 21 = .ok (.aload_n 0, 1) := by decide +kernel
theorem dX10_pick_22 : decode prog_37_method_100_code 22 = .ok (.iconst 4, 1) := by decide +kernel
theorem dX10_pick_23 : decode prog_37_method_100_code 23 = .ok (.aload_n 0, 1) := by decide +kernel
theorem dX10_pick_24 : decode prog_37_method_100_code 24 = .ok (.getfield 507, 3) := by decide +kernel
theorem dX10_pick_27 : decode prog_37_method_100_code 27 = .ok (.invokevirtual 510, 3) := by decide +kernel
theorem dX10_pick_30 : decode prog_37_method_100_code 30 = .ok (.return_, 1) := by decide +kernel
theorem dX10_pick_31 : decode prog_37_method_100_code 31 = .ok (.aload_n 0, 1) := by decide +kernel
theorem dX10_pick_32 : decode prog_37_method_100_code 32 = .ok (.iload_n 3, 1) := by decide +kernel
theorem dX10_pick_33 : decode prog_37_method_100_code 33 = .ok (.putfield 461, 3) := by decide +kernel
theorem dX10_pick_36 : decode prog_37_method_100_code 36 = .ok (.iconst 0, 1) := by decide +kernel
theorem dX10_pick_37 : decode prog_37_method_100_code 37 = .ok (.istore 5, 2) := by decide +kernel
theorem dX10_pick_39 : decode prog_37_method_100_code 39 = .ok (.iload 5, 2) := by decide +kernel
theorem dX10_pick_41 : decode prog_37_method_100_code 41 = .ok (.aload_n 0, 1) := by decide +kernel
theorem dX10_pick_42 : decode prog_37_method_100_code 42 = .ok (.iload_n 1, 1) := by decide +kernel
theorem dX10_pick_43 : decode prog_37_method_100_code 43 = .ok (.invokevirtual 477, 3) := by decide +kernel
theorem dX10_pick_46 : decode prog_37_method_100_code 46 = .ok (.if_icmp .ge 30, 3) := by decide +kernel
theorem dX10_pick_49 : decode prog_37_method_100_code 49 = .ok (.aload_n 0, 1) := by decide +kernel
theorem dX10_pick_50 : decode prog_37_method_100_code 50 = .ok (.getfield 183, 3) := by decide +kernel
theorem dX10_pick_53 : decode prog_37_method_100_code 53 = .ok (.iload_n 2, 1) := by decide +kernel
theorem dX10_pick_54 : decode prog_37_method_100_code 54 = .ok (.iconst 2, 1) := by decide +kernel
theorem dX10_pick_55 : decode prog_37_method_100_code 55 = .ok (.iadd, 1) := by decide +kernel
theorem dX10_pick_56 : decode prog_37_method_100_code 56 = .ok (.iload 5, 2) := by decide +kernel
theorem dX10_pick_58 : decode prog_37_method_100_code 58 = .ok (.iadd, 1) := by decide +kernel
theorem dX10_pick_59 : decode prog_37_method_100_code 59 = .ok (.iaload, 1) := by decide +kernel
theorem dX10_pick_60 : decode prog_37_method_100_code 60 = .ok (.ifCond .eq 10, 3) := by decide +kernel
theorem dX10_pick_63 : decode prog_37_method_100_code 63 = .ok (.aload_n 0, 1) := by decide +kernel
theorem dX10_pick_64 : decode prog_37_method_100_code 64 = .ok (.iload_n 1, 1) := by decide +kernel
theorem dX10_pick_65 : decode prog_37_method_100_code 65 = .ok (.iload 5, 2) := by decide +kernel
theorem dX10_pick_67 : decode prog_37_method_100_code 67 = .ok (.invokevirtual 610, 3) := by decide +kernel
theorem dX10_pick_70 : decode prog_37_method_100_code 70 = .ok (.iinc 5 1, 3) := by decide +kernel
theorem dX10_pick_73 : decode prog_37_method_100_code 73 = .ok (.goto (-34), 3) := by decide +kernel
theorem dX10_pick_76 : decode prog_37_method_100_code 76 = .ok (.aload_n 0, 1) := by decide +kernel
theorem dX10_pick_77 : decode prog_37_method_100_code 77 = .ok (.iload 4, 2) := by decide +kernel
theorem dX10_pick_79 : decode prog_37_method_100_code 79 = .ok (.iload_n 3, 1) := by decide +kernel
theorem dX10_pick_80 : decode prog_37_method_100_code 80 = .ok (.invokevirtual 628, 3) := by decide +kernel
theorem dX10_pick_83 : decode prog_37_method_100_code 83 = .ok (.return_, 1) := by decide +kernel
theorem dX10_findIn_0 : decode prog_37_method_101_code 0 = .ok (.iconst 0, 1) := by decide +kernel
theorem dX10_findIn_1 : decode prog_37_method_101_code 1 = .ok (.istore_n 3, 1) := by decide +kernel
theorem dX10_findIn_2 : decode prog_37_method_101_code 2 = .ok (.iload_n 3, 1) := by decide +kernel
theorem dX10_findIn_3 : decode prog_37_method_101_code 3 = .ok (.aload_n 0, 1) := by decide +kernel
theorem dX10_findIn_4 : decode prog_37_method_101_code 4 = .ok (.iload_n 1, 1) := by decide +kernel
theorem dX10_findIn_5 : decode prog_37_method_101_code 5 = .ok (.invokevirtual 477, 3) := by decide +kernel
theorem dX10_findIn_8 : decode prog_37_method_101_code 8 = .ok (.if_icmp .ge 25, 3) := by decide +kernel
theorem dX10_findIn_11 : decode prog_37_method_101_code 11 = .ok (.aload_n 0, 1) := by decide +kernel
theorem dX10_findIn_12 : decode prog_37_method_101_code 12 = .ok (.getfield 183, 3) := by decide +kernel
theorem dX10_findIn_15 : decode prog_37_method_101_code 15 = .ok (.iload_n 1, 1) := by decide +kernel
theorem dX10_findIn_16 : decode prog_37_method_101_code 16 = .ok (.iconst 2, 1) := by decide +kernel
theorem dX10_findIn_17 : decode prog_37_method_101_code 17 = .ok (.iadd, 1) := by decide +kernel
theorem dX10_findIn_18 : decode prog_37_method_101_code 18 = .ok (.iload_n 3, 1) := by decide +kernel
theorem dX10_findIn_19 : decode prog_37_method_101_code 19 = .ok (.iadd, 1) := by decide +kernel
theorem dX10_findIn_20 : decode prog_37_method_101_code 20 = .ok (.iaload, 1) := by decide +kernel
theorem dX10_findIn_21 : decode prog_37_method_101_code 21 = .ok (.iload_n 2, 1) := by decide +kernel
theorem dX10_findIn_22 : decode prog_37_method_101_code 22 = .ok (.if_icmp .ne 5, 3) := by decide +kernel
theorem dX10_findIn_25 : decode prog_37_method_101_code 25 = .ok (.iload_n 3, 1) := by decide +kernel
theorem dX10_findIn_26 : decode prog_37_method_101_code 26 = .ok (.ireturn, 1) := by decide +kernel
theorem dX10_findIn_27 : decode prog_37_method_101_code 27 = .ok (.iinc 3 1, 3) := by decide +kernel
theorem dX10_findIn_30 : decode prog_37_method_101_code 30 = .ok (.goto (-28), 3) := by decide +kernel
theorem dX10_findIn_33 : decode prog_37_method_101_code 33 = .ok (.iconst (-1), 1) := by decide +kernel
theorem dX10_findIn_34 : decode prog_37_method_101_code 34 = .ok (.ireturn, 1) := by decide +kernel
theorem dX10_pad_0 : decode prog_37_method_102_code 0 = .ok (.iload_n 2, 1) := by decide +kernel
theorem dX10_pad_1 : decode prog_37_method_102_code 1 = .ok (.bipush 64, 2) := by decide +kernel
theorem dX10_pad_3 : decode prog_37_method_102_code 3 = .ok (.if_icmp .gt 19, 3) := by decide +kernel
theorem dX10_pad_6 : decode prog_37_method_102_code 6 = .ok (.aload_n 0, 1) := by decide +kernel
theorem dX10_pad_7 : decode prog_37_method_102_code 7 = .ok (.iload_n 1, 1) := by decide +kernel
theorem dX10_pad_8 : decode prog_37_method_102_code 8 = .ok (.invokevirtual 477, 3) := by decide +kernel
theorem dX10_pad_11 : decode prog_37_method_102_code 11 = .ok (.i2l, 1) := by decide +kernel
theorem dX10_pad_12 : decode prog_37_method_102_code 12 = .ok (.iload_n 2, 1) := by decide +kernel
theorem dX10_pad_13 : decode prog_37_method_102_code 13 = .ok (.i2l, 1) := by decide +kernel
theorem dX10_pad_14 : decode prog_37_method_102_code 14 = .ok (.lmul, 1) := by decide +kernel
theorem dX10_pad_15 : decode prog_37_method_102_code 15 = .ok (.ldc2_w 663, 3) := by decide +kernel
theorem dX10_pad_18 : decode prog_37_method_102_code 18 = .ok (.lcmp, 1) := by decide +kernel
theorem dX10_pad_19 : decode prog_37_method_102_code 19 = .ok (.ifCond .le 7, 3) := by decide +kernel
theorem dX10_pad_22 : decode prog_37_method_102_code 22 = .ok (.iconst 1, 1) := by decide +kernel
theorem dX10_pad_23 : decode prog_37_method_102_code 23 = .ok (.goto 4, 3) := by decide +kernel
theorem dX10_pad_26 : decode prog_37_method_102_code 26 = .ok (.iconst 0, 1) := by decide +kernel
theorem dX10_pad_27 : decode prog_37_method_102_code 27 = .ok (.istore 4, 2) := by decide +kernel
theorem dX10_pad_29 : decode prog_37_method_102_code 29 = .ok (.iload 4, 2) := by decide +kernel
theorem dX10_pad_31 : decode prog_37_method_102_code 31 = .ok (.ifCond .ne 7, 3) := by decide +kernel
theorem dX10_pad_34 : decode prog_37_method_102_code 34 = .ok (.iload_n 2, 1) := by decide +kernel
theorem dX10_pad_35 : decode prog_37_method_102_code 35 = .ok (.ifCond .ge 22, 3) := by decide +kernel
theorem dX10_pad_38 : decode prog_37_method_102_code 38 = .ok (.aload_n 0, 1) := by decide +kernel
theorem dX10_pad_39 : decode prog_37_method_102_code 39 = .ok (.iload 4, 2) := by decide +kernel
theorem dX10_pad_41 : decode prog_37_method_102_code 41 = .ok (.ifCond .eq 7, 3) := by decide +kernel
theorem dX10_pad_44 : decode prog_37_method_102_code 44 = .ok (.iconst 2, 1) := by decide +kernel
theorem dX10_pad_45 : decode prog_37_method_102_code 45 = .ok (.goto 4, 3) := by decide +kernel
theorem dX10_pad_48 : decode prog_37_method_102_code 48 = .ok (.iconst 1, 1) := by decide +kernel
theorem dX10_pad_49 : decode prog_37_method_102_code 49 = .ok (.aload_n 0, 1) := by decide +kernel
theorem dX10_pad_50 : decode prog_37_method_102_code 50 = .ok (.getfield 507, 3) := by decide +kernel
theorem dX10_pad_53 : decode prog_37_method_102_code 53 = .ok (.invokevirtual 510, 3) := by decide +kernel
theorem dX10_pad_56 : decode prog_37_method_102_code 56 = .ok (.return_, 1) := by decide +kernel
theorem dX10_pad_57 : decode prog_37_method_102_code 57 = .ok (.aload_n 0, 1) := by decide +kernel
theorem dX10_pad_58 : decode prog_37_method_102_code 58 = .ok (.iload_n 3, 1) := by decide +kernel
theorem dX10_pad_59 : decode prog_37_method_102_code 59 = .ok (.putfield 461, 3) := by decide +kernel
theorem dX10_pad_62 : decode prog_37_method_102_code 62 = .ok (.iconst 0, 1) := by decide +kernel
theorem dX10_pad_63 : decode prog_37_method_102_code 63 = .ok (.istore 5, 2) := by decide +kernel
theorem dX10_pad_65 : decode prog_37_method_102_code 65 = .ok (.iload 5, 2) := by decide +kernel
theorem dX10_pad_67 : decode prog_37_method_102_code 67 = .ok (.aload_n 0, 1) := by decide +kernel
theorem dX10_pad_68 : decode prog_37_method_102_code 68 = .ok (.iload_n 1, 1) := by decide +kernel
theorem dX10_pad_69 : decode prog_37_method_102_code 69 = .ok (.invokevirtual 477, 3) := by decide +kernel
theorem dX10_pad_72 : decode prog_37_method_102_code 72 = .ok (.if_icmp .ge 77, 3) := by decide +kernel
theorem dX10_pad_75 : decode prog_37_method_102_code 75 = .ok (.aload_n 0, 1) := by decide +kernel
theorem dX10_pad_76 : decode prog_37_method_102_code 76 = .ok (.iload_n 1, 1) := by decide +kernel
theorem dX10_pad_77 : decode prog_37_method_102_code 77 = .ok (.iload 5, 2) := by decide +kernel
theorem dX10_pad_79 : decode prog_37_method_102_code 79 = .ok (.invokevirtual 470, 3) := by decide +kernel
theorem dX10_pad_82 : decode prog_37_method_102_code 82 = .ok (.istore 6, 2) := by decide +kernel
theorem dX10_pad_84 : decode prog_37_method_102_code 84 = .ok (.aload_n 0, 1) := by decide +kernel
theorem dX10_pad_85 : decode prog_37_method_102_code 85 = .ok (.getfield 461, 3) := by decide +kernel
theorem dX10_pad_88 : decode prog_37_method_102_code 88 = .ok (.istore 7, 2) := by decide +kernel
theorem dX10_pad_90 : decode prog_37_method_102_code 90 = .ok (.iconst 0, 1) := by decide +kernel
theorem dX10_pad_91 : decode prog_37_method_102_code 91 = .ok (.istore 8, 2) := by decide +kernel
theorem dX10_pad_93 : decode prog_37_method_102_code 93 = .ok (.iload 8, 2) := by decide +kernel
theorem dX10_pad_95 : decode prog_37_method_102_code 95 = .ok (.iload_n 2, 1) := by decide +kernel
theorem dX10_pad_96 : decode prog_37_method_102_code 96 = .ok (.if_icmp .ge 41, 3) := by decide +kernel
theorem dX10_pad_99 : decode prog_37_method_102_code 99 = .ok (.aload_n 0, 1) := by decide +kernel
theorem dX10_pad_100 : decode prog_37_method_102_code 100 = .ok (.iconst 0, 1) := by decide +kernel
theorem dX10_pad_101 : decode prog_37_method_102_code 101 = .ok (.iload 8, 2) := by decide +kernel
theorem dX10_pad_103 : decode prog_37_method_102_code 103 = .ok (.aload_n 0, 1) := by decide +kernel
theorem dX10_pad_104 : decode prog_37_method_102_code 104 = .ok (.iload 6, 2) := by decide +kernel
theorem dX10_pad_106 : decode prog_37_method_102_code 106 = .ok (.invokevirtual 477, 3) := by decide +kernel
theorem dX10_pad_109 : decode prog_37_method_102_code 109 = .ok (.if_icmp .ge 18, 3) := by decide +kernel
theorem dX10_pad_112 : decode prog_37_method_102_code 112 = .ok (.aload_n 0, 1) := by decide +kernel
theorem dX10_pad_113 : decode prog_37_method_102_code 113 = .ok (.getfield 183, 3) := by decide +kernel
theorem dX10_pad_116 : decode prog_37_method_102_code 116 = .ok (.iload 6, 2) := by decide +kernel
theorem dX10_pad_118 : decode prog_37_method_102_code 118 = .ok (.iconst 2, 1) := by decide +kernel
theorem dX10_pad_119 : decode prog_37_method_102_code 119 = .ok (.iadd, 1) := by decide +kernel
theorem dX10_pad_120 : decode prog_37_method_102_code 120 = .ok (.iload 8, 2) := by decide +kernel
theorem dX10_pad_122 : decode prog_37_method_102_code 122 = .ok (.iadd, 1) := by decide +kernel
theorem dX10_pad_123 : decode prog_37_method_102_code 123 = .ok (.iaload, 1) := by decide +kernel
theorem dX10_pad_124 : decode prog_37_method_102_code 124 = .ok (.goto 4, 3) := by decide +kernel
theorem dX10_pad_127 : decode prog_37_method_102_code 127 = .ok (.iconst 0, 1) := by decide +kernel
theorem dX10_pad_128 : decode prog_37_method_102_code 128 = .ok (.invokevirtual 464, 3) := by decide +kernel
theorem dX10_pad_131 : decode prog_37_method_102_code 131 = .ok (.iinc 8 1, 3) := by decide +kernel
theorem dX10_pad_134 : decode prog_37_method_102_code 134 = .ok (.goto (-41), 3) := by decide +kernel
theorem dX10_pad_137 : decode prog_37_method_102_code 137 = .ok (.aload_n 0, 1) := by decide +kernel
theorem dX10_pad_138 : decode prog_37_method_102_code 138 = .ok (.iload 7, 2) := by decide +kernel
theorem dX10_pad_140 : decode prog_37_method_102_code 140 = .ok (.invokevirtual 634, 3) := by decide +kernel
theorem dX10_pad_143 : decode prog_37_method_102_code 143 = .ok (.iinc 5 1, 3) := by decide +kernel
theorem dX10_pad_146 : decode prog_37_method_102_code 146 = .ok (.goto (-81), 3) := by decide +kernel
theorem dX10_pad_149 : decode prog_37_method_102_code 149 = .ok (.aload_n 0, 1) := by decide +kernel
theorem dX10_pad_150 : decode prog_37_method_102_code 150 = .ok (.iconst 2, 1) := by decide +kernel
theorem dX10_pad_151 : decode prog_37_method_102_code 151 = .ok (.iload_n 3, 1) := by decide +kernel
theorem dX10_pad_152 : decode prog_37_method_102_code 152 = .ok (.invokevirtual 628, 3) := by decide +kernel
theorem dX10_pad_155 : decode prog_37_method_102_code 155 = .ok (.return_, 1) := by decide +kernel
theorem dX10_outer_0 : decode prog_37_method_103_code 0 = .ok (.aload_n 0, 1) := by decide +kernel
theorem dX10_outer_1 : decode prog_37_method_103_code 1 = .ok (.iload_n 1, 1) := by decide +kernel
theorem dX10_outer_2 : decode prog_37_method_103_code 2 = .ok (.invokevirtual 477, 3) := by decide +kernel
theorem dX10_outer_5 : decode prog_37_method_103_code 5 = .ok (.bipush 20, 2) := by decide +kernel
theorem dX10_outer_7 : decode prog_37_method_103_code 7 = .ok (.if_icmp .gt 20, 3) := by decide +kernel
theorem dX10_outer_10 : decode prog_37_method_103_code 10 = .ok (.aload_n 0, 1) := by decide +kernel
theorem dX10_outer_11 : decode prog_37_method_103_code 11 = .ok (.iload_n 1, 1) := by decide +kernel
theorem dX10_outer_12 : decode prog_37_method_103_code 12 = .ok (.invokevirtual 477, 3) := by decide +kernel
theorem dX10_outer_15 : decode prog_37_method_103_code 15 = .ok (.aload_n 0, 1) := by decide +kernel
theorem dX10_outer_16 : decode prog_37_method_103_code 16 = .ok (.iload_n 2, 1) := by decide +kernel
theorem dX10_outer_17 : decode prog_37_method_103_code 17 = .ok (.invokevirtual 477, 3) := by decide +kernel
theorem dX10_outer_20 : decode prog_37_method_103_code 20 = .ok (.imul, 1) := by decide +kernel
theorem dX10_outer_21 : decode prog_37_method_103_code 21 = .ok (.sipush 200, 3) := by decide +kernel
theorem dX10_outer_24 : decode prog_37_method_103_code 24 = .ok (.if_icmp .le 13, 3) := by decide +kernel
theorem dX10_outer_27 : decode prog_37_method_103_code 27 = .ok (.aload_n 0, 1) := by decide +kernel
theorem dX10_outer_28 : decode prog_37_method_103_code 28 = .ok (.iconst 2, 1) := by decide +kernel
theorem dX10_outer_29 : decode prog_37_method_103_code 29 = .ok (.aload_n 0, 1) := by decide +kernel
theorem dX10_outer_30 : decode prog_37_method_103_code 30 = .ok (.getfield 507, 3) := by decide +kernel
theorem dX10_outer_33 : decode prog_37_method_103_code 33 = .ok (.invokevirtual 510, 3) := by decide +kernel
theorem dX10_outer_36 : decode prog_37_method_103_code 36 = .ok (.return_, 1) := by decide +kernel
theorem dX10_outer_37 : decode prog_37_method_103_code 37 = .ok (.aload_n 0, 1) := by decide +kernel
theorem dX10_outer_38 : decode prog_37_method_103_code 38 = .ok (.iload_n 3, 1) := by decide +kernel
theorem dX10_outer_39 : decode prog_37_method_103_code 39 = .ok (.putfield 461, 3) := by decide +kernel
theorem dX10_outer_42 : decode prog_37_method_103_code 42 = .ok (.iconst 0, 1) := by decide +kernel
theorem dX10_outer_43 : decode prog_37_method_103_code 43 = .ok (.istore 4, 2) := by decide +kernel
theorem dX10_outer_45 : decode prog_37_method_103_code 45 = .ok (.iload 4, 2) := by decide +kernel
theorem dX10_outer_47 : decode prog_37_method_103_code 47 = .ok (.aload_n 0, 1) := by decide +kernel
theorem dX10_outer_48 : decode prog_37_method_103_code 48 = .ok (.iload_n 1, 1) := by decide +kernel
theorem dX10_outer_49 : decode prog_37_method_103_code 49 = .ok (.invokevirtual 477, 3) := by decide +kernel
theorem dX10_outer_52 : decode prog_37_method_103_code 52 = .ok (.if_icmp .ge 68, 3) := by decide +kernel
theorem dX10_outer_55 : decode prog_37_method_103_code 55 = .ok (.aload_n 0, 1) := by decide +kernel
theorem dX10_outer_56 : decode prog_37_method_103_code 56 = .ok (.getfield 461, 3) := by decide +kernel
theorem dX10_outer_59 : decode prog_37_method_103_code 59 = .ok (.istore 5, 2) := by decide +kernel
theorem dX10_outer_61 : decode prog_37_method_103_code 61 = .ok (.iconst 0, 1) := by decide +kernel
theorem dX10_outer_62 : decode prog_37_method_103_code 62 = .ok (.istore 6, 2) := by decide +kernel
theorem dX10_outer_64 : decode prog_37_method_103_code 64 = .ok (.iload 6, 2) := by decide +kernel
theorem dX10_outer_66 : decode prog_37_method_103_code 66 = .ok (.aload_n 0, 1) := by decide +kernel
theorem dX10_outer_67 : decode prog_37_method_103_code 67 = .ok (.iload_n 2, 1) := by decide +kernel
theorem dX10_outer_68 : decode prog_37_method_103_code 68 = .ok (.invokevirtual 477, 3) := by decide +kernel
theorem dX10_outer_71 : decode prog_37_method_103_code 71 = .ok (.if_icmp .ge 37, 3) := by decide +kernel
theorem dX10_outer_74 : decode prog_37_method_103_code 74 = .ok (.aload_n 0, 1) := by decide +kernel
theorem dX10_outer_75 : decode prog_37_method_103_code 75 = .ok (.iconst 0, 1) := by decide +kernel
theorem dX10_outer_76 : decode prog_37_method_103_code 76 = .ok (.aload_n 0, 1) := by decide +kernel
theorem dX10_outer_77 : decode prog_37_method_103_code 77 = .ok (.getfield 183, 3) := by decide +kernel
theorem dX10_outer_80 : decode prog_37_method_103_code 80 = .ok (.iload_n 1, 1) := by decide +kernel
theorem dX10_outer_81 : decode prog_37_method_103_code 81 = .ok (.iconst 2, 1) := by decide +kernel
theorem dX10_outer_82 : decode prog_37_method_103_code 82 = .ok (.iadd, 1) := by decide +kernel
theorem dX10_outer_83 : decode prog_37_method_103_code 83 = .ok (.iload 4, 2) := by decide +kernel
theorem dX10_outer_85 : decode prog_37_method_103_code 85 = .ok (.iadd, 1) := by decide +kernel
theorem dX10_outer_86 : decode prog_37_method_103_code 86 = .ok (.iaload, 1) := by decide +kernel
theorem dX10_outer_87 : decode prog_37_method_103_code 87 = .ok (.aload_n 0, 1) := by decide +kernel
theorem dX10_outer_88 : decode prog_37_method_103_code 88 = .ok (.getfield 183, 3) := by decide +kernel
theorem dX10_outer_91 : decode prog_37_method_103_code 91 = .ok (.iload_n 2, 1) := by decide +kernel
theorem dX10_outer_92 : decode prog_37_method_103_code 92 = .ok (.iconst 2, 1) := by decide +kernel
theorem dX10_outer_93 : decode prog_37_method_103_code 93 = .ok (.iadd, 1) := by decide +kernel
theorem dX10_outer_94 : decode prog_37_method_103_code 94 = .ok (.iload 6, 2) := by decide +kernel
theorem dX10_outer_96 : decode prog_37_method_103_code 96 = .ok (.iadd, 1) := by decide +kernel
theorem dX10_outer_97 : decode prog_37_method_103_code 97 = .ok (.iaload, 1) := by decide +kernel
theorem dX10_outer_98 : decode prog_37_method_103_code 98 = .ok (.imul, 1) := by decide +kernel
theorem dX10_outer_99 : decode prog_37_method_103_code 99 = .ok (.invokevirtual 464, 3) := by decide +kernel
theorem dX10_outer_102 : decode prog_37_method_103_code 102 = .ok (.iinc 6 1, 3) := by decide +kernel
theorem dX10_outer_105 : decode prog_37_method_103_code 105 = .ok (.goto (-41), 3) := by decide +kernel
theorem dX10_outer_108 : decode prog_37_method_103_code 108 = .ok (.aload_n 0, 1) := by decide +kernel
theorem dX10_outer_109 : decode prog_37_method_103_code 109 = .ok (.iload 5, 2) := by decide +kernel
theorem dX10_outer_111 : decode prog_37_method_103_code 111 = .ok (.invokevirtual 634, 3) := by decide +kernel
theorem dX10_outer_114 : decode prog_37_method_103_code 114 = .ok (.iinc 4 1, 3) := by decide +kernel
theorem dX10_outer_117 : decode prog_37_method_103_code 117 = .ok (.goto (-72), 3) := by decide +kernel
theorem dX10_outer_120 : decode prog_37_method_103_code 120 = .ok (.aload_n 0, 1) := by decide +kernel
theorem dX10_outer_121 : decode prog_37_method_103_code 121 = .ok (.iconst 2, 1) := by decide +kernel
theorem dX10_outer_122 : decode prog_37_method_103_code 122 = .ok (.iload_n 3, 1) := by decide +kernel
theorem dX10_outer_123 : decode prog_37_method_103_code 123 = .ok (.invokevirtual 628, 3) := by decide +kernel
theorem dX10_outer_126 : decode prog_37_method_103_code 126 = .ok (.return_, 1) := by decide +kernel
theorem dX10_areSame_0 : decode prog_37_method_106_code 0 = .ok (.aload_n 0, 1) := by decide +kernel
theorem dX10_areSame_1 : decode prog_37_method_106_code 1 = .ok (.getfield 183, 3) := by decide +kernel
theorem dX10_areSame_4 : decode prog_37_method_106_code 4 = .ok (.iload_n 1, 1) := by decide +kernel
theorem dX10_areSame_5 : decode prog_37_method_106_code 5 = .ok (.iaload, 1) := by decide +kernel
theorem dX10_areSame_6 : decode prog_37_method_106_code 6 = .ok (.aload_n 0, 1) := by decide +kernel
theorem dX10_areSame_7 : decode prog_37_method_106_code 7 = .ok (.getfield 183, 3) := by decide +kernel
theorem dX10_areSame_10 : decode prog_37_method_106_code 10 = .ok (.iload_n 2, 1) := by decide +kernel
theorem dX10_areSame_11 : decode prog_37_method_106_code 11 = .ok (.iaload, 1) := by decide +kernel
theorem dX10_areSame_12 : decode prog_37_method_106_code 12 = .ok (.if_icmp .eq 5, 3) := by decide +kernel
theorem dX10_areSame_15 : decode prog_37_method_106_code 15 = .ok (.iconst 0, 1) := by decide +kernel
theorem dX10_areSame_16 : decode prog_37_method_106_code 16 = .ok (.ireturn, 1) := by decide +kernel
theorem dX10_areSame_17 : decode prog_37_method_106_code 17 = .ok (.aload_n 0, 1) := by decide +kernel
theorem dX10_areSame_18 : decode prog_37_method_106_code 18 = .ok (.getfield 183, 3) := by decide +kernel
theorem dX10_areSame_21 : decode prog_37_method_106_code 21 = .ok (.iload_n 1, 1) := by decide +kernel
theorem dX10_areSame_22 : decode prog_37_method_106_code 22 = .ok (.iaload, 1) := by decide +kernel
theorem dX10_areSame_23 : decode prog_37_method_106_code 23 = .ok (.iconst 3, 1) := by decide +kernel
theorem dX10_areSame_24 : decode prog_37_method_106_code 24 = .ok (.if_icmp .eq 10, 3) := by decide +kernel
theorem dX10_areSame_27 : decode prog_37_method_106_code 27 = .ok (.aload_n 0, 1) := by decide +kernel
theorem dX10_areSame_28 : decode prog_37_method_106_code 28 = .ok (.iload_n 1, 1) := by decide +kernel
theorem dX10_areSame_29 : decode prog_37_method_106_code 29 = .ok (.iload_n 2, 1) := by decide +kernel
theorem dX10_areSame_30 : decode prog_37_method_106_code 30 = .ok (.invokevirtual 691, 3) := by decide +kernel
theorem dX10_areSame_33 : decode prog_37_method_106_code 33 = .ok (.ireturn, 1) := by decide +kernel
theorem dX10_areSame_34 : decode prog_37_method_106_code 34 = .ok (.aload_n 0, 1) := by decide +kernel
theorem dX10_areSame_35 : decode prog_37_method_106_code 35 = .ok (.iload_n 1, 1) := by decide +kernel
theorem dX10_areSame_36 : decode prog_37_method_106_code 36 = .ok (.invokevirtual 477, 3) := by decide +kernel
theorem dX10_areSame_39 : decode prog_37_method_106_code 39 = .ok (.aload_n 0, 1) := by decide +kernel
theorem dX10_areSame_40 : decode prog_37_method_106_code 40 = .ok (.iload_n 2, 1) := by decide +kernel
theorem dX10_areSame_41 : decode prog_37_method_106_code 41 = .ok (.invokevirtual 477, 3) := by decide +kernel
theorem dX10_areSame_44 : decode prog_37_method_106_code 44 = .ok (.if_icmp .ne 7, 3) := by decide +kernel
theorem dX10_areSame_47 : decode prog_37_method_106_code 47 = .ok (.iconst 1, 1) := by decide +kernel
theorem dX10_areSame_48 : decode prog_37_method_106_code 48 = .ok (.goto 4, 3) := by decide +kernel
theorem dX10_areSame_51 : decode prog_37_method_106_code 51 = .ok (.iconst 0, 1) := by decide +kernel
theorem dX10_areSame_52 : decode prog_37_method_106_code 52 = .ok (.istore_n 3, 1) := by decide +kernel
theorem dX10_areSame_53 : decode prog_37_method_106_code 53 = .ok (.aload_n 0, 1) := by decide +kernel
theorem dX10_areSame_54 : decode prog_37_method_106_code 54 = .ok (.iconst 0, 1) := by decide +kernel
theorem dX10_areSame_55 : decode prog_37_method_106_code 55 = .ok (.putfield 474, 3) := by decide +kernel
theorem dX10_areSame_58 : decode prog_37_method_106_code 58 = .ok (.aload_n 0, 1) := by decide +kernel
theorem dX10_areSame_59 : decode prog_37_method_106_code 59 = .ok (.iload_n 1, 1) := by decide +kernel
theorem dX10_areSame_60 : decode prog_37_method_106_code 60 = .ok (.iload_n 2, 1) := by decide +kernel
theorem dX10_areSame_61 : decode prog_37_method_106_code 61 = .ok (.invokevirtual 489, 3) := by decide +kernel
theorem dX10_areSame_64 : decode prog_37_method_106_code 64 = .ok (.iload_n 3, 1) := by decide +kernel
theorem dX10_areSame_65 : decode prog_37_method_106_code 65 = .ok (.ifCond .eq 277, 3) := by decide +kernel
theorem dX10_areSame_68 : decode prog_37_method_106_code 68 = .ok (.aload_n 0, 1) := by decide +kernel
theorem dX10_areSame_69 : decode prog_37_method_106_code 69 = .ok (.getfield 474, 3) := by decide +kernel
theorem dX10_areSame_72 : decode prog_37_method_106_code 72 = .ok (.ifCond .le 270, 3) := by decide +kernel
theorem dX10_areSame_75 : decode prog_37_method_106_code 75 = .ok (.aload_n 0, 1) := by decide +kernel
theorem dX10_areSame_76 : decode prog_37_method_106_code 76 = .ok (.getfield 192, 3) := by decide +kernel
theorem dX10_areSame_79 : decode prog_37_method_106_code 79 = .ok (.aload_n 0, 1) := by decide +kernel
theorem dX10_areSame_80 : decode prog_37_method_106_code 80 = .ok (.getfield 474, 3) := by decide +kernel
theorem dX10_areSame_83 : decode prog_37_method_106_code 83 = .ok (.iconst 1, 1) := by decide +kernel
theorem dX10_areSame_84 : decode prog_37_method_106_code 84 = .ok (.isub, 1) := by decide +kernel
theorem dX10_areSame_85 : decode prog_37_method_106_code 85 = .ok (.iaload, 1) := by decide +kernel
theorem dX10_areSame_86 : decode prog_37_method_106_code 86 = .ok (.istore 4, 2) := by decide +kernel
theorem dX10_areSame_88 : decode prog_37_method_106_code 88 = .ok (.aload_n 0, 1) := by decide +kernel
theorem dX10_areSame_89 : decode prog_37_method_106_code 89 = .ok (.getfield 195, 3) := by decide +kernel
theorem dX10_areSame_92 : decode prog_37_method_106_code 92 = .ok (.aload_n 0, 1) := by decide +kernel
theorem dX10_areSame_93 : decode prog_37_method_106_code 93 = .ok (.getfield 474, 3) := by decide +kernel
theorem dX10_areSame_96 : decode prog_37_method_106_code 96 = .ok (.iconst 1, 1) := by decide +kernel
theorem dX10_areSame_97 : decode prog_37_method_106_code 97 = .ok (.isub, 1) := by decide +kernel
theorem dX10_areSame_98 : decode prog_37_method_106_code 98 = .ok (.iaload, 1) := by decide +kernel
theorem dX10_areSame_99 : decode prog_37_method_106_code 99 = .ok (.istore 5, 2) := by decide +kernel
theorem dX10_areSame_101 : decode prog_37_method_106_code 101 = .ok (.aload_n 0, 1) := by decide +kernel
theorem dX10_areSame_102 : decode prog_37_method_106_code 102 = .ok (.getfield 198, 3) := by decide +kernel
theorem dX10_areSame_105 : decode prog_37_method_106_code 105 = .ok (.aload_n 0, 1) := by decide +kernel
theorem dX10_areSame_106 : decode prog_37_method_106_code 106 = .ok (.getfield 474, 3) := by decide +kernel
theorem dX10_areSame_109 : decode prog_37_method_106_code 109 = .ok (.iconst 1, 1) := by decide +kernel
theorem dX10_areSame_110 : decode prog_37_method_106_code 110 = .ok (.isub, 1) := by decide +kernel
theorem dX10_areSame_111 : decode prog_37_method_106_code 111 = .ok (.iaload, 1) := by decide +kernel
theorem dX10_areSame_112 : decode prog_37_method_106_code 112 = .ok (.istore 6, 2) := by decide +kernel
theorem dX10_areSame_114 : decode prog_37_method_106_code 114 = .ok (.iload 6, 2) := by decide +kernel
theorem dX10_areSame_116 : decode prog_37_method_106_code 116 = .ok (.aload_n 0, 1) := by decide +kernel
theorem dX10_areSame_117 : decode prog_37_method_106_code 117 = .ok (.iload 4, 2) := by decide +kernel
theorem dX10_areSame_119 : decode prog_37_method_106_code 119 = .ok (.invokevirtual 477, 3) := by decide +kernel
theorem dX10_areSame_122 : decode prog_37_method_106_code 122 = .ok (.if_icmp .ne 16, 3) := by decide +kernel
theorem dX10_areSame_125 : decode prog_37_method_106_code 125 = .ok (.aload_n 0, 1) := by decide +kernel
theorem dX10_areSame_126 : decode prog_37_method_106_code 126 = .ok (.dup, 1) := by decide +kernel
theorem dX10_areSame_127 : decode prog_37_method_106_code 127 = .ok (.getfield 474, 3) := by decide +kernel
theorem dX10_areSame_130 : decode prog_37_method_106_code 130 = .ok (.iconst 1, 1) := by decide +kernel
theorem dX10_areSame_131 : decode prog_37_method_106_code 131 = .ok (.isub, 1) := by decide +kernel
theorem dX10_areSame_132 : decode prog_37_method_106_code 132 = .ok (.putfield 474, 3) := by decide +kernel
theorem dX10_areSame_135 : decode prog_37_method_106_code 135 = .ok (.goto (-71), 3) := by decide +kernel
theorem dX10_areSame_138 : decode prog_37_method_106_code 138 = .ok (.aload_n 0, 1) := by decide +kernel
theorem dX10_areSame_139 : decode prog_37_method_106_code 139 = .ok (.getfield 198, 3) := by decide +kernel
theorem dX10_areSame_142 : decode prog_37_method_106_code 142 = .ok (.aload_n 0, 1) := by decide +kernel
theorem dX10_areSame_143 : decode prog_37_method_106_code 143 = .ok (.getfield 474, 3) := by decide +kernel
theorem dX10_areSame_146 : decode prog_37_method_106_code 146 = .ok (.iconst 1, 1) := by decide +kernel
theorem dX10_areSame_147 : decode prog_37_method_106_code 147 = .ok (.isub, 1) := by decide +kernel
theorem dX10_areSame_148 : decode prog_37_method_106_code 148 = .ok (.dup2, 1) := by decide +kernel
theorem dX10_areSame_149 : decode prog_37_method_106_code 149 = .ok (.iaload, 1) := by decide +kernel
theorem dX10_areSame_150 : decode prog_37_method_106_code 150 = .ok (.iconst 1, 1) := by decide +kernel
theorem dX10_areSame_151 : decode prog_37_method_106_code 151 = .ok (.iadd, 1) := by decide +kernel
theorem dX10_areSame_152 : decode prog_37_method_106_code 152 = .ok (.iastore, 1) := by decide +kernel
theorem dX10_areSame_153 : decode prog_37_method_106_code 153 = .ok (.aload_n 0, 1) := by decide +kernel
theorem dX10_areSame_154 : decode prog_37_method_106_code 154 = .ok (.iload 4, 2) := by decide +kernel
theorem dX10_areSame_156 : decode prog_37_method_106_code 156 = .ok (.iload 6, 2) := by decide +kernel
theorem dX10_areSame_158 : decode prog_37_method_106_code 158 = .ok (.invokevirtual 467, 3) := by decide +kernel
theorem dX10_areSame_161 : decode prog_37_method_106_code 161 = .ok (.ifCond .ne 14, 3) := by decide +kernel
theorem dX10_areSame_164 : decode prog_37_method_106_code 164 = .ok (.aload_n 0, 1) := by decide +kernel
theorem dX10_areSame_165 : decode prog_37_method_106_code 165 = .ok (.iload 5, 2) := by decide +kernel
theorem dX10_areSame_167 : decode prog_37_method_106_code 167 = .ok (.iload 6, 2) := by decide +kernel
theorem dX10_areSame_169 : decode prog_37_method_106_code 169 = .ok (.invokevirtual 467, 3) := by decide +kernel
theorem dX10_areSame_172 : decode prog_37_method_106_code 172 = .ok (.ifCond .eq 65, 3) := by decide +kernel
theorem dX10_areSame_175 : decode prog_37_method_106_code 175 = .ok (.aload_n 0, 1) := by decide +kernel
theorem dX10_areSame_176 : decode prog_37_method_106_code 176 = .ok (.iload 4, 2) := by decide +kernel
theorem dX10_areSame_178 : decode prog_37_method_106_code 178 = .ok (.iload 6, 2) := by decide +kernel
theorem dX10_areSame_180 : decode prog_37_method_106_code 180 = .ok (.invokevirtual 467, 3) := by decide +kernel
theorem dX10_areSame_183 : decode prog_37_method_106_code 183 = .ok (.ifCond .eq 49, 3) := by decide +kernel
theorem dX10_areSame_186 : decode prog_37_method_106_code 186 = .ok (.aload_n 0, 1) := by decide +kernel
theorem dX10_areSame_187 : decode prog_37_method_106_code 187 = .ok (.iload 5, 2) := by decide +kernel
theorem dX10_areSame_189 : decode prog_37_method_106_code 189 = .ok (.iload 6, 2) := by decide +kernel
theorem dX10_areSame_191 : decode prog_37_method_106_code 191 = .ok (.invokevirtual 467, 3) := by decide +kernel
theorem dX10_areSame_194 : decode prog_37_method_106_code 194 = .ok (.ifCond .eq 38, 3) := by decide +kernel
theorem dX10_areSame_197 : decode prog_37_method_106_code 197 = .ok (.aload_n 0, 1) := by decide +kernel
theorem dX10_areSame_198 : decode prog_37_method_106_code 198 = .ok (.getfield 183, 3) := by decide +kernel
theorem dX10_areSame_201 : decode prog_37_method_106_code 201 = .ok (.iload 4, 2) := by decide +kernel
theorem dX10_areSame_203 : decode prog_37_method_106_code 203 = .ok (.iconst 3, 1) := by decide +kernel
theorem dX10_areSame_204 : decode prog_37_method_106_code 204 = .ok (.iadd, 1) := by decide +kernel
theorem dX10_areSame_205 : decode prog_37_method_106_code 205 = .ok (.iconst 2, 1) := by decide +kernel
theorem dX10_areSame_206 : decode prog_37_method_106_code 206 = .ok (.iload 6, 2) := by decide +kernel
theorem dX10_areSame_208 : decode prog_37_method_106_code 208 = .ok (.imul, 1) := by decide +kernel
theorem dX10_areSame_209 : decode prog_37_method_106_code 209 = .ok (.iadd, 1) := by decide +kernel
theorem dX10_areSame_210 : decode prog_37_method_106_code 210 = .ok (.iaload, 1) := by decide +kernel
theorem dX10_areSame_211 : decode prog_37_method_106_code 211 = .ok (.aload_n 0, 1) := by decide +kernel
theorem dX10_areSame_212 : decode prog_37_method_106_code 212 = .ok (.getfield 183, 3) := by decide +kernel
theorem dX10_areSame_215 : decode prog_37_method_106_code 215 = .ok (.iload 5, 2) := by decide +kernel
theorem dX10_areSame_217 : decode prog_37_method_106_code 217 = .ok (.iconst 3, 1) := by decide +kernel
theorem dX10_areSame_218 : decode prog_37_method_106_code 218 = .ok (.iadd, 1) := by decide +kernel
theorem dX10_areSame_219 : decode prog_37_method_106_code 219 = .ok (.iconst 2, 1) := by decide +kernel
theorem dX10_areSame_220 : decode prog_37_method_106_code 220 = .ok (.iload 6, 2) := by decide +kernel
theorem dX10_areSame_222 : decode prog_37_method_106_code 222 = .ok (.imul, 1) := by decide +kernel
theorem dX10_areSame_223 : decode prog_37_method_106_code 223 = .ok (.iadd, 1) := by decide +kernel
theorem dX10_areSame_224 : decode prog_37_method_106_code 224 = .ok (.iaload, 1) := by decide +kernel
theorem dX10_areSame_225 : decode prog_37_method_106_code 225 = .ok (.if_icmp .ne 7, 3) := by decide +kernel
theorem dX10_areSame_228 : decode prog_37_method_106_code 228 = .ok (.iconst 1, 1) := by decide +kernel
theorem dX10_areSame_229 : decode prog_37_method_106_code 229 = .ok (.goto 4, 3) := by decide +kernel
theorem dX10_areSame_232 : decode prog_37_method_106_code 232 = .ok (.iconst 0, 1) := by decide +kernel
theorem dX10_areSame_233 : decode prog_37_method_106_code 233 = .ok (.istore_n 3, 1) := by decide +kernel
theorem dX10_areSame_234 : decode prog_37_method_106_code 234 = .ok (.goto (-170), 3) := by decide +kernel
theorem dX10_areSame_237 : decode prog_37_method_106_code 237 = .ok (.aload_n 0, 1) := by decide +kernel
theorem dX10_areSame_238 : decode prog_37_method_106_code 238 = .ok (.iload 4, 2) := by decide +kernel
theorem dX10_areSame_240 : decode prog_37_method_106_code 240 = .ok (.iload 6, 2) := by decide +kernel
theorem dX10_areSame_242 : decode prog_37_method_106_code 242 = .ok (.invokevirtual 470, 3) := by decide +kernel
theorem dX10_areSame_245 : decode prog_37_method_106_code 245 = .ok (.istore 7, 2) := by decide +kernel
theorem dX10_areSame_247 : decode prog_37_method_106_code 247 = .ok (.aload_n 0, 1) := by decide +kernel
theorem dX10_areSame_248 : decode prog_37_method_106_code 248 = .ok (.iload 5, 2) := by decide +kernel
theorem dX10_areSame_250 : decode prog_37_method_106_code 250 = .ok (.iload 6, 2) := by decide +kernel
theorem dX10_areSame_252 : decode prog_37_method_106_code 252 = .ok (.invokevirtual 470, 3) := by decide +kernel
theorem dX10_areSame_255 : decode prog_37_method_106_code 255 = .ok (.istore 8, 2) := by decide +kernel
theorem dX10_areSame_257 : decode prog_37_method_106_code 257 = .ok (.aload_n 0, 1) := by decide +kernel
theorem dX10_areSame_258 : decode prog_37_method_106_code 258 = .ok (.getfield 183, 3) := by decide +kernel
theorem dX10_areSame_261 : decode prog_37_method_106_code 261 = .ok (.iload 7, 2) := by decide +kernel
theorem dX10_areSame_263 : decode prog_37_method_106_code 263 = .ok (.iaload, 1) := by decide +kernel
theorem dX10_areSame_264 : decode prog_37_method_106_code 264 = .ok (.aload_n 0, 1) := by decide +kernel
theorem dX10_areSame_265 : decode prog_37_method_106_code 265 = .ok (.getfield 183, 3) := by decide +kernel
theorem dX10_areSame_268 : decode prog_37_method_106_code 268 = .ok (.iload 8, 2) := by decide +kernel
theorem dX10_areSame_270 : decode prog_37_method_106_code 270 = .ok (.iaload, 1) := by decide +kernel
theorem dX10_areSame_271 : decode prog_37_method_106_code 271 = .ok (.if_icmp .ne 47, 3) := by decide +kernel
theorem dX10_areSame_274 : decode prog_37_method_106_code 274 = .ok (.aload_n 0, 1) := by decide +kernel
theorem dX10_areSame_275 : decode prog_37_method_106_code 275 = .ok (.getfield 183, 3) := by decide +kernel
theorem dX10_areSame_278 : decode prog_37_method_106_code 278 = .ok (.iload 7, 2) := by decide +kernel
theorem dX10_areSame_280 : decode prog_37_method_106_code 280 = .ok (.iaload, 1) := by decide +kernel
theorem dX10_areSame_281 : decode prog_37_method_106_code 281 = .ok (.iconst 3, 1) := by decide +kernel
theorem dX10_areSame_282 : decode prog_37_method_106_code 282 = .ok (.if_icmp .ne 21, 3) := by decide +kernel
theorem dX10_areSame_285 : decode prog_37_method_106_code 285 = .ok (.aload_n 0, 1) := by decide +kernel
theorem dX10_areSame_286 : decode prog_37_method_106_code 286 = .ok (.iload 7, 2) := by decide +kernel
theorem dX10_areSame_288 : decode prog_37_method_106_code 288 = .ok (.invokevirtual 477, 3) := by decide +kernel
theorem dX10_areSame_291 : decode prog_37_method_106_code 291 = .ok (.aload_n 0, 1) := by decide +kernel
theorem dX10_areSame_292 : decode prog_37_method_106_code 292 = .ok (.iload 8, 2) := by decide +kernel
theorem dX10_areSame_294 : decode prog_37_method_106_code 294 = .ok (.invokevirtual 477, 3) := by decide +kernel
theorem dX10_areSame_297 : decode prog_37_method_106_code 297 = .ok (.if_icmp .ne 21, 3) := by decide +kernel
theorem dX10_areSame_300 : decode prog_37_method_106_code 300 = .ok (.goto 14, 3) := by decide +kernel
theorem dX10_areSame_303 : decode prog_37_method_106_code 303 = .ok (.aload_n 0, 1) := by decide +kernel
theorem dX10_areSame_304 : decode prog_37_method_106_code 304 = .ok (.iload 7, 2) := by decide +kernel
theorem dX10_areSame_306 : decode prog_37_method_106_code 306 = .ok (.iload 8, 2) := by decide +kernel
theorem dX10_areSame_308 : decode prog_37_method_106_code 308 = .ok (.invokevirtual 691, 3) := by decide +kernel
theorem dX10_areSame_311 : decode prog_37_method_106_code 311 = .ok (.ifCond .eq 7, 3) := by decide +kernel
theorem dX10_areSame_314 : decode prog_37_method_106_code 314 = .ok (.iconst 1, 1) := by decide +kernel
theorem dX10_areSame_315 : decode prog_37_method_106_code 315 = .ok (.goto 4, 3) := by decide +kernel
theorem dX10_areSame_318 : decode prog_37_method_106_code 318 = .ok (.iconst 0, 1) := by decide +kernel
theorem dX10_areSame_319 : decode prog_37_method_106_code 319 = .ok (.istore_n 3, 1) := by decide +kernel
theorem dX10_areSame_320 : decode prog_37_method_106_code 320 = .ok (.aload_n 0, 1) := by decide +kernel
theorem dX10_areSame_321 : decode prog_37_method_106_code 321 = .ok (.getfield 183, 3) := by decide +kernel
theorem dX10_areSame_324 : decode prog_37_method_106_code 324 = .ok (.iload 7, 2) := by decide +kernel
theorem dX10_areSame_326 : decode prog_37_method_106_code 326 = .ok (.iaload, 1) := by decide +kernel
theorem dX10_areSame_327 : decode prog_37_method_106_code 327 = .ok (.iconst 3, 1) := by decide +kernel
theorem dX10_areSame_328 : decode prog_37_method_106_code 328 = .ok (.if_icmp .ne 11, 3) := by decide +kernel
theorem dX10_areSame_331 : decode prog_37_method_106_code 331 = .ok (.aload_n 0, 1) := by decide +kernel
theorem dX10_areSame_332 : decode prog_37_method_106_code 332 = .ok (.iload 7, 2) := by decide +kernel
theorem dX10_areSame_334 : decode prog_37_method_106_code 334 = .ok (.iload 8, 2) := by decide +kernel
theorem dX10_areSame_336 : decode prog_37_method_106_code 336 = .ok (.invokevirtual 489, 3) := by decide +kernel
theorem dX10_areSame_339 : decode prog_37_method_106_code 339 = .ok (.goto (-275), 3) := by decide +kernel
theorem dX10_areSame_342 : decode prog_37_method_106_code 342 = .ok (.iload_n 3, 1) := by decide +kernel
theorem dX10_areSame_343 : decode prog_37_method_106_code 343 = .ok (.ireturn, 1) := by decide +kernel
theorem dX10_arePlainSame_0 : decode prog_37_method_105_code 0 = .ok (.aload_n 0, 1) := by decide +kernel
theorem dX10_arePlainSame_1 : decode prog_37_method_105_code 1 = .ok (.getfield 183, 3) := by decide +kernel
theorem dX10_arePlainSame_4 : decode prog_37_method_105_code 4 = .ok (.iload_n 1, 1) := by decide +kernel
theorem dX10_arePlainSame_5 : decode prog_37_method_105_code 5 = .ok (.iaload, 1) := by decide +kernel
theorem dX10_arePlainSame_6 : decode prog_37_method_105_code 6 = .ok (.iconst 1, 1) := by decide +kernel
theorem dX10_arePlainSame_7 : decode prog_37_method_105_code 7 = .ok (.if_icmp .ne 10, 3) := by decide +kernel
theorem dX10_arePlainSame_10 : decode prog_37_method_105_code 10 = .ok (.aload_n 0, 1) := by decide +kernel
theorem dX10_arePlainSame_11 : decode prog_37_method_105_code 11 = .ok (.iload_n 1, 1) := by decide +kernel
theorem dX10_arePlainSame_12 : decode prog_37_method_105_code 12 = .ok (.iload_n 2, 1) := by decide +kernel
theorem dX10_arePlainSame_13 : decode prog_37_method_105_code 13 = .ok (.invokevirtual 688, 3) := by decide +kernel
theorem dX10_arePlainSame_16 : decode prog_37_method_105_code 16 = .ok (.ireturn, 1) := by decide +kernel
theorem dX10_arePlainSame_17 : decode prog_37_method_105_code 17 = .ok (.aload_n 0, 1) := by decide +kernel
theorem dX10_arePlainSame_18 : decode prog_37_method_105_code 18 = .ok (.iload_n 1, 1) := by decide +kernel
theorem dX10_arePlainSame_19 : decode prog_37_method_105_code 19 = .ok (.invokevirtual 477, 3) := by decide +kernel
theorem dX10_arePlainSame_22 : decode prog_37_method_105_code 22 = .ok (.aload_n 0, 1) := by decide +kernel
theorem dX10_arePlainSame_23 : decode prog_37_method_105_code 23 = .ok (.iload_n 2, 1) := by decide +kernel
theorem dX10_arePlainSame_24 : decode prog_37_method_105_code 24 = .ok (.invokevirtual 477, 3) := by decide +kernel
theorem dX10_arePlainSame_27 : decode prog_37_method_105_code 27 = .ok (.if_icmp .ne 7, 3) := by decide +kernel
theorem dX10_arePlainSame_30 : decode prog_37_method_105_code 30 = .ok (.iconst 1, 1) := by decide +kernel
theorem dX10_arePlainSame_31 : decode prog_37_method_105_code 31 = .ok (.goto 4, 3) := by decide +kernel
theorem dX10_arePlainSame_34 : decode prog_37_method_105_code 34 = .ok (.iconst 0, 1) := by decide +kernel
theorem dX10_arePlainSame_35 : decode prog_37_method_105_code 35 = .ok (.istore_n 3, 1) := by decide +kernel
theorem dX10_arePlainSame_36 : decode prog_37_method_105_code 36 = .ok (.iconst 0, 1) := by decide +kernel
theorem dX10_arePlainSame_37 : decode prog_37_method_105_code 37 = .ok (.istore 4, 2) := by decide +kernel
theorem dX10_arePlainSame_39 : decode prog_37_method_105_code 39 = .ok (.iload_n 3, 1) := by decide +kernel
theorem dX10_arePlainSame_40 : decode prog_37_method_105_code 40 = .ok (.ifCond .eq 38, 3) := by decide +kernel
theorem dX10_arePlainSame_43 : decode prog_37_method_105_code 43 = .ok (.iload 4, 2) := by decide +kernel
theorem dX10_arePlainSame_45 : decode prog_37_method_105_code 45 = .ok (.aload_n 0, 1) := by decide +kernel
theorem dX10_arePlainSame_46 : decode prog_37_method_105_code 46 = .ok (.iload_n 1, 1) := by decide +kernel
theorem dX10_arePlainSame_47 : decode prog_37_method_105_code 47 = .ok (.invokevirtual 477, 3) := by decide +kernel
theorem dX10_arePlainSame_50 : decode prog_37_method_105_code 50 = .ok (.if_icmp .ge 28, 3) := by decide +kernel
theorem dX10_arePlainSame_53 : decode prog_37_method_105_code 53 = .ok (.aload_n 0, 1) := by decide +kernel
theorem dX10_arePlainSame_54 : decode prog_37_method_105_code 54 = .ok (.aload_n 0, 1) := by decide +kernel
theorem dX10_arePlainSame_55 : decode prog_37_method_105_code 55 = .ok (.iload_n 1, 1) := by decide +kernel
theorem dX10_arePlainSame_56 : decode prog_37_method_105_code 56 = .ok (.iload 4, 2) := by decide +kernel
theorem dX10_arePlainSame_58 : decode prog_37_method_105_code 58 = .ok (.invokevirtual 470, 3) := by decide +kernel
theorem dX10_arePlainSame_61 : decode prog_37_method_105_code 61 = .ok (.aload_n 0, 1) := by decide +kernel
theorem dX10_arePlainSame_62 : decode prog_37_method_105_code 62 = .ok (.iload_n 2, 1) := by decide +kernel
theorem dX10_arePlainSame_63 : decode prog_37_method_105_code 63 = .ok (.iload 4, 2) := by decide +kernel
theorem dX10_arePlainSame_65 : decode prog_37_method_105_code 65 = .ok (.invokevirtual 470, 3) := by decide +kernel
theorem dX10_arePlainSame_68 : decode prog_37_method_105_code 68 = .ok (.invokevirtual 688, 3) := by decide +kernel
theorem dX10_arePlainSame_71 : decode prog_37_method_105_code 71 = .ok (.istore_n 3, 1) := by decide +kernel
theorem dX10_arePlainSame_72 : decode prog_37_method_105_code 72 = .ok (.iinc 4 1, 3) := by decide +kernel
theorem dX10_arePlainSame_75 : decode prog_37_method_105_code 75 = .ok (.goto (-36), 3) := by decide +kernel
theorem dX10_arePlainSame_78 : decode prog_37_method_105_code 78 = .ok (.iload_n 3, 1) := by decide +kernel
theorem dX10_arePlainSame_79 : decode prog_37_method_105_code 79 = .ok (.ireturn, 1) := by decide +kernel
theorem dX10_areSameRows_0 : decode prog_37_method_104_code 0 = .ok (.aload_n 0, 1) := by decide +kernel
theorem dX10_areSameRows_1 : decode prog_37_method_104_code 1 = .ok (.iload_n 1, 1) := by decide +kernel
theorem dX10_areSameRows_2 : decode prog_37_method_104_code 2 = .ok (.invokevirtual 477, 3) := by decide +kernel
theorem dX10_areSameRows_5 : decode prog_37_method_104_code 5 = .ok (.aload_n 0, 1) := by decide +kernel
theorem dX10_areSameRows_6 : decode prog_37_method_104_code 6 = .ok (.iload_n 2, 1) := by decide +kernel
theorem dX10_areSameRows_7 : decode prog_37_method_104_code 7 = .ok (.invokevirtual 477, 3) := by decide +kernel
theorem dX10_areSameRows_10 : decode prog_37_method_104_code 10 = .ok (.if_icmp .ne 7, 3) := by decide +kernel
theorem dX10_areSameRows_13 : decode prog_37_method_104_code 13 = .ok (.iconst 1, 1) := by decide +kernel
theorem dX10_areSameRows_14 : decode prog_37_method_104_code 14 = .ok (.goto 4, 3) := by decide +kernel
