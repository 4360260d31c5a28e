/-! decode rows -/
theorem dX10_puts_14 : decode prog_37_method_32_code 14 = .ok (.ifCond .le 4, 3) := by decide +kernel
theorem dX10_puts_17 : decode prog_37_method_32_code 17 = .ok (.return_, 1) := by decide +kernel
theorem dX10_puts_18 : decode prog_37_method_32_code 18 = .ok (.aload_n 0, 1) := by decide +kernel
theorem dX10_puts_19 : decode prog_37_method_32_code 19 = .ok (.bipush 91, 2) := by decide +kernel
theorem dX10_puts_21 : decode prog_37_method_32_code 21 = .ok (.invokevirtual 325, 3) := by decide +kernel
theorem dX10_puts_24 : decode prog_37_method_32_code 24 = .ok (.ifCond .ne 31, 3) := by decide +kernel
theorem dX10_puts_27 : decode prog_37_method_32_code 27 = .ok (.aload_n 0, 1) := by decide +kernel
theorem dX10_puts_28 : decode prog_37_method_32_code 28 = .ok (.bipush 61, 2) := by decide +kernel
theorem dX10_puts_30 : decode prog_37_method_32_code 30 = .ok (.invokevirtual 393, 3) := by decide +kernel
theorem dX10_puts_33 : decode prog_37_method_32_code 33 = .ok (.aload_n 0, 1) := by decide +kernel
theorem dX10_puts_34 : decode prog_37_method_32_code 34 = .ok (.iconst 0, 1) := by decide +kernel
theorem dX10_puts_35 : decode prog_37_method_32_code 35 = .ok (.invokevirtual 406, 3) := by decide +kernel
theorem dX10_puts_38 : decode prog_37_method_32_code 38 = .ok (.aload_n 0, 1) := by decide +kernel
theorem dX10_puts_39 : decode prog_37_method_32_code 39 = .ok (.bipush 59, 2) := by decide +kernel
theorem dX10_puts_41 : decode prog_37_method_32_code 41 = .ok (.invokevirtual 393, 3) := by decide +kernel
theorem dX10_puts_44 : decode prog_37_method_32_code 44 = .ok (.aload_n 0, 1) := by decide +kernel
theorem dX10_puts_45 : decode prog_37_method_32_code 45 = .ok (.bipush 12, 2) := by decide +kernel
theorem dX10_puts_47 : decode prog_37_method_32_code 47 = .ok (.iload_n 2, 1) := by decide +kernel
theorem dX10_puts_48 : decode prog_37_method_32_code 48 = .ok (.iconst 0, 1) := by decide +kernel
theorem dX10_puts_49 : decode prog_37_method_32_code 49 = .ok (.iload_n 1, 1) := by decide +kernel
theorem dX10_puts_50 : decode prog_37_method_32_code 50 = .ok (.invokevirtual 396, 3) := by decide +kernel
theorem dX10_puts_53 : decode prog_37_method_32_code 53 = .ok (.pop, 1) := by decide +kernel
theorem dX10_puts_54 : decode prog_37_method_32_code 54 = .ok (.return_, 1) := by decide +kernel
theorem dX10_puts_55 : decode prog_37_method_32_code 55 = .ok (.aload_n 0, 1) := by decide +kernel
theorem dX10_puts_56 : decode prog_37_method_32_code 56 = .ok (.getfield 269, 3) := by decide +kernel
theorem dX10_puts_59 : decode prog_37_method_32_code 59 = .ok (.istore_n 3, 1) := by decide +kernel
theorem dX10_puts_60 : decode prog_37_method_32_code 60 = .ok (.iconst (-1), 1) := by decide +kernel
theorem dX10_puts_61 : decode prog_37_method_32_code 61 = .ok (.istore 4, 2) := by decide +kernel
theorem dX10_puts_63 : decode prog_37_method_32_code 63 = .ok (.aload_n 0, 1) := by decide +kernel
theorem dX10_puts_64 : decode prog_37_method_32_code 64 = .ok (.bipush 91, 2) := by decide +kernel
theorem dX10_puts_66 : decode prog_37_method_32_code 66 = .ok (.invokevirtual 377, 3) := by decide +kernel
theorem dX10_puts_69 : decode prog_37_method_32_code 69 = .ok (.aload_n 0, 1) := by decide +kernel
theorem dX10_puts_70 : decode prog_37_method_32_code 70 = .ok (.iconst 0, 1) := by decide +kernel
theorem dX10_puts_71 : decode prog_37_method_32_code 71 = .ok (.invokevirtual 406, 3) := by decide +kernel
theorem dX10_puts_74 : decode prog_37_method_32_code 74 = .ok (.aload_n 0, 1) := by decide +kernel
theorem dX10_puts_75 : decode prog_37_method_32_code 75 = .ok (.bipush 93, 2) := by decide +kernel
theorem dX10_puts_77 : decode prog_37_method_32_code 77 = .ok (.invokevirtual 393, 3) := by decide +kernel
theorem dX10_puts_80 : decode prog_37_method_32_code 80 = .ok (.aload_n 0, 1) := by decide +kernel
theorem dX10_puts_81 : decode prog_37_method_32_code 81 = .ok (.getfield 311, 3) := by decide +kernel
theorem dX10_puts_84 : decode prog_37_method_32_code 84 = .ok (.ifCond .ne 35, 3) := by decide +kernel
theorem dX10_puts_87 : decode prog_37_method_32_code 87 = .ok (.aload_n 0, 1) := by decide +kernel
theorem dX10_puts_88 : decode prog_37_method_32_code 88 = .ok (.bipush 91, 2) := by decide +kernel
theorem dX10_puts_90 : decode prog_37_method_32_code 90 = .ok (.invokevirtual 325, 3) := by decide +kernel
theorem dX10_puts_93 : decode prog_37_method_32_code 93 = .ok (.ifCond .eq 26, 3) := by decide +kernel
theorem dX10_puts_96 : decode prog_37_method_32_code 96 = .ok (.aload_n 0, 1) := by decide +kernel
theorem dX10_puts_97 : decode prog_37_method_32_code 97 = .ok (.getfield 269, 3) := by decide +kernel
theorem dX10_puts_100 : decode prog_37_method_32_code 100 = .ok (.istore 4, 2) := by decide +kernel
theorem dX10_puts_102 : decode prog_37_method_32_code 102 = .ok (.aload_n 0, 1) := by decide +kernel
theorem dX10_puts_103 : decode prog_37_method_32_code 103 = .ok (.bipush 91, 2) := by decide +kernel
theorem dX10_puts_105 : decode prog_37_method_32_code 105 = .ok (.invokevirtual 377, 3) := by decide +kernel
theorem dX10_puts_108 : decode prog_37_method_32_code 108 = .ok (.aload_n 0, 1) := by decide +kernel
theorem dX10_puts_109 : decode prog_37_method_32_code 109 = .ok (.iconst 0, 1) := by decide +kernel
theorem dX10_puts_110 : decode prog_37_method_32_code 110 = .ok (.invokevirtual 406, 3) := by decide +kernel
theorem dX10_puts_113 : decode prog_37_method_32_code 113 = .ok (.aload_n 0, 1) := by decide +kernel
theorem dX10_puts_114 : decode prog_37_method_32_code 114 = .ok (.bipush 93, 2) := by decide +kernel
theorem dX10_puts_116 : decode prog_37_method_32_code 116 = .ok (.invokevirtual 393, 3) := by decide +kernel
theorem dX10_puts_119 : decode prog_37_method_32_code 119 = .ok (.aload_n 0, 1) := by decide +kernel
theorem dX10_puts_120 : decode prog_37_method_32_code 120 = .ok (.bipush 61, 2) := by decide +kernel
theorem dX10_puts_122 : decode prog_37_method_32_code 122 = .ok (.invokevirtual 393, 3) := by decide +kernel
theorem dX10_puts_125 : decode prog_37_method_32_code 125 = .ok (.aload_n 0, 1) := by decide +kernel
theorem dX10_puts_126 : decode prog_37_method_32_code 126 = .ok (.iconst 0, 1) := by decide +kernel
theorem dX10_puts_127 : decode prog_37_method_32_code 127 = .ok (.invokevirtual 406, 3) := by decide +kernel
theorem dX10_puts_130 : decode prog_37_method_32_code 130 = .ok (.aload_n 0, 1) := by decide +kernel
theorem dX10_puts_131 : decode prog_37_method_32_code 131 = .ok (.bipush 59, 2) := by decide +kernel
theorem dX10_puts_133 : decode prog_37_method_32_code 133 = .ok (.invokevirtual 393, 3) := by decide +kernel
theorem dX10_puts_136 : decode prog_37_method_32_code 136 = .ok (.aload_n 0, 1) := by decide +kernel
theorem dX10_puts_137 : decode prog_37_method_32_code 137 = .ok (.bipush 13, 2) := by decide +kernel
theorem dX10_puts_139 : decode prog_37_method_32_code 139 = .ok (.iload_n 2, 1) := by decide +kernel
theorem dX10_puts_140 : decode prog_37_method_32_code 140 = .ok (.iload 4, 2) := by decide +kernel
theorem dX10_puts_142 : decode prog_37_method_32_code 142 = .ok (.iload_n 3, 1) := by decide +kernel
theorem dX10_puts_143 : decode prog_37_method_32_code 143 = .ok (.invokevirtual 396, 3) := by decide +kernel
theorem dX10_puts_146 : decode prog_37_method_32_code 146 = .ok (.istore 5, 2) := by decide +kernel
theorem dX10_puts_148 : decode prog_37_method_32_code 148 = .ok (.aload_n 0, 1) := by decide +kernel
theorem dX10_puts_149 : decode prog_37_method_32_code 149 = .ok (.getfield 130, 3) := by decide +kernel
theorem dX10_puts_152 : decode prog_37_method_32_code 152 = .ok (.iload 5, 2) := by decide +kernel
theorem dX10_puts_154 : decode prog_37_method_32_code 154 = .ok (.iload_n 1, 1) := by decide +kernel
theorem dX10_puts_155 : decode prog_37_method_32_code 155 = .ok (.iastore, 1) := by decide +kernel
theorem dX10_puts_156 : decode prog_37_method_32_code 156 = .ok (.return_, 1) := by decide +kernel
theorem dX10_resolve_0 : decode prog_37_method_43_code 0 = .ok (.iconst (-1), 1) := by decide +kernel
theorem dX10_resolve_1 : decode prog_37_method_43_code 1 = .ok (.istore_n 1, 1) := by decide +kernel
theorem dX10_resolve_2 : decode prog_37_method_43_code 2 = .ok (.iconst 0, 1) := by decide +kernel
theorem dX10_resolve_3 : decode prog_37_method_43_code 3 = .ok (.istore_n 2, 1) := by decide +kernel
theorem dX10_resolve_4 : decode prog_37_method_43_code 4 = .ok (.iload_n 2, 1) := by decide +kernel
theorem dX10_resolve_5 : decode prog_37_method_43_code 5 = .ok (.aload_n 0, 1) := by decide +kernel
theorem dX10_resolve_6 : decode prog_37_method_43_code 6 = .ok (.getfield 346, 3) := by decide +kernel
theorem dX10_resolve_9 : decode prog_37_method_43_code 9 = .ok (.if_icmp .ge 175, 3) := by decide +kernel
theorem dX10_resolve_12 : decode prog_37_method_43_code 12 = .ok (.bipush 12, 2) := by decide +kernel
theorem dX10_resolve_14 : decode prog_37_method_43_code 14 = .ok (.iconst 1, 1) := by decide +kernel
theorem dX10_resolve_15 : decode prog_37_method_43_code 15 = .ok (.aload_n 0, 1) := by decide +kernel
theorem dX10_resolve_16 : decode prog_37_method_43_code 16 = .ok (.getfield 340, 3) := by decide +kernel
theorem dX10_resolve_19 : decode prog_37_method_43_code 19 = .ok (.isub, 1) := by decide +kernel
theorem dX10_resolve_20 : decode prog_37_method_43_code 20 = .ok (.imul, 1) := by decide +kernel
theorem dX10_resolve_21 : decode prog_37_method_43_code 21 = .ok (.istore_n 3, 1) := by decide +kernel
theorem dX10_resolve_22 : decode prog_37_method_43_code 22 = .ok (.iload_n 3, 1) := by decide +kernel
theorem dX10_resolve_23 : decode prog_37_method_43_code 23 = .ok (.aload_n 0, 1) := by decide +kernel
theorem dX10_resolve_24 : decode prog_37_method_43_code 24 = .ok (.getfield 380, 3) := by decide +kernel
theorem dX10_resolve_27 : decode prog_37_method_43_code 27 = .ok (.iadd, 1) := by decide +kernel
theorem dX10_resolve_28 : decode prog_37_method_43_code 28 = .ok (.istore 4, 2) := by decide +kernel
theorem dX10_resolve_30 : decode prog_37_method_43_code 30 = .ok (.iload_n 3, 1) := by decide +kernel
theorem dX10_resolve_31 : decode prog_37_method_43_code 31 = .ok (.iload 4, 2) := by decide +kernel
theorem dX10_resolve_33 : decode prog_37_method_43_code 33 = .ok (.if_icmp .ge 25, 3) := by decide +kernel
theorem dX10_resolve_36 : decode prog_37_method_43_code 36 = .ok (.aload_n 0, 1) := by decide +kernel
theorem dX10_resolve_37 : decode prog_37_method_43_code 37 = .ok (.getfield 103, 3) := by decide +kernel
theorem dX10_resolve_40 : decode prog_37_method_43_code 40 = .ok (.iload_n 3, 1) := by decide +kernel
theorem dX10_resolve_41 : decode prog_37_method_43_code 41 = .ok (.laload, 1) := by decide +kernel
theorem dX10_resolve_42 : decode prog_37_method_43_code 42 = .ok (.aload_n 0, 1) := by decide +kernel
theorem dX10_resolve_43 : decode prog_37_method_43_code 43 = .ok (.getfield 145, 3) := by decide +kernel
theorem dX10_resolve_46 : decode prog_37_method_43_code 46 = .ok (.iload_n 2, 1) := by decide +kernel
theorem dX10_resolve_47 : decode prog_37_method_43_code 47 = .ok (.laload, 1) := by decide +kernel
theorem dX10_resolve_48 : decode prog_37_method_43_code 48 = .ok (.lcmp, 1) := by decide +kernel
theorem dX10_resolve_49 : decode prog_37_method_43_code 49 = .ok (.ifCond .eq 9, 3) := by decide +kernel
theorem dX10_resolve_52 : decode prog_37_method_43_code 52 = .ok (.iinc 3 1, 3) := by decide +kernel
theorem dX10_resolve_55 : decode prog_37_method_43_code 55 = .ok (.goto (-25), 3) := by decide +kernel
theorem dX10_resolve_58 : decode prog_37_method_43_code 58 = .ok (.iload_n 3, 1) := by decide +kernel
theorem dX10_resolve_59 : decode prog_37_method_43_code 59 = .ok (.iload 4, 2) := by decide +kernel
theorem dX10_resolve_61 : decode prog_37_method_43_code 61 = .ok (.if_icmp .ge 22, 3) := by decide +kernel
theorem dX10_resolve_64 : decode prog_37_method_43_code 64 = .ok (.aload_n 0, 1) := by decide +kernel
theorem dX10_resolve_65 : decode prog_37_method_43_code 65 = .ok (.getfield 109, 3) := by decide +kernel
theorem dX10_resolve_68 : decode prog_37_method_43_code 68 = .ok (.iload_n 3, 1) := by decide +kernel
theorem dX10_resolve_69 : decode prog_37_method_43_code 69 = .ok (.iaload, 1) := by decide +kernel
theorem dX10_resolve_70 : decode prog_37_method_43_code 70 = .ok (.aload_n 0, 1) := by decide +kernel
theorem dX10_resolve_71 : decode prog_37_method_43_code 71 = .ok (.getfield 142, 3) := by decide +kernel
theorem dX10_resolve_74 : decode prog_37_method_43_code 74 = .ok (.iload_n 2, 1) := by decide +kernel
theorem dX10_resolve_75 : decode prog_37_method_43_code 75 = .ok (.iaload, 1) := by decide +kernel
theorem dX10_resolve_76 : decode prog_37_method_43_code 76 = .ok (.if_icmp .ne 7, 3) := by decide +kernel
theorem dX10_resolve_79 : decode prog_37_method_43_code 79 = .ok (.iconst 1, 1) := by decide +kernel
theorem dX10_resolve_80 : decode prog_37_method_43_code 80 = .ok (.goto 4, 3) := by decide +kernel
theorem dX10_resolve_83 : decode prog_37_method_43_code 83 = .ok (.iconst 0, 1) := by decide +kernel
theorem dX10_resolve_84 : decode prog_37_method_43_code 84 = .ok (.istore 5, 2) := by decide +kernel
theorem dX10_resolve_86 : decode prog_37_method_43_code 86 = .ok (.iload 5, 2) := by decide +kernel
theorem dX10_resolve_88 : decode prog_37_method_43_code 88 = .ok (.ifCond .ne 24, 3) := by decide +kernel
theorem dX10_resolve_91 : decode prog_37_method_43_code 91 = .ok (.iload_n 1, 1) := by decide +kernel
theorem dX10_resolve_92 : decode prog_37_method_43_code 92 = .ok (.ifCond .lt 13, 3) := by decide +kernel
theorem dX10_resolve_95 : decode prog_37_method_43_code 95 = .ok (.aload_n 0, 1) := by decide +kernel
theorem dX10_resolve_96 : decode prog_37_method_43_code 96 = .ok (.getfield 139, 3) := by decide +kernel
theorem dX10_resolve_99 : decode prog_37_method_43_code 99 = .ok (.iload_n 2, 1) := by decide +kernel
theorem dX10_resolve_100 : decode prog_37_method_43_code 100 = .ok (.iaload, 1) := by decide +kernel
theorem dX10_resolve_101 : decode prog_37_method_43_code 101 = .ok (.iload_n 1, 1) := by decide +kernel
theorem dX10_resolve_102 : decode prog_37_method_43_code 102 = .ok (.if_icmp .ge 10, 3) := by decide +kernel
theorem dX10_resolve_105 : decode prog_37_method_43_code 105 = .ok (.aload_n 0, 1) := by decide +kernel
theorem dX10_resolve_106 : decode prog_37_method_43_code 106 = .ok (.getfield 139, 3) := by decide +kernel
theorem dX10_resolve_109 : decode prog_37_method_43_code 109 = .ok (.iload_n 2, 1) := by decide +kernel
theorem dX10_resolve_110 : decode prog_37_method_43_code 110 = .ok (.iaload, 1) := by decide +kernel
theorem dX10_resolve_111 : decode prog_37_method_43_code 111 = .ok (.istore_n 1, 1) := by decide +kernel
theorem dX10_resolve_112 : decode prog_37_method_43_code 112 = .ok (.iload 5, 2) := by decide +kernel
theorem dX10_resolve_114 : decode prog_37_method_43_code 114 = .ok (.ifCond .eq 31, 3) := by decide +kernel
theorem dX10_resolve_117 : decode prog_37_method_43_code 117 = .ok (.aload_n 0, 1) := by decide +kernel
theorem dX10_resolve_118 : decode prog_37_method_43_code 118 = .ok (.getfield 121, 3) := by decide +kernel
theorem dX10_resolve_121 : decode prog_37_method_43_code 121 = .ok (.aload_n 0, 1) := by decide +kernel
theorem dX10_resolve_122 : decode prog_37_method_43_code 122 = .ok (.getfield 136, 3) := by decide +kernel
theorem dX10_resolve_125 : decode prog_37_method_43_code 125 = .ok (.iload_n 2, 1) := by decide +kernel
theorem dX10_resolve_126 : decode prog_37_method_43_code 126 = .ok (.iaload, 1) := by decide +kernel
theorem dX10_resolve_127 : decode prog_37_method_43_code 127 = .ok (.iaload, 1) := by decide +kernel
theorem dX10_resolve_128 : decode prog_37_method_43_code 128 = .ok (.bipush 9, 2) := by decide +kernel
theorem dX10_resolve_130 : decode prog_37_method_43_code 130 = .ok (.if_icmp .ne 15, 3) := by decide +kernel
theorem dX10_resolve_133 : decode prog_37_method_43_code 133 = .ok (.aload_n 0, 1) := by decide +kernel
theorem dX10_resolve_134 : decode prog_37_method_43_code 134 = .ok (.getfield 124, 3) := by decide +kernel
theorem dX10_resolve_137 : decode prog_37_method_43_code 137 = .ok (.aload_n 0, 1) := by decide +kernel
theorem dX10_resolve_138 : decode prog_37_method_43_code 138 = .ok (.getfield 136, 3) := by decide +kernel
theorem dX10_resolve_141 : decode prog_37_method_43_code 141 = .ok (.iload_n 2, 1) := by decide +kernel
theorem dX10_resolve_142 : decode prog_37_method_43_code 142 = .ok (.iaload, 1) := by decide +kernel
theorem dX10_resolve_143 : decode prog_37_method_43_code 143 = .ok (.iload_n 3, 1) := by decide +kernel
theorem dX10_resolve_144 : decode prog_37_method_43_code 144 = .ok (.iastore, 1) := by decide +kernel
theorem dX10_resolve_145 : decode prog_37_method_43_code 145 = .ok (.iload 5, 2) := by decide +kernel
theorem dX10_resolve_147 : decode prog_37_method_43_code 147 = .ok (.ifCond .eq 31, 3) := by decide +kernel
theorem dX10_resolve_150 : decode prog_37_method_43_code 150 = .ok (.aload_n 0, 1) := by decide +kernel
theorem dX10_resolve_151 : decode prog_37_method_43_code 151 = .ok (.getfield 121, 3) := by decide +kernel
theorem dX10_resolve_154 : decode prog_37_method_43_code 154 = .ok (.aload_n 0, 1) := by decide +kernel
theorem dX10_resolve_155 : decode prog_37_method_43_code 155 = .ok (.getfield 136, 3) := by decide +kernel
theorem dX10_resolve_158 : decode prog_37_method_43_code 158 = .ok (.iload_n 2, 1) := by decide +kernel
theorem dX10_resolve_159 : decode prog_37_method_43_code 159 = .ok (.iaload, 1) := by decide +kernel
theorem dX10_resolve_160 : decode prog_37_method_43_code 160 = .ok (.iaload, 1) := by decide +kernel
theorem dX10_resolve_161 : decode prog_37_method_43_code 161 = .ok (.bipush 11, 2) := by decide +kernel
theorem dX10_resolve_163 : decode prog_37_method_43_code 163 = .ok (.if_icmp .ne 15, 3) := by decide +kernel
theorem dX10_resolve_166 : decode prog_37_method_43_code 166 = .ok (.aload_n 0, 1) := by decide +kernel
theorem dX10_resolve_167 : decode prog_37_method_43_code 167 = .ok (.getfield 127, 3) := by decide +kernel
theorem dX10_resolve_170 : decode prog_37_method_43_code 170 = .ok (.aload_n 0, 1) := by decide +kernel
theorem dX10_resolve_171 : decode prog_37_method_43_code 171 = .ok (.getfield 136, 3) := by decide +kernel
theorem dX10_resolve_174 : decode prog_37_method_43_code 174 = .ok (.iload_n 2, 1) := by decide +kernel
theorem dX10_resolve_175 : decode prog_37_method_43_code 175 = .ok (.iaload, 1) := by decide +kernel
theorem dX10_resolve_176 : decode prog_37_method_43_code 176 = .ok (.iload_n 3, 1) := by decide +kernel
theorem dX10_resolve_177 : decode prog_37_method_43_code 177 = .ok (.iastore, 1) := by decide +kernel
theorem dX10_resolve_178 : decode prog_37_method_43_code 178 = .ok (.iinc 2 1, 3) := by decide +kernel
theorem dX10_resolve_181 : decode prog_37_method_43_code 181 = .ok (.goto (-177), 3) := by decide +kernel
theorem dX10_resolve_184 : decode prog_37_method_43_code 184 = .ok (.iload_n 1, 1) := by decide +kernel
theorem dX10_resolve_185 : decode prog_37_method_43_code 185 = .ok (.ifCond .lt 10, 3) := by decide +kernel
theorem dX10_resolve_188 : decode prog_37_method_43_code 188 = .ok (.aload_n 0, 1) := by decide +kernel
theorem dX10_resolve_189 : decode prog_37_method_43_code 189 = .ok (.bipush 6, 2) := by decide +kernel
theorem dX10_resolve_191 : decode prog_37_method_43_code 191 = .ok (.iload_n 1, 1) := by decide +kernel
theorem dX10_resolve_192 : decode prog_37_method_43_code 192 = .ok (.invokevirtual 317, 3) := by decide +kernel
theorem dX10_resolve_195 : decode prog_37_method_43_code 195 = .ok (.return_, 1) := by decide +kernel
theorem dX10_fault_0 : decode prog_37_method_45_code 0 = .ok (.iload_n 1, 1) := by decide +kernel
theorem dX10_fault_1 : decode prog_37_method_45_code 1 = .ok (.ifCond .ne 10, 3) := by decide +kernel
theorem dX10_fault_4 : decode prog_37_method_45_code 4 = .ok (.aload_n 0, 1) := by decide +kernel
theorem dX10_fault_5 : decode prog_37_method_45_code 5 = .ok (.getfield 175, 3) := by decide +kernel
theorem dX10_fault_8 : decode prog_37_method_45_code 8 = .ok (.goto 16, 3) := by decide +kernel
theorem dX10_fault_11 : decode prog_37_method_45_code 11 = .ok (.iload_n 1, 1) := by decide +kernel
theorem dX10_fault_12 : decode prog_37_method_45_code 12 = .ok (.iconst 1, 1) := by decide +kernel
theorem dX10_fault_13 : decode prog_37_method_45_code 13 = .ok (.if_icmp .ne 10, 3) := by decide +kernel
theorem dX10_fault_16 : decode prog_37_method_45_code 16 = .ok (.aload_n 0, 1) := by decide +kernel
theorem dX10_fault_17 : decode prog_37_method_45_code 17 = .ok (.getfield 179, 3) := by decide +kernel
theorem dX10_fault_20 : decode prog_37_method_45_code 20 = .ok (.goto 4, 3) := by decide +kernel
theorem dX10_fault_23 : decode prog_37_method_45_code 23 = .ok (.iconst (-1), 1) := by decide +kernel
theorem dX10_fault_24 : decode prog_37_method_45_code 24 = .ok (.ireturn, 1) := by decide +kernel
theorem dX10_function_2_0 : decode prog_37_method_46_code 0 = .ok (.iload_n 1, 1) := by decide +kernel
theorem dX10_function_2_1 : decode prog_37_method_46_code 1 = .ok (.ifCond .lt 11, 3) := by decide +kernel
theorem dX10_function_2_4 : decode prog_37_method_46_code 4 = .ok (.iload_n 1, 1) := by decide +kernel
theorem dX10_function_2_5 : decode prog_37_method_46_code 5 = .ok (.aload_n 0, 1) := by decide +kernel
theorem dX10_function_2_6 : decode prog_37_method_46_code 6 = .ok (.getfield 454, 3) := by decide +kernel
theorem dX10_function_2_9 : decode prog_37_method_46_code 9 = .ok (.if_icmp .lt 5, 3) := by decide +kernel
theorem dX10_function_2_12 : decode prog_37_method_46_code 12 = .ok (.iconst (-1), 1) := by decide +kernel
theorem dX10_function_2_13 : decode prog_37_method_46_code 13 = .ok (.ireturn, 1) := by decide +kernel
theorem dX10_function_2_14 : decode prog_37_method_46_code 14 = .ok (.bipush 12, 2) := by decide +kernel
theorem dX10_function_2_16 : decode prog_37_method_46_code 16 = .ok (.aload_n 0, 1) := by decide +kernel
theorem dX10_function_2_17 : decode prog_37_method_46_code 17 = .ok (.getfield 340, 3) := by decide +kernel
theorem dX10_function_2_20 : decode prog_37_method_46_code 20 = .ok (.imul, 1) := by decide +kernel
theorem dX10_function_2_21 : decode prog_37_method_46_code 21 = .ok (.iload_n 1, 1) := by decide +kernel
theorem dX10_function_2_22 : decode prog_37_method_46_code 22 = .ok (.iadd, 1) := by decide +kernel
theorem dX10_function_2_23 : decode prog_37_method_46_code 23 = .ok (.istore_n 3, 1) := by decide +kernel
theorem dX10_function_2_24 : decode prog_37_method_46_code 24 = .ok (.iload_n 2, 1) := by decide +kernel
theorem dX10_function_2_25 : decode prog_37_method_46_code 25 = .ok (.ifCond .ne 12, 3) := by decide +kernel
theorem dX10_function_2_28 : decode prog_37_method_46_code 28 = .ok (.aload_n 0, 1) := by decide +kernel
theorem dX10_function_2_29 : decode prog_37_method_46_code 29 = .ok (.getfield 109, 3) := by decide +kernel
theorem dX10_function_2_32 : decode prog_37_method_46_code 32 = .ok (.iload_n 3, 1) := by decide +kernel
theorem dX10_function_2_33 : decode prog_37_method_46_code 33 = .ok (.iaload, 1) := by decide +kernel
theorem dX10_function_2_34 : decode prog_37_method_46_code 34 = .ok (.goto 32, 3) := by decide +kernel
theorem dX10_function_2_37 : decode prog_37_method_46_code 37 = .ok (.iload_n 2, 1) := by decide +kernel
theorem dX10_function_2_38 : decode prog_37_method_46_code 38 = .ok (.iconst 1, 1) := by decide +kernel
theorem dX10_function_2_39 : decode prog_37_method_46_code 39 = .ok (.if_icmp .ne 12, 3) := by decide +kernel
theorem dX10_function_2_42 : decode prog_37_method_46_code 42 = .ok (.aload_n 0, 1) := by decide +kernel
theorem dX10_function_2_43 : decode prog_37_method_46_code 43 = .ok (.getfield 112, 3) := by decide +kernel
theorem dX10_function_2_46 : decode prog_37_method_46_code 46 = .ok (.iload_n 3, 1) := by decide +kernel
theorem dX10_function_2_47 : decode prog_37_method_46_code 47 = .ok (.iaload, 1) := by decide +kernel
theorem dX10_function_2_48 : decode prog_37_method_46_code 48 = .ok (.goto 18, 3) := by decide +kernel
theorem dX10_function_2_51 : decode prog_37_method_46_code 51 = .ok (.iload_n 2, 1) := by decide +kernel
theorem dX10_function_2_52 : decode prog_37_method_46_code 52 = .ok (.iconst 2, 1) := by decide +kernel
theorem dX10_function_2_53 : decode prog_37_method_46_code 53 = .ok (.if_icmp .ne 12, 3) := by decide +kernel
theorem dX10_function_2_56 : decode prog_37_method_46_code 56 = .ok (.aload_n 0, 1) := by decide +kernel
theorem dX10_function_2_57 : decode prog_37_method_46_code 57 = .ok (.getfield 106, 3) := by decide +kernel
theorem dX10_function_2_60 : decode prog_37_method_46_code 60 = .ok (.iload_n 3, 1) := by decide +kernel
theorem dX10_function_2_61 : decode prog_37_method_46_code 61 = .ok (.iaload, 1) := by decide +kernel
theorem dX10_function_2_62 : decode prog_37_method_46_code 62 = .ok (.goto 4, 3) := by decide +kernel
theorem dX10_function_2_65 : decode prog_37_method_46_code 65 = .ok (.iconst (-1), 1) := by decide +kernel
theorem dX10_function_2_66 : decode prog_37_method_46_code 66 = .ok (.ireturn, 1) := by decide +kernel
theorem dX10_run_0 : decode prog_37_method_72_code 0 = .ok (.aload_n 0, 1) := by decide +kernel
theorem dX10_run_1 : decode prog_37_method_72_code 1 = .ok (.getfield 457, 3) := by decide +kernel
theorem dX10_run_4 : decode prog_37_method_72_code 4 = .ok (.ifCond .eq 55, 3) := by decide +kernel
theorem dX10_run_7 : decode prog_37_method_72_code 7 = .ok (.iload_n 1, 1) := by decide +kernel
theorem dX10_run_8 : decode prog_37_method_72_code 8 = .ok (.ifCond .lt 51, 3) := by decide +kernel
theorem dX10_run_11 : decode prog_37_method_72_code 11 = .ok (.iload_n 1, 1) := by decide +kernel
theorem dX10_run_12 : decode prog_37_method_72_code 12 = .ok (.aload_n 0, 1) := by decide +kernel
theorem dX10_run_13 : decode prog_37_method_72_code 13 = .ok (.getfield 454, 3) := by decide +kernel
theorem dX10_run_16 : decode prog_37_method_72_code 16 = .ok (.if_icmp .ge 43, 3) := by decide +kernel
theorem dX10_run_19 : decode prog_37_method_72_code 19 = .ok (.aload_n 0, 1) := by decide +kernel
theorem dX10_run_20 : decode prog_37_method_72_code 20 = .ok (.getfield 109, 3) := by decide +kernel
theorem dX10_run_23 : decode prog_37_method_72_code 23 = .ok (.bipush 12, 2) := by decide +kernel
theorem dX10_run_25 : decode prog_37_method_72_code 25 = .ok (.aload_n 0, 1) := by decide +kernel
theorem dX10_run_26 : decode prog_37_method_72_code 26 = .ok (.getfield 340, 3) := by decide +kernel
theorem dX10_run_29 : decode prog_37_method_72_code 29 = .ok (.imul, 1) := by decide +kernel
theorem dX10_run_30 : decode prog_37_method_72_code 30 = .ok (.iload_n 1, 1) := by decide +kernel
theorem dX10_run_31 : decode prog_37_method_72_code 31 = .ok (.iadd, 1) := by decide +kernel
theorem dX10_run_32 : decode prog_37_method_72_code 32 = .ok (.iaload, 1) := by decide +kernel
theorem dX10_run_33 : decode prog_37_method_72_code 33 = .ok (.ifCond .ne 26, 3) := by decide +kernel
theorem dX10_run_36 : decode prog_37_method_72_code 36 = .ok (.iload_n 2, 1) := by decide +kernel
theorem dX10_run_37 : decode prog_37_method_72_code 37 = .ok (.iconst (-1), 1) := by decide +kernel
theorem dX10_run_38 : decode prog_37_method_72_code 38 = .ok (.if_icmp .lt 21, 3) := by decide +kernel
theorem dX10_run_41 : decode prog_37_method_72_code 41 = .ok (.iload_n 2, 1) := by decide +kernel
theorem dX10_run_42 : decode prog_37_method_72_code 42 = .ok (.bipush 7, 2) := by decide +kernel
theorem dX10_run_44 : decode prog_37_method_72_code 44 = .ok (.if_icmp .gt 15, 3) := by decide +kernel
theorem dX10_run_47 : decode prog_37_method_72_code 47 = .ok (.iload_n 3, 1) := by decide +kernel
theorem dX10_run_48 : decode prog_37_method_72_code 48 = .ok (.iconst 1, 1) := by decide +kernel
theorem dX10_run_49 : decode prog_37_method_72_code 49 = .ok (.if_icmp .lt 10, 3) := by decide +kernel
theorem dX10_run_52 : decode prog_37_method_72_code 52 = .ok (.iload_n 3, 1) := by decide +kernel
theorem dX10_run_53 : decode prog_37_method_72_code 53 = .ok (.sipush 20000, 3) := by decide +kernel
theorem dX10_run_56 : decode prog_37_method_72_code 56 = .ok (.if_icmp .le 5, 3) := by decide +kernel
theorem dX10_run_59 : decode prog_37_method_72_code 59 = .ok (.iconst (-1), 1) := by decide +kernel
theorem dX10_run_60 : decode prog_37_method_72_code 60 = .ok (.ireturn, 1) := by decide +kernel
theorem dX10_run_61 : decode prog_37_method_72_code 61 = .ok (.aload_n 0, 1) := by decide +kernel
theorem dX10_run_62 : decode prog_37_method_72_code 62 = .ok (.iconst 1, 1) := by decide +kernel
theorem dX10_run_63 : decode prog_37_method_72_code 63 = .ok (.putfield 552, 3) := by decide +kernel
theorem dX10_run_66 : decode prog_37_method_72_code 66 = .ok (.aload_n 0, 1) := by decide +kernel
theorem dX10_run_67 : decode prog_37_method_72_code 67 = .ok (.iconst 0, 1) := by decide +kernel
theorem dX10_run_68 : decode prog_37_method_72_code 68 = .ok (.putfield 501, 3) := by decide +kernel
theorem dX10_run_71 : decode prog_37_method_72_code 71 = .ok (.aload_n 0, 1) := by decide +kernel
theorem dX10_run_72 : decode prog_37_method_72_code 72 = .ok (.iload_n 3, 1) := by decide +kernel
theorem dX10_run_73 : decode prog_37_method_72_code 73 = .ok (.putfield 504, 3) := by decide +kernel
theorem dX10_run_76 : decode prog_37_method_72_code 76 = .ok (.aload_n 0, 1) := by decide +kernel
theorem dX10_run_77 : decode prog_37_method_72_code 77 = .ok (.iconst 0, 1) := by decide +kernel
theorem dX10_run_78 : decode prog_37_method_72_code 78 = .ok (.putfield 513, 3) := by decide +kernel
theorem dX10_run_81 : decode prog_37_method_72_code 81 = .ok (.aload_n 0, 1) := by decide +kernel
theorem dX10_run_82 : decode prog_37_method_72_code 82 = .ok (.iconst 0, 1) := by decide +kernel
theorem dX10_run_83 : decode prog_37_method_72_code 83 = .ok (.putfield 537, 3) := by decide +kernel
theorem dX10_run_86 : decode prog_37_method_72_code 86 = .ok (.aload_n 0, 1) := by decide +kernel
theorem dX10_run_87 : decode prog_37_method_72_code 87 = .ok (.iconst 0, 1) := by decide +kernel
theorem dX10_run_88 : decode prog_37_method_72_code 88 = .ok (.putfield 546, 3) := by decide +kernel
theorem dX10_run_91 : decode prog_37_method_72_code 91 = .ok (.aload_n 0, 1) := by decide +kernel
theorem dX10_run_92 : decode prog_37_method_72_code 92 = .ok (.iconst 0, 1) := by decide +kernel
theorem dX10_run_93 : decode prog_37_method_72_code 93 = .ok (.putfield 543, 3) := by decide +kernel
theorem dX10_run_96 : decode prog_37_method_72_code 96 = .ok (.aload_n 0, 1) := by decide +kernel
theorem dX10_run_97 : decode prog_37_method_72_code 97 = .ok (.iconst 0, 1) := by decide +kernel
theorem dX10_run_98 : decode prog_37_method_72_code 98 = .ok (.putfield 498, 3) := by decide +kernel
theorem dX10_run_101 : decode prog_37_method_72_code 101 = .ok (.aload_n 0, 1) := by decide +kernel
theorem dX10_run_102 : decode prog_37_method_72_code 102 = .ok (.iconst (-1), 1) := by decide +kernel
theorem dX10_run_103 : decode prog_37_method_72_code 103 = .ok (.putfield 207, 3) := by decide +kernel
theorem dX10_run_106 : decode prog_37_method_72_code 106 = .ok (.aload_n 0, 1) := by decide +kernel
theorem dX10_run_107 : decode prog_37_method_72_code 107 = .ok (.iconst 0, 1) := by decide +kernel
theorem dX10_run_108 : decode prog_37_method_72_code 108 = .ok (.putfield 555, 3) := by decide +kernel
theorem dX10_run_111 : decode prog_37_method_72_code 111 = .ok (.aload_n 0, 1) := by decide +kernel
theorem dX10_run_112 : decode prog_37_method_72_code 112 = .ok (.iconst 0, 1) := by decide +kernel
theorem dX10_run_113 : decode prog_37_method_72_code 113 = .ok (.putfield 461, 3) := by decide +kernel
theorem dX10_run_116 : decode prog_37_method_72_code 116 = .ok (.aload_n 0, 1) := by decide +kernel
theorem dX10_run_117 : decode prog_37_method_72_code 117 = .ok (.iconst 0, 1) := by decide +kernel
theorem dX10_run_118 : decode prog_37_method_72_code 118 = .ok (.putfield 534, 3) := by decide +kernel
theorem dX10_run_121 : decode prog_37_method_72_code 121 = .ok (.aload_n 0, 1) := by decide +kernel
theorem dX10_run_122 : decode prog_37_method_72_code 122 = .ok (.iconst 0, 1) := by decide +kernel
theorem dX10_run_123 : decode prog_37_method_72_code 123 = .ok (.putfield 531, 3) := by decide +kernel
theorem dX10_run_126 : decode prog_37_method_72_code 126 = .ok (.aload_n 0, 1) := by decide +kernel
theorem dX10_run_127 : decode prog_37_method_72_code 127 = .ok (.ldc_w 558, 3) := by decide +kernel
theorem dX10_run_130 : decode prog_37_method_72_code 130 = .ok (.putfield 519, 3) := by decide +kernel
theorem dX10_run_133 : decode prog_37_method_72_code 133 = .ok (.aload_n 0, 1) := by decide +kernel
theorem dX10_run_134 : decode prog_37_method_72_code 134 = .ok (.getfield 183, 3) := by decide +kernel
theorem dX10_run_137 : decode prog_37_method_72_code 137 = .ok (.ldc_w 559, 3) := by decide +kernel
theorem dX10_run_140 : decode prog_37_method_72_code 140 = .ok (.iconst 1, 1) := by decide +kernel
theorem dX10_run_141 : decode prog_37_method_72_code 141 = .ok (.iastore, 1) := by decide +kernel
theorem dX10_run_142 : decode prog_37_method_72_code 142 = .ok (.aload_n 0, 1) := by decide +kernel
theorem dX10_run_143 : decode prog_37_method_72_code 143 = .ok (.getfield 183, 3) := by decide +kernel
theorem dX10_run_146 : decode prog_37_method_72_code 146 = .ok (.ldc_w 560, 3) := by decide +kernel
theorem dX10_run_149 : decode prog_37_method_72_code 149 = .ok (.iconst 0, 1) := by decide +kernel
theorem dX10_run_150 : decode prog_37_method_72_code 150 = .ok (.iastore, 1) := by decide +kernel
theorem dX10_run_151 : decode prog_37_method_72_code 151 = .ok (.iconst 0, 1) := by decide +kernel
theorem dX10_run_152 : decode prog_37_method_72_code 152 = .ok (.istore 4, 2) := by decide +kernel
theorem dX10_run_154 : decode prog_37_method_72_code 154 = .ok (.iload 4, 2) := by decide +kernel
theorem dX10_run_156 : decode prog_37_method_72_code 156 = .ok (.bipush 8, 2) := by decide +kernel
theorem dX10_run_158 : decode prog_37_method_72_code 158 = .ok (.if_icmp .ge 85, 3) := by decide +kernel
theorem dX10_run_161 : decode prog_37_method_72_code 161 = .ok (.sipush 2410, 3) := by decide +kernel
theorem dX10_run_164 : decode prog_37_method_72_code 164 = .ok (.iload 4, 2) := by decide +kernel
theorem dX10_run_166 : decode prog_37_method_72_code 166 = .ok (.imul, 1) := by decide +kernel
theorem dX10_run_167 : decode prog_37_method_72_code 167 = .ok (.istore 5, 2) := by decide +kernel
theorem dX10_run_169 : decode prog_37_method_72_code 169 = .ok (.aload_n 0, 1) := by decide +kernel
theorem dX10_run_170 : decode prog_37_method_72_code 170 = .ok (.getfield 210, 3) := by decide +kernel
theorem dX10_run_173 : decode prog_37_method_72_code 173 = .ok (.iload 4, 2) := by decide +kernel
theorem dX10_run_175 : decode prog_37_method_72_code 175 = .ok (.aload_n 0, 1) := by decide +kernel
theorem dX10_run_176 : decode prog_37_method_72_code 176 = .ok (.getfield 183, 3) := by decide +kernel
theorem dX10_run_179 : decode prog_37_method_72_code 179 = .ok (.iload 5, 2) := by decide +kernel
theorem dX10_run_181 : decode prog_37_method_72_code 181 = .ok (.iaload, 1) := by decide +kernel
theorem dX10_run_182 : decode prog_37_method_72_code 182 = .ok (.iconst (-1), 1) := by decide +kernel
theorem dX10_run_183 : decode prog_37_method_72_code 183 = .ok (.if_icmp .ne 7, 3) := by decide +kernel
theorem dX10_run_186 : decode prog_37_method_72_code 186 = .ok (.iconst 2, 1) := by decide +kernel
theorem dX10_run_187 : decode prog_37_method_72_code 187 = .ok (.goto 18, 3) := by decide +kernel
theorem dX10_run_190 : decode prog_37_method_72_code 190 = .ok (.aload_n 0, 1) := by decide +kernel
theorem dX10_run_191 : decode prog_37_method_72_code 191 = .ok (.getfield 183, 3) := by decide +kernel
theorem dX10_run_194 : decode prog_37_method_72_code 194 = .ok (.iload 5, 2) := by decide +kernel
theorem dX10_run_196 : decode prog_37_method_72_code 196 = .ok (.iaload, 1) := by decide +kernel
theorem dX10_run_197 : decode prog_37_method_72_code 197 = .ok (.ifCond .ne 7, 3) := by decide +kernel
theorem dX10_run_200 : decode prog_37_method_72_code 200 = .ok (.iconst 0, 1) := by decide +kernel
theorem dX10_run_201 : decode prog_37_method_72_code 201 = .ok (.goto 4, 3) := by decide +kernel
theorem dX10_run_204 : decode prog_37_method_72_code 204 = .ok (.iconst 1, 1) := by decide +kernel
theorem dX10_run_205 : decode prog_37_method_72_code 205 = .ok (.iastore, 1) := by decide +kernel
theorem dX10_run_206 : decode prog_37_method_72_code 206 = .ok (.aload_n 0, 1) := by decide +kernel
theorem dX10_run_207 : decode prog_37_method_72_code 207 = .ok (.getfield 213, 3) := by decide +kernel
theorem dX10_run_210 : decode prog_37_method_72_code 210 = .ok (.iload 4, 2) := by decide +kernel
theorem dX10_run_212 : decode prog_37_method_72_code 212 = .ok (.aload_n 0, 1) := by decide +kernel
theorem dX10_run_213 : decode prog_37_method_72_code 213 = .ok (.getfield 183, 3) := by decide +kernel
theorem dX10_run_216 : decode prog_37_method_72_code 216 = .ok (.iload 5, 2) := by decide +kernel
theorem dX10_run_218 : decode prog_37_method_72_code 218 = .ok (.iaload, 1) := by decide +kernel
theorem dX10_run_219 : decode prog_37_method_72_code 219 = .ok (.ifCond .ne 15, 3) := by decide +kernel
theorem dX10_run_222 : decode prog_37_method_72_code 222 = .ok (.aload_n 0, 1) := by decide +kernel
theorem dX10_run_223 : decode prog_37_method_72_code 223 = .ok (.getfield 183, 3) := by decide +kernel
theorem dX10_run_226 : decode prog_37_method_72_code 226 = .ok (.iload 5, 2) := by decide +kernel
theorem dX10_run_228 : decode prog_37_method_72_code 228 = .ok (.iconst 1, 1) := by decide +kernel
theorem dX10_run_229 : decode prog_37_method_72_code 229 = .ok (.iadd, 1) := by decide +kernel
theorem dX10_run_230 : decode prog_37_method_72_code 230 = .ok (.iaload, 1) := by decide +kernel
theorem dX10_run_231 : decode prog_37_method_72_code 231 = .ok (.goto 5, 3) := by decide +kernel
theorem dX10_run_234 : decode prog_37_method_72_code 234 = .ok (.iload 5, 2) := by decide +kernel
theorem dX10_run_236 : decode prog_37_method_72_code 236 = .ok (.iastore, 1) := by decide +kernel
theorem dX10_run_237 : decode prog_37_method_72_code 237 = .ok (.iinc 4 1, 3) := by decide +kernel
theorem dX10_run_240 : decode prog_37_method_72_code 240 = .ok (.goto (-86), 3) := by decide +kernel
theorem dX10_run_243 : decode prog_37_method_72_code 243 = .ok (.aload_n 0, 1) := by decide +kernel
theorem dX10_run_244 : decode prog_37_method_72_code 244 = .ok (.bipush 12, 2) := by decide +kernel
theorem dX10_run_246 : decode prog_37_method_72_code 246 = .ok (.aload_n 0, 1) := by decide +kernel
theorem dX10_run_247 : decode prog_37_method_72_code 247 = .ok (.getfield 340, 3) := by decide +kernel
theorem dX10_run_250 : decode prog_37_method_72_code 250 = .ok (.imul, 1) := by decide +kernel
theorem dX10_run_251 : decode prog_37_method_72_code 251 = .ok (.iload_n 1, 1) := by decide +kernel
theorem dX10_run_252 : decode prog_37_method_72_code 252 = .ok (.iadd, 1) := by decide +kernel
theorem dX10_run_253 : decode prog_37_method_72_code 253 = .ok (.iconst 0, 1) := by decide +kernel
theorem dX10_run_254 : decode prog_37_method_72_code 254 = .ok (.iconst (-1), 1) := by decide +kernel
theorem dX10_run_255 : decode prog_37_method_72_code 255 = .ok (.invokevirtual 561, 3) := by decide +kernel
theorem dX10_run_258 : decode prog_37_method_72_code 258 = .ok (.aload_n 0, 1) := by decide +kernel
theorem dX10_run_259 : decode prog_37_method_72_code 259 = .ok (.getfield 531, 3) := by decide +kernel
theorem dX10_run_262 : decode prog_37_method_72_code 262 = .ok (.ifCond .le 58, 3) := by decide +kernel
theorem dX10_run_265 : decode prog_37_method_72_code 265 = .ok (.aload_n 0, 1) := by decide +kernel
theorem dX10_run_266 : decode prog_37_method_72_code 266 = .ok (.getfield 498, 3) := by decide +kernel
theorem dX10_run_269 : decode prog_37_method_72_code 269 = .ok (.ifCond .ne 51, 3) := by decide +kernel
theorem dX10_run_272 : decode prog_37_method_72_code 272 = .ok (.aload_n 0, 1) := by decide +kernel
theorem dX10_run_273 : decode prog_37_method_72_code 273 = .ok (.getfield 540, 3) := by decide +kernel
theorem dX10_run_276 : decode prog_37_method_72_code 276 = .ok (.istore 4, 2) := by decide +kernel
theorem dX10_run_278 : decode prog_37_method_72_code 278 = .ok (.aload_n 0, 1) := by decide +kernel
theorem dX10_run_279 : decode prog_37_method_72_code 279 = .ok (.dup, 1) := by decide +kernel
theorem dX10_run_280 : decode prog_37_method_72_code 280 = .ok (.getfield 540, 3) := by decide +kernel
theorem dX10_run_283 : decode prog_37_method_72_code 283 = .ok (.iconst 1, 1) := by decide +kernel
theorem dX10_run_284 : decode prog_37_method_72_code 284 = .ok (.iadd, 1) := by decide +kernel
theorem dX10_run_285 : decode prog_37_method_72_code 285 = .ok (.putfield 540, 3) := by decide +kernel
theorem dX10_run_288 : decode prog_37_method_72_code 288 = .ok (.aload_n 0, 1) := by decide +kernel
theorem dX10_run_289 : decode prog_37_method_72_code 289 = .ok (.aload_n 0, 1) := by decide +kernel
theorem dX10_run_290 : decode prog_37_method_72_code 290 = .ok (.getfield 133, 3) := by decide +kernel
theorem dX10_run_293 : decode prog_37_method_72_code 293 = .ok (.iload 4, 2) := by decide +kernel
theorem dX10_run_295 : decode prog_37_method_72_code 295 = .ok (.iaload, 1) := by decide +kernel
theorem dX10_run_296 : decode prog_37_method_72_code 296 = .ok (.putfield 507, 3) := by decide +kernel
theorem dX10_run_299 : decode prog_37_method_72_code 299 = .ok (.aload_n 0, 1) := by decide +kernel
theorem dX10_run_300 : decode prog_37_method_72_code 300 = .ok (.iload 4, 2) := by decide +kernel
theorem dX10_run_302 : decode prog_37_method_72_code 302 = .ok (.invokevirtual 564, 3) := by decide +kernel
theorem dX10_run_305 : decode prog_37_method_72_code 305 = .ok (.aload_n 0, 1) := by decide +kernel
theorem dX10_run_306 : decode prog_37_method_72_code 306 = .ok (.getfield 498, 3) := by decide +kernel
theorem dX10_run_309 : decode prog_37_method_72_code 309 = .ok (.ifCond .le 8, 3) := by decide +kernel
theorem dX10_run_312 : decode prog_37_method_72_code 312 = .ok (.aload_n 0, 1) := by decide +kernel
theorem dX10_run_313 : decode prog_37_method_72_code 313 = .ok (.invokevirtual 567, 3) := by decide +kernel
theorem dX10_run_316 : decode prog_37_method_72_code 316 = .ok (.pop, 1) := by decide +kernel
theorem dX10_run_317 : decode prog_37_method_72_code 317 = .ok (.goto (-59), 3) := by decide +kernel
theorem dX10_run_320 : decode prog_37_method_72_code 320 = .ok (.aload_n 0, 1) := by decide +kernel
theorem dX10_run_321 : decode prog_37_method_72_code 321 = .ok (.getfield 498, 3) := by decide +kernel
theorem dX10_run_324 : decode prog_37_method_72_code 324 = .ok (.ifCond .le 8, 3) := by decide +kernel
theorem dX10_run_327 : decode prog_37_method_72_code 327 = .ok (.aload_n 0, 1) := by decide +kernel
theorem dX10_run_328 : decode prog_37_method_72_code 328 = .ok (.getfield 498, 3) := by decide +kernel
theorem dX10_run_331 : decode prog_37_method_72_code 331 = .ok (.ireturn, 1) := by decide +kernel
theorem dX10_run_332 : decode prog_37_method_72_code 332 = .ok (.iload_n 2, 1) := by decide +kernel
theorem dX10_run_333 : decode prog_37_method_72_code 333 = .ok (.ifCond .lt 27, 3) := by decide +kernel
theorem dX10_run_336 : decode prog_37_method_72_code 336 = .ok (.aload_n 0, 1) := by decide +kernel
theorem dX10_run_337 : decode prog_37_method_72_code 337 = .ok (.getfield 210, 3) := by decide +kernel
theorem dX10_run_340 : decode prog_37_method_72_code 340 = .ok (.iload_n 2, 1) := by decide +kernel
theorem dX10_run_341 : decode prog_37_method_72_code 341 = .ok (.aload_n 0, 1) := by decide +kernel
theorem dX10_run_342 : decode prog_37_method_72_code 342 = .ok (.getfield 186, 3) := by decide +kernel
theorem dX10_run_345 : decode prog_37_method_72_code 345 = .ok (.iconst 0, 1) := by decide +kernel
theorem dX10_run_346 : decode prog_37_method_72_code 346 = .ok (.iaload, 1) := by decide +kernel
theorem dX10_run_347 : decode prog_37_method_72_code 347 = .ok (.iastore, 1) := by decide +kernel
theorem dX10_run_348 : decode prog_37_method_72_code 348 = .ok (.aload_n 0, 1) := by decide +kernel
theorem dX10_run_349 : decode prog_37_method_72_code 349 = .ok (.getfield 213, 3) := by decide +kernel
theorem dX10_run_352 : decode prog_37_method_72_code 352 = .ok (.iload_n 2, 1) := by decide +kernel
theorem dX10_run_353 : decode prog_37_method_72_code 353 = .ok (.aload_n 0, 1) := by decide +kernel
theorem dX10_run_354 : decode prog_37_method_72_code 354 = .ok (.getfield 189, 3) := by decide +kernel
theorem dX10_run_357 : decode prog_37_method_72_code 357 = .ok (.iconst 0, 1) := by decide +kernel
theorem dX10_run_358 : decode prog_37_method_72_code 358 = .ok (.iaload, 1) := by decide +kernel
theorem dX10_run_359 : decode prog_37_method_72_code 359 = .ok (.iastore, 1) := by decide +kernel
theorem dX10_run_360 : decode prog_37_method_72_code 360 = .ok (.iconst 0, 1) := by decide +kernel
theorem dX10_run_361 : decode prog_37_method_72_code 361 = .ok (.istore 4, 2) := by decide +kernel
theorem dX10_run_363 : decode prog_37_method_72_code 363 = .ok (.iload 4, 2) := by decide +kernel
theorem dX10_run_365 : decode prog_37_method_72_code 365 = .ok (.bipush 8, 2) := by decide +kernel
theorem dX10_run_367 : decode prog_37_method_72_code 367 = .ok (.if_icmp .ge 36, 3) := by decide +kernel
theorem dX10_run_370 : decode prog_37_method_72_code 370 = .ok (.aload_n 0, 1) := by decide +kernel
theorem dX10_run_371 : decode prog_37_method_72_code 371 = .ok (.aload_n 0, 1) := by decide +kernel
theorem dX10_run_372 : decode prog_37_method_72_code 372 = .ok (.getfield 210, 3) := by decide +kernel
theorem dX10_run_375 : decode prog_37_method_72_code 375 = .ok (.iload 4, 2) := by decide +kernel
theorem dX10_run_377 : decode prog_37_method_72_code 377 = .ok (.iaload, 1) := by decide +kernel
theorem dX10_run_378 : decode prog_37_method_72_code 378 = .ok (.aload_n 0, 1) := by decide +kernel
theorem dX10_run_379 : decode prog_37_method_72_code 379 = .ok (.getfield 213, 3) := by decide +kernel
theorem dX10_run_382 : decode prog_37_method_72_code 382 = .ok (.iload 4, 2) := by decide +kernel
theorem dX10_run_384 : decode prog_37_method_72_code 384 = .ok (.iaload, 1) := by decide +kernel
theorem dX10_run_385 : decode prog_37_method_72_code 385 = .ok (.sipush 2410, 3) := by decide +kernel
theorem dX10_run_388 : decode prog_37_method_72_code 388 = .ok (.bipush 56, 2) := by decide +kernel
theorem dX10_run_390 : decode prog_37_method_72_code 390 = .ok (.iload 4, 2) := by decide +kernel
theorem dX10_run_392 : decode prog_37_method_72_code 392 = .ok (.iadd, 1) := by decide +kernel
theorem dX10_run_393 : decode prog_37_method_72_code 393 = .ok (.imul, 1) := by decide +kernel
theorem dX10_run_394 : decode prog_37_method_72_code 394 = .ok (.invokevirtual 495, 3) := by decide +kernel
theorem dX10_run_397 : decode prog_37_method_72_code 397 = .ok (.iinc 4 1, 3) := by decide +kernel
theorem dX10_run_400 : decode prog_37_method_72_code 400 = .ok (.goto (-37), 3) := by decide +kernel
theorem dX10_run_403 : decode prog_37_method_72_code 403 = .ok (.iconst 0, 1) := by decide +kernel
theorem dX10_run_404 : decode prog_37_method_72_code 404 = .ok (.istore 4, 2) := by decide +kernel
theorem dX10_run_406 : decode prog_37_method_72_code 406 = .ok (.iload 4, 2) := by decide +kernel
theorem dX10_run_408 : decode prog_37_method_72_code 408 = .ok (.bipush 8, 2) := by decide +kernel
theorem dX10_run_410 : decode prog_37_method_72_code 410 = .ok (.if_icmp .ge 28, 3) := by decide +kernel
theorem dX10_run_413 : decode prog_37_method_72_code 413 = .ok (.aload_n 0, 1) := by decide +kernel
theorem dX10_run_414 : decode prog_37_method_72_code 414 = .ok (.sipush 2410, 3) := by decide +kernel
theorem dX10_run_417 : decode prog_37_method_72_code 417 = .ok (.bipush 56, 2) := by decide +kernel
theorem dX10_run_419 : decode prog_37_method_72_code 419 = .ok (.iload 4, 2) := by decide +kernel
theorem dX10_run_421 : decode prog_37_method_72_code 421 = .ok (.iadd, 1) := by decide +kernel
theorem dX10_run_422 : decode prog_37_method_72_code 422 = .ok (.imul, 1) := by decide +kernel
theorem dX10_run_423 : decode prog_37_method_72_code 423 = .ok (.sipush 2410, 3) := by decide +kernel
theorem dX10_run_426 : decode prog_37_method_72_code 426 = .ok (.iload 4, 2) := by decide +kernel
theorem dX10_run_428 : decode prog_37_method_72_code 428 = .ok (.imul, 1) := by decide +kernel
theorem dX10_run_429 : decode prog_37_method_72_code 429 = .ok (.invokevirtual 570, 3) := by decide +kernel
theorem dX10_run_432 : decode prog_37_method_72_code 432 = .ok (.iinc 4 1, 3) := by decide +kernel
theorem dX10_run_435 : decode prog_37_method_72_code 435 = .ok (.goto (-29), 3) := by decide +kernel
theorem dX10_run_438 : decode prog_37_method_72_code 438 = .ok (.iconst 0, 1) := by decide +kernel
theorem dX10_run_439 : decode prog_37_method_72_code 439 = .ok (.ireturn, 1) := by decide +kernel
theorem dX10_enters_0 : decode prog_37_method_69_code 0 = .ok (.aload_n 0, 1) := by decide +kernel
theorem dX10_enters_1 : decode prog_37_method_69_code 1 = .ok (.getfield 531, 3) := by decide +kernel
theorem dX10_enters_4 : decode prog_37_method_69_code 4 = .ok (.bipush 10, 2) := by decide +kernel
theorem dX10_enters_6 : decode prog_37_method_69_code 6 = .ok (.if_icmp .ne 14, 3) := by decide +kernel
theorem dX10_enters_9 : decode prog_37_method_69_code 9 = .ok (.aload_n 0, 1) := by decide +kernel
theorem dX10_enters_10 : decode prog_37_method_69_code 10 = .ok (.bipush 8, 2) := by decide +kernel
theorem dX10_enters_12 : decode prog_37_method_69_code 12 = .ok (.aload_n 0, 1) := by decide +kernel
theorem dX10_enters_13 : decode prog_37_method_69_code 13 = .ok (.getfield 507, 3) := by decide +kernel
theorem dX10_enters_16 : decode prog_37_method_69_code 16 = .ok (.invokevirtual 510, 3) := by decide +kernel
theorem dX10_enters_19 : decode prog_37_method_69_code 19 = .ok (.return_, 1) := by decide +kernel
theorem dX10_enters_20 : decode prog_37_method_69_code 20 = .ok (.aload_n 0, 1) := by decide +kernel
theorem dX10_enters_21 : decode prog_37_method_69_code 21 = .ok (.getfield 461, 3) := by decide +kernel
theorem dX10_enters_24 : decode prog_37_method_69_code 24 = .ok (.iload_n 2, 1) := by decide +kernel
theorem dX10_enters_25 : decode prog_37_method_69_code 25 = .ok (.isub, 1) := by decide +kernel
theorem dX10_enters_26 : decode prog_37_method_69_code 26 = .ok (.istore 4, 2) := by decide +kernel
theorem dX10_enters_28 : decode prog_37_method_69_code 28 = .ok (.iconst 0, 1) := by decide +kernel
theorem dX10_enters_29 : decode prog_37_method_69_code 29 = .ok (.istore 5, 2) := by decide +kernel
theorem dX10_enters_31 : decode prog_37_method_69_code 31 = .ok (.iload 5, 2) := by decide +kernel
theorem dX10_enters_33 : decode prog_37_method_69_code 33 = .ok (.bipush 14, 2) := by decide +kernel
theorem dX10_enters_35 : decode prog_37_method_69_code 35 = .ok (.if_icmp .ge 79, 3) := by decide +kernel
theorem dX10_enters_38 : decode prog_37_method_69_code 38 = .ok (.aload_n 0, 1) := by decide +kernel
theorem dX10_enters_39 : decode prog_37_method_69_code 39 = .ok (.getfield 225, 3) := by decide +kernel
theorem dX10_enters_42 : decode prog_37_method_69_code 42 = .ok (.bipush 14, 2) := by decide +kernel
theorem dX10_enters_44 : decode prog_37_method_69_code 44 = .ok (.aload_n 0, 1) := by decide +kernel
theorem dX10_enters_45 : decode prog_37_method_69_code 45 = .ok (.getfield 531, 3) := by decide +kernel
theorem dX10_enters_48 : decode prog_37_method_69_code 48 = .ok (.imul, 1) := by decide +kernel
theorem dX10_enters_49 : decode prog_37_method_69_code 49 = .ok (.iload 5, 2) := by decide +kernel
theorem dX10_enters_51 : decode prog_37_method_69_code 51 = .ok (.iadd, 1) := by decide +kernel
theorem dX10_enters_52 : decode prog_37_method_69_code 52 = .ok (.iload 5, 2) := by decide +kernel
theorem dX10_enters_54 : decode prog_37_method_69_code 54 = .ok (.iload_n 2, 1) := by decide +kernel
theorem dX10_enters_55 : decode prog_37_method_69_code 55 = .ok (.if_icmp .ge 16, 3) := by decide +kernel
theorem dX10_enters_58 : decode prog_37_method_69_code 58 = .ok (.aload_n 0, 1) := by decide +kernel
theorem dX10_enters_59 : decode prog_37_method_69_code 59 = .ok (.getfield 186, 3) := by decide +kernel
theorem dX10_enters_62 : decode prog_37_method_69_code 62 = .ok (.iload 4, 2) := by decide +kernel
theorem dX10_enters_64 : decode prog_37_method_69_code 64 = .ok (.iload 5, 2) := by decide +kernel
theorem dX10_enters_66 : decode prog_37_method_69_code 66 = .ok (.iadd, 1) := by decide +kernel
theorem dX10_enters_67 : decode prog_37_method_69_code 67 = .ok (.iaload, 1) := by decide +kernel
theorem dX10_enters_68 : decode prog_37_method_69_code 68 = .ok (.goto 4, 3) := by decide +kernel
theorem dX10_enters_71 : decode prog_37_method_69_code 71 = .ok (.iconst 2, 1) := by decide +kernel
theorem dX10_enters_72 : decode prog_37_method_69_code 72 = .ok (.iastore, 1) := by decide +kernel
theorem dX10_enters_73 : decode prog_37_method_69_code 73 = .ok (.aload_n 0, 1) := by decide +kernel
theorem dX10_enters_74 : decode prog_37_method_69_code 74 = .ok (.getfield 228, 3) := by decide +kernel
theorem dX10_enters_77 : decode prog_37_method_69_code 77 = .ok (.bipush 14, 2) := by decide +kernel
theorem dX10_enters_79 : decode prog_37_method_69_code 79 = .ok (.aload_n 0, 1) := by decide +kernel
theorem dX10_enters_80 : decode prog_37_method_69_code 80 = .ok (.getfield 531, 3) := by decide +kernel
theorem dX10_enters_83 : decode prog_37_method_69_code 83 = .ok (.imul, 1) := by decide +kernel
theorem dX10_enters_84 : decode prog_37_method_69_code 84 = .ok (.iload 5, 2) := by decide +kernel
theorem dX10_enters_86 : decode prog_37_method_69_code 86 = .ok (.iadd, 1) := by decide +kernel
theorem dX10_enters_87 : decode prog_37_method_69_code 87 = .ok (.iload 5, 2) := by decide +kernel
theorem dX10_enters_89 : decode prog_37_method_69_code 89 = .ok (.iload_n 2, 1) := by decide +kernel
theorem dX10_enters_90 : decode prog_37_method_69_code 90 = .ok (.if_icmp .ge 16, 3) := by decide +kernel
theorem dX10_enters_93 : decode prog_37_method_69_code 93 = .ok (.aload_n 0, 1) := by decide +kernel
theorem dX10_enters_94 : decode prog_37_method_69_code 94 = .ok (.getfield 189, 3) := by decide +kernel
theorem dX10_enters_97 : decode prog_37_method_69_code 97 = .ok (.iload 4, 2) := by decide +kernel
theorem dX10_enters_99 : decode prog_37_method_69_code 99 = .ok (.iload 5, 2) := by decide +kernel
theorem dX10_enters_101 : decode prog_37_method_69_code 101 = .ok (.iadd, 1) := by decide +kernel
theorem dX10_enters_102 : decode prog_37_method_69_code 102 = .ok (.iaload, 1) := by decide +kernel
theorem dX10_enters_103 : decode prog_37_method_69_code 103 = .ok (.goto 4, 3) := by decide +kernel
theorem dX10_enters_106 : decode prog_37_method_69_code 106 = .ok (.iconst 0, 1) := by decide +kernel
theorem dX10_enters_107 : decode prog_37_method_69_code 107 = .ok (.iastore, 1) := by decide +kernel
theorem dX10_enters_108 : decode prog_37_method_69_code 108 = .ok (.iinc 5 1, 3) := by decide +kernel
theorem dX10_enters_111 : decode prog_37_method_69_code 111 = .ok (.goto (-80), 3) := by decide +kernel
theorem dX10_enters_114 : decode prog_37_method_69_code 114 = .ok (.aload_n 0, 1) := by decide +kernel
theorem dX10_enters_115 : decode prog_37_method_69_code 115 = .ok (.iload 4, 2) := by decide +kernel
theorem dX10_enters_117 : decode prog_37_method_69_code 117 = .ok (.putfield 461, 3) := by decide +kernel
theorem dX10_enters_120 : decode prog_37_method_69_code 120 = .ok (.aload_n 0, 1) := by decide +kernel
theorem dX10_enters_121 : decode prog_37_method_69_code 121 = .ok (.getfield 216, 3) := by decide +kernel
theorem dX10_enters_124 : decode prog_37_method_69_code 124 = .ok (.aload_n 0, 1) := by decide +kernel
theorem dX10_enters_125 : decode prog_37_method_69_code 125 = .ok (.getfield 531, 3) := by decide +kernel
theorem dX10_enters_128 : decode prog_37_method_69_code 128 = .ok (.iload 4, 2) := by decide +kernel
theorem dX10_enters_130 : decode prog_37_method_69_code 130 = .ok (.iastore, 1) := by decide +kernel
theorem dX10_enters_131 : decode prog_37_method_69_code 131 = .ok (.aload_n 0, 1) := by decide +kernel
theorem dX10_enters_132 : decode prog_37_method_69_code 132 = .ok (.getfield 219, 3) := by decide +kernel
theorem dX10_enters_135 : decode prog_37_method_69_code 135 = .ok (.aload_n 0, 1) := by decide +kernel
theorem dX10_enters_136 : decode prog_37_method_69_code 136 = .ok (.getfield 531, 3) := by decide +kernel
theorem dX10_enters_139 : decode prog_37_method_69_code 139 = .ok (.iload_n 3, 1) := by decide +kernel
theorem dX10_enters_140 : decode prog_37_method_69_code 140 = .ok (.iastore, 1) := by decide +kernel
theorem dX10_enters_141 : decode prog_37_method_69_code 141 = .ok (.aload_n 0, 1) := by decide +kernel
theorem dX10_enters_142 : decode prog_37_method_69_code 142 = .ok (.getfield 222, 3) := by decide +kernel
theorem dX10_enters_145 : decode prog_37_method_69_code 145 = .ok (.aload_n 0, 1) := by decide +kernel
theorem dX10_enters_146 : decode prog_37_method_69_code 146 = .ok (.getfield 531, 3) := by decide +kernel
theorem dX10_enters_149 : decode prog_37_method_69_code 149 = .ok (.aload_n 0, 1) := by decide +kernel
theorem dX10_enters_150 : decode prog_37_method_69_code 150 = .ok (.getfield 534, 3) := by decide +kernel
theorem dX10_enters_153 : decode prog_37_method_69_code 153 = .ok (.iastore, 1) := by decide +kernel
theorem dX10_enters_154 : decode prog_37_method_69_code 154 = .ok (.aload_n 0, 1) := by decide +kernel
theorem dX10_enters_155 : decode prog_37_method_69_code 155 = .ok (.dup, 1) := by decide +kernel
theorem dX10_enters_156 : decode prog_37_method_69_code 156 = .ok (.getfield 531, 3) := by decide +kernel
theorem dX10_enters_159 : decode prog_37_method_69_code 159 = .ok (.iconst 1, 1) := by decide +kernel
theorem dX10_enters_160 : decode prog_37_method_69_code 160 = .ok (.iadd, 1) := by decide +kernel
theorem dX10_enters_161 : decode prog_37_method_69_code 161 = .ok (.putfield 531, 3) := by decide +kernel
theorem dX10_enters_164 : decode prog_37_method_69_code 164 = .ok (.aload_n 0, 1) := by decide +kernel
theorem dX10_enters_165 : decode prog_37_method_69_code 165 = .ok (.aload_n 0, 1) := by decide +kernel
theorem dX10_enters_166 : decode prog_37_method_69_code 166 = .ok (.getfield 531, 3) := by decide +kernel
theorem dX10_enters_169 : decode prog_37_method_69_code 169 = .ok (.aload_n 0, 1) := by decide +kernel
theorem dX10_enters_170 : decode prog_37_method_69_code 170 = .ok (.getfield 537, 3) := by decide +kernel
theorem dX10_enters_173 : decode prog_37_method_69_code 173 = .ok (.if_icmp .le 10, 3) := by decide +kernel
theorem dX10_enters_176 : decode prog_37_method_69_code 176 = .ok (.aload_n 0, 1) := by decide +kernel
theorem dX10_enters_177 : decode prog_37_method_69_code 177 = .ok (.getfield 531, 3) := by decide +kernel
theorem dX10_enters_180 : decode prog_37_method_69_code 180 = .ok (.goto 7, 3) := by decide +kernel
theorem dX10_enters_183 : decode prog_37_method_69_code 183 = .ok (.aload_n 0, 1) := by decide +kernel
theorem dX10_enters_184 : decode prog_37_method_69_code 184 = .ok (.getfield 537, 3) := by decide +kernel
theorem dX10_enters_187 : decode prog_37_method_69_code 187 = .ok (.putfield 537, 3) := by decide +kernel
theorem dX10_enters_190 : decode prog_37_method_69_code 190 = .ok (.aload_n 0, 1) := by decide +kernel
theorem dX10_enters_191 : decode prog_37_method_69_code 191 = .ok (.aload_n 0, 1) := by decide +kernel
theorem dX10_enters_192 : decode prog_37_method_69_code 192 = .ok (.getfield 115, 3) := by decide +kernel
theorem dX10_enters_195 : decode prog_37_method_69_code 195 = .ok (.iload_n 1, 1) := by decide +kernel
theorem dX10_enters_196 : decode prog_37_method_69_code 196 = .ok (.iaload, 1) := by decide +kernel
theorem dX10_enters_197 : decode prog_37_method_69_code 197 = .ok (.putfield 540, 3) := by decide +kernel
theorem dX10_enters_200 : decode prog_37_method_69_code 200 = .ok (.return_, 1) := by decide +kernel
theorem dX10_trouble_0 : decode prog_37_method_60_code 0 = .ok (.aload_n 0, 1) := by decide +kernel
theorem dX10_trouble_1 : decode prog_37_method_60_code 1 = .ok (.getfield 498, 3) := by decide +kernel
theorem dX10_trouble_4 : decode prog_37_method_60_code 4 = .ok (.ifCond .le 4, 3) := by decide +kernel
theorem dX10_trouble_7 : decode prog_37_method_60_code 7 = .ok (.return_, 1) := by decide +kernel
theorem dX10_trouble_8 : decode prog_37_method_60_code 8 = .ok (.aload_n 0, 1) := by decide +kernel
theorem dX10_trouble_9 : decode prog_37_method_60_code 9 = .ok (.iload_n 1, 1) := by decide +kernel
theorem dX10_trouble_10 : decode prog_37_method_60_code 10 = .ok (.putfield 498, 3) := by decide +kernel
theorem dX10_trouble_13 : decode prog_37_method_60_code 13 = .ok (.aload_n 0, 1) := by decide +kernel
theorem dX10_trouble_14 : decode prog_37_method_60_code 14 = .ok (.iload_n 2, 1) := by decide +kernel
theorem dX10_trouble_15 : decode prog_37_method_60_code 15 = .ok (.putfield 207, 3) := by decide +kernel
theorem dX10_trouble_18 : decode prog_37_method_60_code 18 = .ok (.return_, 1) := by decide +kernel
theorem dX10_does_0 : decode prog_37_method_73_code 0 = .ok (.aload_n 0, 1) := by decide +kernel
theorem dX10_does_1 : decode prog_37_method_73_code 1 = .ok (.getfield 121, 3) := by decide +kernel
theorem dX10_does_4 : decode prog_37_method_73_code 4 = .ok (.iload_n 1, 1) := by decide +kernel
theorem dX10_does_5 : decode prog_37_method_73_code 5 = .ok (.iaload, 1) := by decide +kernel
theorem dX10_does_6 : decode prog_37_method_73_code 6 = .ok (.tableswitch 333 1 24 #[110, 115, 127, 179, 179, 179, 179, 179, 179, 179, 196, 202, 241, 333, 247, 110, 333, 258, 333, 333, 333, 264, 275, 312], 110) := by decide +kernel
theorem dX10_does_116 : decode prog_37_method_73_code 116 = .ok (.aload_n 0, 1) := by decide +kernel
theorem dX10_does_117 : decode prog_37_method_73_code 117 = .ok (.invokevirtual 573, 3) := by decide +kernel
theorem dX10_does_120 : decode prog_37_method_73_code 120 = .ok (.return_, 1) := by decide +kernel
theorem dX10_does_121 : decode prog_37_method_73_code 121 = .ok (.aload_n 0, 1) := by decide +kernel
theorem dX10_does_122 : decode prog_37_method_73_code 122 = .ok (.iconst 0, 1) := by decide +kernel
theorem dX10_does_123 : decode prog_37_method_73_code 123 = .ok (.aload_n 0, 1) := by decide +kernel
theorem dX10_does_124 : decode prog_37_method_73_code 124 = .ok (.getfield 124, 3) := by decide +kernel
theorem dX10_does_127 : decode prog_37_method_73_code 127 = .ok (.iload_n 1, 1) := by decide +kernel
theorem dX10_does_128 : decode prog_37_method_73_code 128 = .ok (.iaload, 1) := by decide +kernel
theorem dX10_does_129 : decode prog_37_method_73_code 129 = .ok (.invokevirtual 464, 3) := by decide +kernel
theorem dX10_does_132 : decode prog_37_method_73_code 132 = .ok (.return_, 1) := by decide +kernel
theorem dX10_does_133 : decode prog_37_method_73_code 133 = .ok (.aload_n 0, 1) := by decide +kernel
theorem dX10_does_134 : decode prog_37_method_73_code 134 = .ok (.aload_n 0, 1) := by decide +kernel
theorem dX10_does_135 : decode prog_37_method_73_code 135 = .ok (.getfield 124, 3) := by decide +kernel
theorem dX10_does_138 : decode prog_37_method_73_code 138 = .ok (.iload_n 1, 1) := by decide +kernel
theorem dX10_does_139 : decode prog_37_method_73_code 139 = .ok (.iaload, 1) := by decide +kernel
theorem dX10_does_140 : decode prog_37_method_73_code 140 = .ok (.invokevirtual 576, 3) := by decide +kernel
theorem dX10_does_143 : decode prog_37_method_73_code 143 = .ok (.iconst 2, 1) := by decide +kernel
theorem dX10_does_144 : decode prog_37_method_73_code 144 = .ok (.if_icmp .ne 16, 3) := by decide +kernel
theorem dX10_does_147 : decode prog_37_method_73_code 147 = .ok (.aload_n 0, 1) := by decide +kernel
theorem dX10_does_148 : decode prog_37_method_73_code 148 = .ok (.bipush 7, 2) := by decide +kernel
theorem dX10_does_150 : decode prog_37_method_73_code 150 = .ok (.aload_n 0, 1) := by decide +kernel
theorem dX10_does_151 : decode prog_37_method_73_code 151 = .ok (.getfield 507, 3) := by decide +kernel
theorem dX10_does_154 : decode prog_37_method_73_code 154 = .ok (.invokevirtual 510, 3) := by decide +kernel
theorem dX10_does_157 : decode prog_37_method_73_code 157 = .ok (.goto 27, 3) := by decide +kernel
theorem dX10_does_160 : decode prog_37_method_73_code 160 = .ok (.aload_n 0, 1) := by decide +kernel
theorem dX10_does_161 : decode prog_37_method_73_code 161 = .ok (.aload_n 0, 1) := by decide +kernel
theorem dX10_does_162 : decode prog_37_method_73_code 162 = .ok (.aload_n 0, 1) := by decide +kernel
theorem dX10_does_163 : decode prog_37_method_73_code 163 = .ok (.getfield 124, 3) := by decide +kernel
theorem dX10_does_166 : decode prog_37_method_73_code 166 = .ok (.iload_n 1, 1) := by decide +kernel
theorem dX10_does_167 : decode prog_37_method_73_code 167 = .ok (.iaload, 1) := by decide +kernel
theorem dX10_does_168 : decode prog_37_method_73_code 168 = .ok (.invokevirtual 576, 3) := by decide +kernel
theorem dX10_does_171 : decode prog_37_method_73_code 171 = .ok (.aload_n 0, 1) := by decide +kernel
theorem dX10_does_172 : decode prog_37_method_73_code 172 = .ok (.aload_n 0, 1) := by decide +kernel
theorem dX10_does_173 : decode prog_37_method_73_code 173 = .ok (.getfield 124, 3) := by decide +kernel
theorem dX10_does_176 : decode prog_37_method_73_code 176 = .ok (.iload_n 1, 1) := by decide +kernel
theorem dX10_does_177 : decode prog_37_method_73_code 177 = .ok (.iaload, 1) := by decide +kernel
theorem dX10_does_178 : decode prog_37_method_73_code 178 = .ok (.invokevirtual 579, 3) := by decide +kernel
theorem dX10_does_181 : decode prog_37_method_73_code 181 = .ok (.invokevirtual 464, 3) := by decide +kernel
theorem dX10_does_184 : decode prog_37_method_73_code 184 = .ok (.return_, 1) := by decide +kernel
theorem dX10_does_185 : decode prog_37_method_73_code 185 = .ok (.aload_n 0, 1) := by decide +kernel
theorem dX10_does_186 : decode prog_37_method_73_code 186 = .ok (.invokevirtual 573, 3) := by decide +kernel
theorem dX10_does_189 : decode prog_37_method_73_code 189 = .ok (.aload_n 0, 1) := by decide +kernel
theorem dX10_does_190 : decode prog_37_method_73_code 190 = .ok (.getfield 498, 3) := by decide +kernel
theorem dX10_does_193 : decode prog_37_method_73_code 193 = .ok (.ifCond .ne 8, 3) := by decide +kernel
theorem dX10_does_196 : decode prog_37_method_73_code 196 = .ok (.aload_n 0, 1) := by decide +kernel
theorem dX10_does_197 : decode prog_37_method_73_code 197 = .ok (.iload_n 1, 1) := by decide +kernel
theorem dX10_does_198 : decode prog_37_method_73_code 198 = .ok (.invokevirtual 582, 3) := by decide +kernel
theorem dX10_does_201 : decode prog_37_method_73_code 201 = .ok (.return_, 1) := by decide +kernel
theorem dX10_does_202 : decode prog_37_method_73_code 202 = .ok (.aload_n 0, 1) := by decide +kernel
theorem dX10_does_203 : decode prog_37_method_73_code 203 = .ok (.iload_n 1, 1) := by decide +kernel
theorem dX10_does_204 : decode prog_37_method_73_code 204 = .ok (.invokevirtual 585, 3) := by decide +kernel
theorem dX10_does_207 : decode prog_37_method_73_code 207 = .ok (.return_, 1) := by decide +kernel
theorem dX10_does_208 : decode prog_37_method_73_code 208 = .ok (.aload_n 0, 1) := by decide +kernel
theorem dX10_does_209 : decode prog_37_method_73_code 209 = .ok (.dup, 1) := by decide +kernel
theorem dX10_does_210 : decode prog_37_method_73_code 210 = .ok (.getfield 461, 3) := by decide +kernel
theorem dX10_does_213 : decode prog_37_method_73_code 213 = .ok (.iconst 1, 1) := by decide +kernel
theorem dX10_does_214 : decode prog_37_method_73_code 214 = .ok (.isub, 1) := by decide +kernel
theorem dX10_does_215 : decode prog_37_method_73_code 215 = .ok (.putfield 461, 3) := by decide +kernel
theorem dX10_does_218 : decode prog_37_method_73_code 218 = .ok (.aload_n 0, 1) := by decide +kernel
theorem dX10_does_219 : decode prog_37_method_73_code 219 = .ok (.aload_n 0, 1) := by decide +kernel
theorem dX10_does_220 : decode prog_37_method_73_code 220 = .ok (.getfield 124, 3) := by decide +kernel
theorem dX10_does_223 : decode prog_37_method_73_code 223 = .ok (.iload_n 1, 1) := by decide +kernel
theorem dX10_does_224 : decode prog_37_method_73_code 224 = .ok (.iaload, 1) := by decide +kernel
theorem dX10_does_225 : decode prog_37_method_73_code 225 = .ok (.aload_n 0, 1) := by decide +kernel
theorem dX10_does_226 : decode prog_37_method_73_code 226 = .ok (.getfield 186, 3) := by decide +kernel
theorem dX10_does_229 : decode prog_37_method_73_code 229 = .ok (.aload_n 0, 1) := by decide +kernel
theorem dX10_does_230 : decode prog_37_method_73_code 230 = .ok (.getfield 461, 3) := by decide +kernel
theorem dX10_does_233 : decode prog_37_method_73_code 233 = .ok (.iaload, 1) := by decide +kernel
theorem dX10_does_234 : decode prog_37_method_73_code 234 = .ok (.aload_n 0, 1) := by decide +kernel
theorem dX10_does_235 : decode prog_37_method_73_code 235 = .ok (.getfield 189, 3) := by decide +kernel
theorem dX10_does_238 : decode prog_37_method_73_code 238 = .ok (.aload_n 0, 1) := by decide +kernel
theorem dX10_does_239 : decode prog_37_method_73_code 239 = .ok (.getfield 461, 3) := by decide +kernel
theorem dX10_does_242 : decode prog_37_method_73_code 242 = .ok (.iaload, 1) := by decide +kernel
theorem dX10_does_243 : decode prog_37_method_73_code 243 = .ok (.invokevirtual 549, 3) := by decide +kernel
theorem dX10_does_246 : decode prog_37_method_73_code 246 = .ok (.return_, 1) := by decide +kernel
theorem dX10_does_247 : decode prog_37_method_73_code 247 = .ok (.aload_n 0, 1) := by decide +kernel
theorem dX10_does_248 : decode prog_37_method_73_code 248 = .ok (.iload_n 1, 1) := by decide +kernel
theorem dX10_does_249 : decode prog_37_method_73_code 249 = .ok (.invokevirtual 588, 3) := by decide +kernel
theorem dX10_does_252 : decode prog_37_method_73_code 252 = .ok (.return_, 1) := by decide +kernel
theorem dX10_does_253 : decode prog_37_method_73_code 253 = .ok (.aload_n 0, 1) := by decide +kernel
theorem dX10_does_254 : decode prog_37_method_73_code 254 = .ok (.aload_n 0, 1) := by decide +kernel
theorem dX10_does_255 : decode prog_37_method_73_code 255 = .ok (.getfield 124, 3) := by decide +kernel
theorem dX10_does_258 : decode prog_37_method_73_code 258 = .ok (.iload_n 1, 1) := by decide +kernel
theorem dX10_does_259 : decode prog_37_method_73_code 259 = .ok (.iaload, 1) := by decide +kernel
theorem dX10_does_260 : decode prog_37_method_73_code 260 = .ok (.putfield 540, 3) := by decide +kernel
theorem dX10_does_263 : decode prog_37_method_73_code 263 = .ok (.return_, 1) := by decide +kernel
theorem dX10_does_264 : decode prog_37_method_73_code 264 = .ok (.aload_n 0, 1) := by decide +kernel
theorem dX10_does_265 : decode prog_37_method_73_code 265 = .ok (.iload_n 1, 1) := by decide +kernel
theorem dX10_does_266 : decode prog_37_method_73_code 266 = .ok (.invokevirtual 591, 3) := by decide +kernel
theorem dX10_does_269 : decode prog_37_method_73_code 269 = .ok (.return_, 1) := by decide +kernel
theorem dX10_does_270 : decode prog_37_method_73_code 270 = .ok (.aload_n 0, 1) := by decide +kernel
theorem dX10_does_271 : decode prog_37_method_73_code 271 = .ok (.dup, 1) := by decide +kernel
theorem dX10_does_272 : decode prog_37_method_73_code 272 = .ok (.getfield 461, 3) := by decide +kernel
theorem dX10_does_275 : decode prog_37_method_73_code 275 = .ok (.iconst 1, 1) := by decide +kernel
theorem dX10_does_276 : decode prog_37_method_73_code 276 = .ok (.isub, 1) := by decide +kernel
theorem dX10_does_277 : decode prog_37_method_73_code 277 = .ok (.putfield 461, 3) := by decide +kernel
theorem dX10_does_280 : decode prog_37_method_73_code 280 = .ok (.return_, 1) := by decide +kernel
theorem dX10_does_281 : decode prog_37_method_73_code 281 = .ok (.aload_n 0, 1) := by decide +kernel
theorem dX10_does_282 : decode prog_37_method_73_code 282 = .ok (.iconst 2, 1) := by decide +kernel
theorem dX10_does_283 : decode prog_37_method_73_code 283 = .ok (.aload_n 0, 1) := by decide +kernel
theorem dX10_does_284 : decode prog_37_method_73_code 284 = .ok (.getfield 124, 3) := by decide +kernel
theorem dX10_does_287 : decode prog_37_method_73_code 287 = .ok (.iload_n 1, 1) := by decide +kernel
theorem dX10_does_288 : decode prog_37_method_73_code 288 = .ok (.iaload, 1) := by decide +kernel
theorem dX10_does_289 : decode prog_37_method_73_code 289 = .ok (.aload_n 0, 1) := by decide +kernel
theorem dX10_does_290 : decode prog_37_method_73_code 290 = .ok (.getfield 507, 3) := by decide +kernel
theorem dX10_does_293 : decode prog_37_method_73_code 293 = .ok (.aload_n 0, 1) := by decide +kernel
theorem dX10_does_294 : decode prog_37_method_73_code 294 = .ok (.getfield 461, 3) := by decide +kernel
theorem dX10_does_297 : decode prog_37_method_73_code 297 = .ok (.invokevirtual 594, 3) := by decide +kernel
theorem dX10_does_300 : decode prog_37_method_73_code 300 = .ok (.aload_n 0, 1) := by decide +kernel
theorem dX10_does_301 : decode prog_37_method_73_code 301 = .ok (.getfield 237, 3) := by decide +kernel
theorem dX10_does_304 : decode prog_37_method_73_code 304 = .ok (.aload_n 0, 1) := by decide +kernel
theorem dX10_does_305 : decode prog_37_method_73_code 305 = .ok (.getfield 534, 3) := by decide +kernel
theorem dX10_does_308 : decode prog_37_method_73_code 308 = .ok (.iconst 1, 1) := by decide +kernel
theorem dX10_does_309 : decode prog_37_method_73_code 309 = .ok (.isub, 1) := by decide +kernel
theorem dX10_does_310 : decode prog_37_method_73_code 310 = .ok (.aload_n 0, 1) := by decide +kernel
theorem dX10_does_311 : decode prog_37_method_73_code 311 = .ok (.getfield 127, 3) := by decide +kernel
theorem dX10_does_314 : decode prog_37_method_73_code 314 = .ok (.iload_n 1, 1) := by decide +kernel
theorem dX10_does_315 : decode prog_37_method_73_code 315 = .ok (.iaload, 1) := by decide +kernel
theorem dX10_does_316 : decode prog_37_method_73_code 316 = .ok (.iastore, 1) := by decide +kernel
theorem dX10_does_317 : decode prog_37_method_73_code 317 = .ok (.return_, 1) := by decide +kernel
theorem dX10_does_318 : decode prog_37_method_73_code 318 = .ok (.aload_n 0, 1) := by decide +kernel
theorem dX10_does_319 : decode prog_37_method_73_code 319 = .ok (.dup, 1) := by decide +kernel
theorem dX10_does_320 : decode prog_37_method_73_code 320 = .ok (.getfield 534, 3) := by decide +kernel
theorem dX10_does_323 : decode prog_37_method_73_code 323 = .ok (.iconst 1, 1) := by decide +kernel
theorem dX10_does_324 : decode prog_37_method_73_code 324 = .ok (.isub, 1) := by decide +kernel
theorem dX10_does_325 : decode prog_37_method_73_code 325 = .ok (.putfield 534, 3) := by decide +kernel
theorem dX10_does_328 : decode prog_37_method_73_code 328 = .ok (.aload_n 0, 1) := by decide +kernel
theorem dX10_does_329 : decode prog_37_method_73_code 329 = .ok (.aload_n 0, 1) := by decide +kernel
theorem dX10_does_330 : decode prog_37_method_73_code 330 = .ok (.getfield 124, 3) := by decide +kernel
theorem dX10_does_333 : decode prog_37_method_73_code 333 = .ok (.iload_n 1, 1) := by decide +kernel
theorem dX10_does_334 : decode prog_37_method_73_code 334 = .ok (.iaload, 1) := by decide +kernel
theorem dX10_does_335 : decode prog_37_method_73_code 335 = .ok (.putfield 540, 3) := by decide +kernel
theorem dX10_does_338 : decode prog_37_method_73_code 338 = .ok (.return_, 1) := by decide +kernel
theorem dX10_does_339 : decode prog_37_method_73_code 339 = .ok (.aload_n 0, 1) := by decide +kernel
theorem dX10_does_340 : decode prog_37_method_73_code 340 = .ok (.dup, 1) := by decide +kernel
theorem dX10_does_341 : decode prog_37_method_73_code 341 = .ok (.getfield 461, 3) := by decide +kernel
theorem dX10_does_344 : decode prog_37_method_73_code 344 = .ok (.iconst 1, 1) := by decide +kernel
theorem dX10_does_345 : decode prog_37_method_73_code 345 = .ok (.isub, 1) := by decide +kernel
theorem dX10_does_346 : decode prog_37_method_73_code 346 = .ok (.putfield 461, 3) := by decide +kernel
theorem dX10_does_349 : decode prog_37_method_73_code 349 = .ok (.aload_n 0, 1) := by decide +kernel
theorem dX10_does_350 : decode prog_37_method_73_code 350 = .ok (.iload_n 1, 1) := by decide +kernel
theorem dX10_does_351 : decode prog_37_method_73_code 351 = .ok (.invokevirtual 598, 3) := by decide +kernel
theorem dX10_does_354 : decode prog_37_method_73_code 354 = .ok (.return_, 1) := by decide +kernel
theorem dX10_step_0 : decode prog_37_method_61_code 0 = .ok (.aload_n 0, 1) := by decide +kernel
theorem dX10_step_1 : decode prog_37_method_61_code 1 = .ok (.getfield 501, 3) := by decide +kernel
theorem dX10_step_4 : decode prog_37_method_61_code 4 = .ok (.aload_n 0, 1) := by decide +kernel
theorem dX10_step_5 : decode prog_37_method_61_code 5 = .ok (.getfield 504, 3) := by decide +kernel
theorem dX10_step_8 : decode prog_37_method_61_code 8 = .ok (.if_icmp .ne 16, 3) := by decide +kernel
theorem dX10_step_11 : decode prog_37_method_61_code 11 = .ok (.aload_n 0, 1) := by decide +kernel
theorem dX10_step_12 : decode prog_37_method_61_code 12 = .ok (.bipush 10, 2) := by decide +kernel
theorem dX10_step_14 : decode prog_37_method_61_code 14 = .ok (.aload_n 0, 1) := by decide +kernel
theorem dX10_step_15 : decode prog_37_method_61_code 15 = .ok (.getfield 507, 3) := by decide +kernel
theorem dX10_step_18 : decode prog_37_method_61_code 18 = .ok (.invokevirtual 510, 3) := by decide +kernel
theorem dX10_step_21 : decode prog_37_method_61_code 21 = .ok (.goto 13, 3) := by decide +kernel
theorem dX10_step_24 : decode prog_37_method_61_code 24 = .ok (.aload_n 0, 1) := by decide +kernel
theorem dX10_step_25 : decode prog_37_method_61_code 25 = .ok (.dup, 1) := by decide +kernel
theorem dX10_step_26 : decode prog_37_method_61_code 26 = .ok (.getfield 501, 3) := by decide +kernel
theorem dX10_step_29 : decode prog_37_method_61_code 29 = .ok (.iconst 1, 1) := by decide +kernel
theorem dX10_step_30 : decode prog_37_method_61_code 30 = .ok (.iadd, 1) := by decide +kernel
theorem dX10_step_31 : decode prog_37_method_61_code 31 = .ok (.putfield 501, 3) := by decide +kernel
theorem dX10_step_34 : decode prog_37_method_61_code 34 = .ok (.return_, 1) := by decide +kernel
theorem dX10_push_0 : decode prog_37_method_47_code 0 = .ok (.aload_n 0, 1) := by decide +kernel
theorem dX10_push_1 : decode prog_37_method_47_code 1 = .ok (.getfield 186, 3) := by decide +kernel
theorem dX10_push_4 : decode prog_37_method_47_code 4 = .ok (.aload_n 0, 1) := by decide +kernel
theorem dX10_push_5 : decode prog_37_method_47_code 5 = .ok (.getfield 461, 3) := by decide +kernel
theorem dX10_push_8 : decode prog_37_method_47_code 8 = .ok (.iload_n 1, 1) := by decide +kernel
theorem dX10_push_9 : decode prog_37_method_47_code 9 = .ok (.iastore, 1) := by decide +kernel
theorem dX10_push_10 : decode prog_37_method_47_code 10 = .ok (.aload_n 0, 1) := by decide +kernel
theorem dX10_push_11 : decode prog_37_method_47_code 11 = .ok (.getfield 189, 3) := by decide +kernel
theorem dX10_push_14 : decode prog_37_method_47_code 14 = .ok (.aload_n 0, 1) := by decide +kernel
theorem dX10_push_15 : decode prog_37_method_47_code 15 = .ok (.getfield 461, 3) := by decide +kernel
theorem dX10_push_18 : decode prog_37_method_47_code 18 = .ok (.iload_n 2, 1) := by decide +kernel
theorem dX10_push_19 : decode prog_37_method_47_code 19 = .ok (.iastore, 1) := by decide +kernel
theorem dX10_push_20 : decode prog_37_method_47_code 20 = .ok (.aload_n 0, 1) := by decide +kernel
theorem dX10_push_21 : decode prog_37_method_47_code 21 = .ok (.dup, 1) := by decide +kernel
theorem dX10_push_22 : decode prog_37_method_47_code 22 = .ok (.getfield 461, 3) := by decide +kernel
theorem dX10_push_25 : decode prog_37_method_47_code 25 = .ok (.iconst 1, 1) := by decide +kernel
theorem dX10_push_26 : decode prog_37_method_47_code 26 = .ok (.iadd, 1) := by decide +kernel
theorem dX10_push_27 : decode prog_37_method_47_code 27 = .ok (.putfield 461, 3) := by decide +kernel
theorem dX10_push_30 : decode prog_37_method_47_code 30 = .ok (.return_, 1) := by decide +kernel
theorem dX10_kindOf_0 : decode prog_37_method_67_code 0 = .ok (.iload_n 1, 1) := by decide +kernel
theorem dX10_kindOf_1 : decode prog_37_method_67_code 1 = .ok (.bipush 8, 2) := by decide +kernel
theorem dX10_kindOf_3 : decode prog_37_method_67_code 3 = .ok (.if_icmp .ge 12, 3) := by decide +kernel
theorem dX10_kindOf_6 : decode prog_37_method_67_code 6 = .ok (.aload_n 0, 1) := by decide +kernel
theorem dX10_kindOf_7 : decode prog_37_method_67_code 7 = .ok (.getfield 210, 3) := by decide +kernel
theorem dX10_kindOf_10 : decode prog_37_method_67_code 10 = .ok (.iload_n 1, 1) := by decide +kernel
theorem dX10_kindOf_11 : decode prog_37_method_67_code 11 = .ok (.iaload, 1) := by decide +kernel
theorem dX10_kindOf_12 : decode prog_37_method_67_code 12 = .ok (.goto 22, 3) := by decide +kernel
theorem dX10_kindOf_15 : decode prog_37_method_67_code 15 = .ok (.aload_n 0, 1) := by decide +kernel
theorem dX10_kindOf_16 : decode prog_37_method_67_code 16 = .ok (.getfield 225, 3) := by decide +kernel
theorem dX10_kindOf_19 : decode prog_37_method_67_code 19 = .ok (.bipush 14, 2) := by decide +kernel
theorem dX10_kindOf_21 : decode prog_37_method_67_code 21 = .ok (.aload_n 0, 1) := by decide +kernel
theorem dX10_kindOf_22 : decode prog_37_method_67_code 22 = .ok (.getfield 531, 3) := by decide +kernel
theorem dX10_kindOf_25 : decode prog_37_method_67_code 25 = .ok (.iconst 1, 1) := by decide +kernel
theorem dX10_kindOf_26 : decode prog_37_method_67_code 26 = .ok (.isub, 1) := by decide +kernel
theorem dX10_kindOf_27 : decode prog_37_method_67_code 27 = .ok (.imul, 1) := by decide +kernel
theorem dX10_kindOf_28 : decode prog_37_method_67_code 28 = .ok (.iload_n 1, 1) := by decide +kernel
theorem dX10_kindOf_29 : decode prog_37_method_67_code 29 = .ok (.iadd, 1) := by decide +kernel
theorem dX10_kindOf_30 : decode prog_37_method_67_code 30 = .ok (.bipush 8, 2) := by decide +kernel
theorem dX10_kindOf_32 : decode prog_37_method_67_code 32 = .ok (.isub, 1) := by decide +kernel
theorem dX10_kindOf_33 : decode prog_37_method_67_code 33 = .ok (.iaload, 1) := by decide +kernel
theorem dX10_kindOf_34 : decode prog_37_method_67_code 34 = .ok (.ireturn, 1) := by decide +kernel
theorem dX10_valueOf_0 : decode prog_37_method_68_code 0 = .ok (.iload_n 1, 1) := by decide +kernel
theorem dX10_valueOf_1 : decode prog_37_method_68_code 1 = .ok (.bipush 8, 2) := by decide +kernel
theorem dX10_valueOf_3 : decode prog_37_method_68_code 3 = .ok (.if_icmp .ge 12, 3) := by decide +kernel
theorem dX10_valueOf_6 : decode prog_37_method_68_code 6 = .ok (.aload_n 0, 1) := by decide +kernel
theorem dX10_valueOf_7 : decode prog_37_method_68_code 7 = .ok (.getfield 213, 3) := by decide +kernel
theorem dX10_valueOf_10 : decode prog_37_method_68_code 10 = .ok (.iload_n 1, 1) := by decide +kernel
theorem dX10_valueOf_11 : decode prog_37_method_68_code 11 = .ok (.iaload, 1) := by decide +kernel
theorem dX10_valueOf_12 : decode prog_37_method_68_code 12 = .ok (.goto 22, 3) := by decide +kernel
theorem dX10_valueOf_15 : decode prog_37_method_68_code 15 = .ok (.aload_n 0, 1) := by decide +kernel
theorem dX10_valueOf_16 : decode prog_37_method_68_code 16 = .ok (.getfield 228, 3) := by decide +kernel
theorem dX10_valueOf_19 : decode prog_37_method_68_code 19 = .ok (.bipush 14, 2) := by decide +kernel
theorem dX10_valueOf_21 : decode prog_37_method_68_code 21 = .ok (.aload_n 0, 1) := by decide +kernel
theorem dX10_valueOf_22 : decode prog_37_method_68_code 22 = .ok (.getfield 531, 3) := by decide +kernel
theorem dX10_valueOf_25 : decode prog_37_method_68_code 25 = .ok (.iconst 1, 1) := by decide +kernel
theorem dX10_valueOf_26 : decode prog_37_method_68_code 26 = .ok (.isub, 1) := by decide +kernel
theorem dX10_valueOf_27 : decode prog_37_method_68_code 27 = .ok (.imul, 1) := by decide +kernel
theorem dX10_valueOf_28 : decode prog_37_method_68_code 28 = .ok (.iload_n 1, 1) := by decide +kernel
theorem dX10_valueOf_29 : decode prog_37_method_68_code 29 = .ok (.iadd, 1) := by decide +kernel
theorem dX10_valueOf_30 : decode prog_37_method_68_code 30 = .ok (.bipush 8, 2) := by decide +kernel
theorem dX10_valueOf_32 : decode prog_37_method_68_code 32 = .ok (.isub, 1) := by decide +kernel
theorem dX10_valueOf_33 : decode prog_37_method_68_code 33 = .ok (.iaload, 1) := by decide +kernel
theorem dX10_valueOf_34 : decode prog_37_method_68_code 34 = .ok (.ireturn, 1) := by decide +kernel
theorem dX10_works_0 : decode prog_37_method_76_code 0 = .ok (.aload_n 0, 1) := by decide +kernel
theorem dX10_works_1 : decode prog_37_method_76_code 1 = .ok (.getfield 121, 3) := by decide +kernel
theorem dX10_works_4 : decode prog_37_method_76_code 4 = .ok (.iload_n 1, 1) := by decide +kernel
theorem dX10_works_5 : decode prog_37_method_76_code 5 = .ok (.iaload, 1) := by decide +kernel
theorem dX10_works_6 : decode prog_37_method_76_code 6 = .ok (.tableswitch 124 4 9 #[38, 49, 60, 76, 81, 103], 38) := by decide +kernel
theorem dX10_works_44 : decode prog_37_method_76_code 44 = .ok (.aload_n 0, 1) := by decide +kernel
theorem dX10_works_45 : decode prog_37_method_76_code 45 = .ok (.aload_n 0, 1) := by decide +kernel
theorem dX10_works_46 : decode prog_37_method_76_code 46 = .ok (.getfield 124, 3) := by decide +kernel
theorem dX10_works_49 : decode prog_37_method_76_code 49 = .ok (.iload_n 1, 1) := by decide +kernel
theorem dX10_works_50 : decode prog_37_method_76_code 50 = .ok (.iaload, 1) := by decide +kernel
theorem dX10_works_51 : decode prog_37_method_76_code 51 = .ok (.invokevirtual 613, 3) := by decide +kernel
theorem dX10_works_54 : decode prog_37_method_76_code 54 = .ok (.return_, 1) := by decide +kernel
theorem dX10_works_55 : decode prog_37_method_76_code 55 = .ok (.aload_n 0, 1) := by decide +kernel
theorem dX10_works_56 : decode prog_37_method_76_code 56 = .ok (.aload_n 0, 1) := by decide +kernel
theorem dX10_works_57 : decode prog_37_method_76_code 57 = .ok (.getfield 124, 3) := by decide +kernel
theorem dX10_works_60 : decode prog_37_method_76_code 60 = .ok (.iload_n 1, 1) := by decide +kernel
theorem dX10_works_61 : decode prog_37_method_76_code 61 = .ok (.iaload, 1) := by decide +kernel
theorem dX10_works_62 : decode prog_37_method_76_code 62 = .ok (.invokevirtual 616, 3) := by decide +kernel
theorem dX10_works_65 : decode prog_37_method_76_code 65 = .ok (.return_, 1) := by decide +kernel
theorem dX10_works_66 : decode prog_37_method_76_code 66 = .ok (.aload_n 0, 1) := by decide +kernel
theorem dX10_works_67 : decode prog_37_method_76_code 67 = .ok (.aload_n 0, 1) := by decide +kernel
theorem dX10_works_68 : decode prog_37_method_76_code 68 = .ok (.getfield 461, 3) := by decide +kernel
theorem dX10_works_71 : decode prog_37_method_76_code 71 = .ok (.aload_n 0, 1) := by decide +kernel
theorem dX10_works_72 : decode prog_37_method_76_code 72 = .ok (.getfield 124, 3) := by decide +kernel
theorem dX10_works_75 : decode prog_37_method_76_code 75 = .ok (.iload_n 1, 1) := by decide +kernel
theorem dX10_works_76 : decode prog_37_method_76_code 76 = .ok (.iaload, 1) := by decide +kernel
theorem dX10_works_77 : decode prog_37_method_76_code 77 = .ok (.isub, 1) := by decide +kernel
theorem dX10_works_78 : decode prog_37_method_76_code 78 = .ok (.invokevirtual 619, 3) := by decide +kernel
theorem dX10_works_81 : decode prog_37_method_76_code 81 = .ok (.return_, 1) := by decide +kernel
theorem dX10_works_82 : decode prog_37_method_76_code 82 = .ok (.aload_n 0, 1) := by decide +kernel
theorem dX10_works_83 : decode prog_37_method_76_code 83 = .ok (.invokevirtual 622, 3) := by decide +kernel
theorem dX10_works_86 : decode prog_37_method_76_code 86 = .ok (.return_, 1) := by decide +kernel
theorem dX10_works_87 : decode prog_37_method_76_code 87 = .ok (.aload_n 0, 1) := by decide +kernel
theorem dX10_works_88 : decode prog_37_method_76_code 88 = .ok (.aload_n 0, 1) := by decide +kernel
theorem dX10_works_89 : decode prog_37_method_76_code 89 = .ok (.getfield 124, 3) := by decide +kernel
theorem dX10_works_92 : decode prog_37_method_76_code 92 = .ok (.iload_n 1, 1) := by decide +kernel
theorem dX10_works_93 : decode prog_37_method_76_code 93 = .ok (.iaload, 1) := by decide +kernel
theorem dX10_works_94 : decode prog_37_method_76_code 94 = .ok (.aload_n 0, 1) := by decide +kernel
theorem dX10_works_95 : decode prog_37_method_76_code 95 = .ok (.getfield 461, 3) := by decide +kernel
theorem dX10_works_98 : decode prog_37_method_76_code 98 = .ok (.aload_n 0, 1) := by decide +kernel
theorem dX10_works_99 : decode prog_37_method_76_code 99 = .ok (.getfield 127, 3) := by decide +kernel
theorem dX10_works_102 : decode prog_37_method_76_code 102 = .ok (.iload_n 1, 1) := by decide +kernel
theorem dX10_works_103 : decode prog_37_method_76_code 103 = .ok (.iaload, 1) := by decide +kernel
theorem dX10_works_104 : decode prog_37_method_76_code 104 = .ok (.isub, 1) := by decide +kernel
theorem dX10_works_105 : decode prog_37_method_76_code 105 = .ok (.invokevirtual 625, 3) := by decide +kernel
theorem dX10_works_108 : decode prog_37_method_76_code 108 = .ok (.return_, 1) := by decide +kernel
theorem dX10_works_109 : decode prog_37_method_76_code 109 = .ok (.aload_n 0, 1) := by decide +kernel
theorem dX10_works_110 : decode prog_37_method_76_code 110 = .ok (.aload_n 0, 1) := by decide +kernel
theorem dX10_works_111 : decode prog_37_method_76_code 111 = .ok (.getfield 124, 3) := by decide +kernel
theorem dX10_works_114 : decode prog_37_method_76_code 114 = .ok (.iload_n 1, 1) := by decide +kernel
theorem dX10_works_115 : decode prog_37_method_76_code 115 = .ok (.iaload, 1) := by decide +kernel
theorem dX10_works_116 : decode prog_37_method_76_code 116 = .ok (.aload_n 0, 1) := by decide +kernel
theorem dX10_works_117 : decode prog_37_method_76_code 117 = .ok (.getfield 127, 3) := by decide +kernel
theorem dX10_works_120 : decode prog_37_method_76_code 120 = .ok (.iload_n 1, 1) := by decide +kernel
theorem dX10_works_121 : decode prog_37_method_76_code 121 = .ok (.iaload, 1) := by decide +kernel
theorem dX10_works_122 : decode prog_37_method_76_code 122 = .ok (.aload_n 0, 1) := by decide +kernel
theorem dX10_works_123 : decode prog_37_method_76_code 123 = .ok (.getfield 540, 3) := by decide +kernel
theorem dX10_works_126 : decode prog_37_method_76_code 126 = .ok (.invokevirtual 561, 3) := by decide +kernel
theorem dX10_works_129 : decode prog_37_method_76_code 129 = .ok (.return_, 1) := by decide +kernel
theorem dX10_works_130 : decode prog_37_method_76_code 130 = .ok (.aload_n 0, 1) := by decide +kernel
theorem dX10_works_131 : decode prog_37_method_76_code 131 = .ok (.getfield 186, 3) := by decide +kernel
theorem dX10_works_134 : decode prog_37_method_76_code 134 = .ok (.aload_n 0, 1) := by decide +kernel
theorem dX10_works_135 : decode prog_37_method_76_code 135 = .ok (.getfield 461, 3) := by decide +kernel
theorem dX10_works_138 : decode prog_37_method_76_code 138 = .ok (.iconst 1, 1) := by decide +kernel
theorem dX10_works_139 : decode prog_37_method_76_code 139 = .ok (.isub, 1) := by decide +kernel
theorem dX10_works_140 : decode prog_37_method_76_code 140 = .ok (.iaload, 1) := by decide +kernel
theorem dX10_works_141 : decode prog_37_method_76_code 141 = .ok (.ifCond .ne 13, 3) := by decide +kernel
theorem dX10_works_144 : decode prog_37_method_76_code 144 = .ok (.aload_n 0, 1) := by decide +kernel
theorem dX10_works_145 : decode prog_37_method_76_code 145 = .ok (.iconst 3, 1) := by decide +kernel
theorem dX10_works_146 : decode prog_37_method_76_code 146 = .ok (.aload_n 0, 1) := by decide +kernel
theorem dX10_works_147 : decode prog_37_method_76_code 147 = .ok (.getfield 507, 3) := by decide +kernel
theorem dX10_works_150 : decode prog_37_method_76_code 150 = .ok (.invokevirtual 510, 3) := by decide +kernel
theorem dX10_works_153 : decode prog_37_method_76_code 153 = .ok (.return_, 1) := by decide +kernel
theorem dX10_works_154 : decode prog_37_method_76_code 154 = .ok (.aload_n 0, 1) := by decide +kernel
theorem dX10_works_155 : decode prog_37_method_76_code 155 = .ok (.dup, 1) := by decide +kernel
theorem dX10_works_156 : decode prog_37_method_76_code 156 = .ok (.getfield 461, 3) := by decide +kernel
theorem dX10_works_159 : decode prog_37_method_76_code 159 = .ok (.iconst 1, 1) := by decide +kernel
theorem dX10_works_160 : decode prog_37_method_76_code 160 = .ok (.isub, 1) := by decide +kernel
theorem dX10_works_161 : decode prog_37_method_76_code 161 = .ok (.putfield 461, 3) := by decide +kernel
theorem dX10_works_164 : decode prog_37_method_76_code 164 = .ok (.aload_n 0, 1) := by decide +kernel
theorem dX10_works_165 : decode prog_37_method_76_code 165 = .ok (.aload_n 0, 1) := by decide +kernel
theorem dX10_works_166 : decode prog_37_method_76_code 166 = .ok (.getfield 124, 3) := by decide +kernel
theorem dX10_works_169 : decode prog_37_method_76_code 169 = .ok (.iload_n 1, 1) := by decide +kernel
theorem dX10_works_170 : decode prog_37_method_76_code 170 = .ok (.iaload, 1) := by decide +kernel
theorem dX10_works_171 : decode prog_37_method_76_code 171 = .ok (.bipush 28, 2) := by decide +kernel
theorem dX10_works_173 : decode prog_37_method_76_code 173 = .ok (.if_icmp .ne 7, 3) := by decide +kernel
theorem dX10_works_176 : decode prog_37_method_76_code 176 = .ok (.iconst 3, 1) := by decide +kernel
theorem dX10_works_177 : decode prog_37_method_76_code 177 = .ok (.goto 4, 3) := by decide +kernel
theorem dX10_works_180 : decode prog_37_method_76_code 180 = .ok (.iconst 4, 1) := by decide +kernel
theorem dX10_works_181 : decode prog_37_method_76_code 181 = .ok (.aload_n 0, 1) := by decide +kernel
theorem dX10_works_182 : decode prog_37_method_76_code 182 = .ok (.getfield 189, 3) := by decide +kernel
theorem dX10_works_185 : decode prog_37_method_76_code 185 = .ok (.aload_n 0, 1) := by decide +kernel
theorem dX10_works_186 : decode prog_37_method_76_code 186 = .ok (.getfield 461, 3) := by decide +kernel
theorem dX10_works_189 : decode prog_37_method_76_code 189 = .ok (.iaload, 1) := by decide +kernel
theorem dX10_works_190 : decode prog_37_method_76_code 190 = .ok (.aload_n 0, 1) := by decide +kernel
theorem dX10_works_191 : decode prog_37_method_76_code 191 = .ok (.aload_n 0, 1) := by decide +kernel
theorem dX10_works_192 : decode prog_37_method_76_code 192 = .ok (.getfield 189, 3) := by decide +kernel
theorem dX10_works_195 : decode prog_37_method_76_code 195 = .ok (.aload_n 0, 1) := by decide +kernel
theorem dX10_works_196 : decode prog_37_method_76_code 196 = .ok (.getfield 461, 3) := by decide +kernel
theorem dX10_works_199 : decode prog_37_method_76_code 199 = .ok (.iaload, 1) := by decide +kernel
theorem dX10_works_200 : decode prog_37_method_76_code 200 = .ok (.invokevirtual 477, 3) := by decide +kernel
theorem dX10_works_203 : decode prog_37_method_76_code 203 = .ok (.aload_n 0, 1) := by decide +kernel
theorem dX10_works_204 : decode prog_37_method_76_code 204 = .ok (.getfield 461, 3) := by decide +kernel
theorem dX10_works_207 : decode prog_37_method_76_code 207 = .ok (.invokevirtual 594, 3) := by decide +kernel
theorem dX10_works_210 : decode prog_37_method_76_code 210 = .ok (.return_, 1) := by decide +kernel
theorem dX10_one_0 : decode prog_37_method_83_code 0 = .ok (.aload_n 0, 1) := by decide +kernel
theorem dX10_one_1 : decode prog_37_method_83_code 1 = .ok (.aload_n 0, 1) := by decide +kernel
theorem dX10_one_2 : decode prog_37_method_83_code 2 = .ok (.getfield 461, 3) := by decide +kernel
theorem dX10_one_5 : decode prog_37_method_83_code 5 = .ok (.iconst 1, 1) := by decide +kernel
theorem dX10_one_6 : decode prog_37_method_83_code 6 = .ok (.isub, 1) := by decide +kernel
theorem dX10_one_7 : decode prog_37_method_83_code 7 = .ok (.invokevirtual 631, 3) := by decide +kernel
theorem dX10_one_10 : decode prog_37_method_83_code 10 = .ok (.istore_n 2, 1) := by decide +kernel
theorem dX10_one_11 : decode prog_37_method_83_code 11 = .ok (.aload_n 0, 1) := by decide +kernel
theorem dX10_one_12 : decode prog_37_method_83_code 12 = .ok (.dup, 1) := by decide +kernel
theorem dX10_one_13 : decode prog_37_method_83_code 13 = .ok (.getfield 461, 3) := by decide +kernel
theorem dX10_one_16 : decode prog_37_method_83_code 16 = .ok (.iconst 1, 1) := by decide +kernel
theorem dX10_one_17 : decode prog_37_method_83_code 17 = .ok (.isub, 1) := by decide +kernel
theorem dX10_one_18 : decode prog_37_method_83_code 18 = .ok (.putfield 461, 3) := by decide +kernel
theorem dX10_one_21 : decode prog_37_method_83_code 21 = .ok (.aload_n 0, 1) := by decide +kernel
theorem dX10_one_22 : decode prog_37_method_83_code 22 = .ok (.getfield 189, 3) := by decide +kernel
theorem dX10_one_25 : decode prog_37_method_83_code 25 = .ok (.aload_n 0, 1) := by decide +kernel
theorem dX10_one_26 : decode prog_37_method_83_code 26 = .ok (.getfield 461, 3) := by decide +kernel
theorem dX10_one_29 : decode prog_37_method_83_code 29 = .ok (.iaload, 1) := by decide +kernel
theorem dX10_one_30 : decode prog_37_method_83_code 30 = .ok (.istore_n 3, 1) := by decide +kernel
theorem dX10_one_31 : decode prog_37_method_83_code 31 = .ok (.aload_n 0, 1) := by decide +kernel
theorem dX10_one_32 : decode prog_37_method_83_code 32 = .ok (.getfield 461, 3) := by decide +kernel
theorem dX10_one_35 : decode prog_37_method_83_code 35 = .ok (.istore 4, 2) := by decide +kernel
theorem dX10_one_37 : decode prog_37_method_83_code 37 = .ok (.iload_n 2, 1) := by decide +kernel
theorem dX10_one_38 : decode prog_37_method_83_code 38 = .ok (.iconst 3, 1) := by decide +kernel
theorem dX10_one_39 : decode prog_37_method_83_code 39 = .ok (.if_icmp .ne 15, 3) := by decide +kernel
theorem dX10_one_42 : decode prog_37_method_83_code 42 = .ok (.aload_n 0, 1) := by decide +kernel
theorem dX10_one_43 : decode prog_37_method_83_code 43 = .ok (.iconst 3, 1) := by decide +kernel
theorem dX10_one_44 : decode prog_37_method_83_code 44 = .ok (.aload_n 0, 1) := by decide +kernel
theorem dX10_one_45 : decode prog_37_method_83_code 45 = .ok (.getfield 507, 3) := by decide +kernel
theorem dX10_one_48 : decode prog_37_method_83_code 48 = .ok (.invokevirtual 510, 3) := by decide +kernel
theorem dX10_one_51 : decode prog_37_method_83_code 51 = .ok (.goto 162, 3) := by decide +kernel
theorem dX10_one_54 : decode prog_37_method_83_code 54 = .ok (.iload_n 2, 1) := by decide +kernel
theorem dX10_one_55 : decode prog_37_method_83_code 55 = .ok (.ifCond .ne 16, 3) := by decide +kernel
theorem dX10_one_58 : decode prog_37_method_83_code 58 = .ok (.aload_n 0, 1) := by decide +kernel
theorem dX10_one_59 : decode prog_37_method_83_code 59 = .ok (.iconst 0, 1) := by decide +kernel
theorem dX10_one_60 : decode prog_37_method_83_code 60 = .ok (.iload_n 1, 1) := by decide +kernel
theorem dX10_one_61 : decode prog_37_method_83_code 61 = .ok (.iload_n 3, 1) := by decide +kernel
theorem dX10_one_62 : decode prog_37_method_83_code 62 = .ok (.invokestatic 644, 3) := by decide +kernel
theorem dX10_one_65 : decode prog_37_method_83_code 65 = .ok (.invokevirtual 464, 3) := by decide +kernel
theorem dX10_one_68 : decode prog_37_method_83_code 68 = .ok (.goto 145, 3) := by decide +kernel
theorem dX10_one_71 : decode prog_37_method_83_code 71 = .ok (.iload_n 2, 1) := by decide +kernel
theorem dX10_one_72 : decode prog_37_method_83_code 72 = .ok (.iconst 1, 1) := by decide +kernel
theorem dX10_one_73 : decode prog_37_method_83_code 73 = .ok (.if_icmp .ne 52, 3) := by decide +kernel
theorem dX10_one_76 : decode prog_37_method_83_code 76 = .ok (.iconst 0, 1) := by decide +kernel
theorem dX10_one_77 : decode prog_37_method_83_code 77 = .ok (.istore 5, 2) := by decide +kernel
theorem dX10_one_79 : decode prog_37_method_83_code 79 = .ok (.iload 5, 2) := by decide +kernel
theorem dX10_one_81 : decode prog_37_method_83_code 81 = .ok (.aload_n 0, 1) := by decide +kernel
theorem dX10_one_82 : decode prog_37_method_83_code 82 = .ok (.iload_n 3, 1) := by decide +kernel
theorem dX10_one_83 : decode prog_37_method_83_code 83 = .ok (.invokevirtual 477, 3) := by decide +kernel
theorem dX10_one_86 : decode prog_37_method_83_code 86 = .ok (.if_icmp .ge 29, 3) := by decide +kernel
theorem dX10_one_89 : decode prog_37_method_83_code 89 = .ok (.aload_n 0, 1) := by decide +kernel
theorem dX10_one_90 : decode prog_37_method_83_code 90 = .ok (.iconst 0, 1) := by decide +kernel
theorem dX10_one_91 : decode prog_37_method_83_code 91 = .ok (.iload_n 1, 1) := by decide +kernel
theorem dX10_one_92 : decode prog_37_method_83_code 92 = .ok (.aload_n 0, 1) := by decide +kernel
theorem dX10_one_93 : decode prog_37_method_83_code 93 = .ok (.getfield 183, 3) := by decide +kernel
theorem dX10_one_96 : decode prog_37_method_83_code 96 = .ok (.iload_n 3, 1) := by decide +kernel
theorem dX10_one_97 : decode prog_37_method_83_code 97 = .ok (.iconst 2, 1) := by decide +kernel
theorem dX10_one_98 : decode prog_37_method_83_code 98 = .ok (.iadd, 1) := by decide +kernel
theorem dX10_one_99 : decode prog_37_method_83_code 99 = .ok (.iload 5, 2) := by decide +kernel
theorem dX10_one_101 : decode prog_37_method_83_code 101 = .ok (.iadd, 1) := by decide +kernel
theorem dX10_one_102 : decode prog_37_method_83_code 102 = .ok (.iaload, 1) := by decide +kernel
theorem dX10_one_103 : decode prog_37_method_83_code 103 = .ok (.invokestatic 644, 3) := by decide +kernel
theorem dX10_one_106 : decode prog_37_method_83_code 106 = .ok (.invokevirtual 464, 3) := by decide +kernel
theorem dX10_one_109 : decode prog_37_method_83_code 109 = .ok (.iinc 5 1, 3) := by decide +kernel
theorem dX10_one_112 : decode prog_37_method_83_code 112 = .ok (.goto (-33), 3) := by decide +kernel
theorem dX10_one_115 : decode prog_37_method_83_code 115 = .ok (.aload_n 0, 1) := by decide +kernel
theorem dX10_one_116 : decode prog_37_method_83_code 116 = .ok (.iconst 1, 1) := by decide +kernel
theorem dX10_one_117 : decode prog_37_method_83_code 117 = .ok (.iload 4, 2) := by decide +kernel
theorem dX10_one_119 : decode prog_37_method_83_code 119 = .ok (.invokevirtual 628, 3) := by decide +kernel
theorem dX10_one_122 : decode prog_37_method_83_code 122 = .ok (.goto 91, 3) := by decide +kernel
theorem dX10_one_125 : decode prog_37_method_83_code 125 = .ok (.iconst 0, 1) := by decide +kernel
theorem dX10_one_126 : decode prog_37_method_83_code 126 = .ok (.istore 5, 2) := by decide +kernel
theorem dX10_one_128 : decode prog_37_method_83_code 128 = .ok (.iload 5, 2) := by decide +kernel
theorem dX10_one_130 : decode prog_37_method_83_code 130 = .ok (.aload_n 0, 1) := by decide +kernel
theorem dX10_one_131 : decode prog_37_method_83_code 131 = .ok (.iload_n 3, 1) := by decide +kernel
theorem dX10_one_132 : decode prog_37_method_83_code 132 = .ok (.invokevirtual 477, 3) := by decide +kernel
theorem dX10_one_135 : decode prog_37_method_83_code 135 = .ok (.if_icmp .ge 71, 3) := by decide +kernel
theorem dX10_one_138 : decode prog_37_method_83_code 138 = .ok (.aload_n 0, 1) := by decide +kernel
theorem dX10_one_139 : decode prog_37_method_83_code 139 = .ok (.iload_n 3, 1) := by decide +kernel
theorem dX10_one_140 : decode prog_37_method_83_code 140 = .ok (.iload 5, 2) := by decide +kernel
theorem dX10_one_142 : decode prog_37_method_83_code 142 = .ok (.invokevirtual 470, 3) := by decide +kernel
theorem dX10_one_145 : decode prog_37_method_83_code 145 = .ok (.istore 6, 2) := by decide +kernel
theorem dX10_one_147 : decode prog_37_method_83_code 147 = .ok (.aload_n 0, 1) := by decide +kernel
theorem dX10_one_148 : decode prog_37_method_83_code 148 = .ok (.getfield 461, 3) := by decide +kernel
theorem dX10_one_151 : decode prog_37_method_83_code 151 = .ok (.istore 7, 2) := by decide +kernel
theorem dX10_one_153 : decode prog_37_method_83_code 153 = .ok (.iconst 0, 1) := by decide +kernel
theorem dX10_one_154 : decode prog_37_method_83_code 154 = .ok (.istore 8, 2) := by decide +kernel
theorem dX10_one_156 : decode prog_37_method_83_code 156 = .ok (.iload 8, 2) := by decide +kernel
theorem dX10_one_158 : decode prog_37_method_83_code 158 = .ok (.aload_n 0, 1) := by decide +kernel
theorem dX10_one_159 : decode prog_37_method_83_code 159 = .ok (.iload 6, 2) := by decide +kernel
theorem dX10_one_161 : decode prog_37_method_83_code 161 = .ok (.invokevirtual 477, 3) := by decide +kernel
theorem dX10_one_164 : decode prog_37_method_83_code 164 = .ok (.if_icmp .ge 30, 3) := by decide +kernel
theorem dX10_one_167 : decode prog_37_method_83_code 167 = .ok (.aload_n 0, 1) := by decide +kernel
theorem dX10_one_168 : decode prog_37_method_83_code 168 = .ok (.iconst 0, 1) := by decide +kernel
theorem dX10_one_169 : decode prog_37_method_83_code 169 = .ok (.iload_n 1, 1) := by decide +kernel
theorem dX10_one_170 : decode prog_37_method_83_code 170 = .ok (.aload_n 0, 1) := by decide +kernel
theorem dX10_one_171 : decode prog_37_method_83_code 171 = .ok (.getfield 183, 3) := by decide +kernel
theorem dX10_one_174 : decode prog_37_method_83_code 174 = .ok (.iload 6, 2) := by decide +kernel
theorem dX10_one_176 : decode prog_37_method_83_code 176 = .ok (.iconst 2, 1) := by decide +kernel
theorem dX10_one_177 : decode prog_37_method_83_code 177 = .ok (.iadd, 1) := by decide +kernel
theorem dX10_one_178 : decode prog_37_method_83_code 178 = .ok (.iload 8, 2) := by decide +kernel
theorem dX10_one_180 : decode prog_37_method_83_code 180 = .ok (.iadd, 1) := by decide +kernel
theorem dX10_one_181 : decode prog_37_method_83_code 181 = .ok (.iaload, 1) := by decide +kernel
theorem dX10_one_182 : decode prog_37_method_83_code 182 = .ok (.invokestatic 644, 3) := by decide +kernel
theorem dX10_one_185 : decode prog_37_method_83_code 185 = .ok (.invokevirtual 464, 3) := by decide +kernel
theorem dX10_one_188 : decode prog_37_method_83_code 188 = .ok (.iinc 8 1, 3) := by decide +kernel
theorem dX10_one_191 : decode prog_37_method_83_code 191 = .ok (.goto (-35), 3) := by decide +kernel
theorem dX10_one_194 : decode prog_37_method_83_code 194 = .ok (.aload_n 0, 1) := by decide +kernel
theorem dX10_one_195 : decode prog_37_method_83_code 195 = .ok (.iload 7, 2) := by decide +kernel
theorem dX10_one_197 : decode prog_37_method_83_code 197 = .ok (.invokevirtual 634, 3) := by decide +kernel
theorem dX10_one_200 : decode prog_37_method_83_code 200 = .ok (.iinc 5 1, 3) := by decide +kernel
theorem dX10_one_203 : decode prog_37_method_83_code 203 = .ok (.goto (-75), 3) := by decide +kernel
theorem dX10_one_206 : decode prog_37_method_83_code 206 = .ok (.aload_n 0, 1) := by decide +kernel
theorem dX10_one_207 : decode prog_37_method_83_code 207 = .ok (.iconst 2, 1) := by decide +kernel
theorem dX10_one_208 : decode prog_37_method_83_code 208 = .ok (.iload 4, 2) := by decide +kernel
theorem dX10_one_210 : decode prog_37_method_83_code 210 = .ok (.invokevirtual 628, 3) := by decide +kernel
theorem dX10_one_213 : decode prog_37_method_83_code 213 = .ok (.return_, 1) := by decide +kernel
theorem dX10_kindAt_0 : decode prog_37_method_48_code 0 = .ok (.aload_n 0, 1) := by decide +kernel
theorem dX10_kindAt_1 : decode prog_37_method_48_code 1 = .ok (.getfield 186, 3) := by decide +kernel
theorem dX10_kindAt_4 : decode prog_37_method_48_code 4 = .ok (.iload_n 1, 1) := by decide +kernel
theorem dX10_kindAt_5 : decode prog_37_method_48_code 5 = .ok (.iaload, 1) := by decide +kernel
theorem dX10_kindAt_6 : decode prog_37_method_48_code 6 = .ok (.ifCond .ne 7, 3) := by decide +kernel
theorem dX10_kindAt_9 : decode prog_37_method_48_code 9 = .ok (.iconst 0, 1) := by decide +kernel
theorem dX10_kindAt_10 : decode prog_37_method_48_code 10 = .ok (.goto 14, 3) := by decide +kernel
theorem dX10_kindAt_13 : decode prog_37_method_48_code 13 = .ok (.aload_n 0, 1) := by decide +kernel
theorem dX10_kindAt_14 : decode prog_37_method_48_code 14 = .ok (.getfield 183, 3) := by decide +kernel
theorem dX10_kindAt_17 : decode prog_37_method_48_code 17 = .ok (.aload_n 0, 1) := by decide +kernel
theorem dX10_kindAt_18 : decode prog_37_method_48_code 18 = .ok (.getfield 189, 3) := by decide +kernel
theorem dX10_kindAt_21 : decode prog_37_method_48_code 21 = .ok (.iload_n 1, 1) := by decide +kernel
theorem dX10_kindAt_22 : decode prog_37_method_48_code 22 = .ok (.iaload, 1) := by decide +kernel
theorem dX10_kindAt_23 : decode prog_37_method_48_code 23 = .ok (.iaload, 1) := by decide +kernel
theorem dX10_kindAt_24 : decode prog_37_method_48_code 24 = .ok (.ireturn, 1) := by decide +kernel
theorem dX10_single_0 : decode prog_37_method_82_code 0 = .ok (.iload_n 0, 1) := by decide +kernel
theorem dX10_single_1 : decode prog_37_method_82_code 1 = .ok (.bipush 45, 2) := by decide +kernel
theorem dX10_single_3 : decode prog_37_method_82_code 3 = .ok (.if_icmp .ne 8, 3) := by decide +kernel
theorem dX10_single_6 : decode prog_37_method_82_code 6 = .ok (.iload_n 1, 1) := by decide +kernel
theorem dX10_single_7 : decode prog_37_method_82_code 7 = .ok (.ineg, 1) := by decide +kernel
theorem dX10_single_8 : decode prog_37_method_82_code 8 = .ok (.goto 12, 3) := by decide +kernel
theorem dX10_single_11 : decode prog_37_method_82_code 11 = .ok (.iload_n 1, 1) := by decide +kernel
theorem dX10_single_12 : decode prog_37_method_82_code 12 = .ok (.ifCond .ne 7, 3) := by decide +kernel
theorem dX10_single_15 : decode prog_37_method_82_code 15 = .ok (.iconst 1, 1) := by decide +kernel
theorem dX10_single_16 : decode prog_37_method_82_code 16 = .ok (.goto 4, 3) := by decide +kernel
theorem dX10_single_19 : decode prog_37_method_82_code 19 = .ok (.iconst 0, 1) := by decide +kernel
theorem dX10_single_20 : decode prog_37_method_82_code 20 = .ok (.ireturn, 1) := by decide +kernel
theorem dX10_sizeAt_0 : decode prog_37_method_49_code 0 = .ok (.aload_n 0, 1) := by decide +kernel
theorem dX10_sizeAt_1 : decode prog_37_method_49_code 1 = .ok (.getfield 183, 3) := by decide +kernel
theorem dX10_sizeAt_4 : decode prog_37_method_49_code 4 = .ok (.iload_n 1, 1) := by decide +kernel
theorem dX10_sizeAt_5 : decode prog_37_method_49_code 5 = .ok (.iconst 1, 1) := by decide +kernel
theorem dX10_sizeAt_6 : decode prog_37_method_49_code 6 = .ok (.iadd, 1) := by decide +kernel
theorem dX10_sizeAt_7 : decode prog_37_method_49_code 7 = .ok (.iaload, 1) := by decide +kernel
theorem dX10_sizeAt_8 : decode prog_37_method_49_code 8 = .ok (.ireturn, 1) := by decide +kernel
theorem dX10_builds_0 : decode prog_37_method_64_code 0 = .ok (.aload_n 0, 1) := by decide +kernel
theorem dX10_builds_1 : decode prog_37_method_64_code 1 = .ok (.getfield 461, 3) := by decide +kernel
theorem dX10_builds_4 : decode prog_37_method_64_code 4 = .ok (.iload_n 2, 1) := by decide +kernel
theorem dX10_builds_5 : decode prog_37_method_64_code 5 = .ok (.isub, 1) := by decide +kernel
theorem dX10_builds_6 : decode prog_37_method_64_code 6 = .ok (.istore_n 3, 1) := by decide +kernel
theorem dX10_builds_7 : decode prog_37_method_64_code 7 = .ok (.iconst 0, 1) := by decide +kernel
theorem dX10_builds_8 : decode prog_37_method_64_code 8 = .ok (.istore 4, 2) := by decide +kernel
theorem dX10_builds_10 : decode prog_37_method_64_code 10 = .ok (.iload_n 3, 1) := by decide +kernel
theorem dX10_builds_11 : decode prog_37_method_64_code 11 = .ok (.iload_n 1, 1) := by decide +kernel
theorem dX10_builds_12 : decode prog_37_method_64_code 12 = .ok (.iconst 1, 1) := by decide +kernel
theorem dX10_builds_13 : decode prog_37_method_64_code 13 = .ok (.if_icmp .ne 8, 3) := by decide +kernel
theorem dX10_builds_16 : decode prog_37_method_64_code 16 = .ok (.bipush 64, 2) := by decide +kernel
theorem dX10_builds_18 : decode prog_37_method_64_code 18 = .ok (.goto 5, 3) := by decide +kernel
theorem dX10_builds_21 : decode prog_37_method_64_code 21 = .ok (.bipush 20, 2) := by decide +kernel
theorem dX10_builds_23 : decode prog_37_method_64_code 23 = .ok (.if_icmp .le 7, 3) := by decide +kernel
theorem dX10_builds_26 : decode prog_37_method_64_code 26 = .ok (.iconst 1, 1) := by decide +kernel
theorem dX10_builds_27 : decode prog_37_method_64_code 27 = .ok (.goto 4, 3) := by decide +kernel
theorem dX10_builds_30 : decode prog_37_method_64_code 30 = .ok (.iconst 0, 1) := by decide +kernel
theorem dX10_builds_31 : decode prog_37_method_64_code 31 = .ok (.istore 5, 2) := by decide +kernel
theorem dX10_builds_33 : decode prog_37_method_64_code 33 = .ok (.iload_n 2, 1) := by decide +kernel
theorem dX10_builds_34 : decode prog_37_method_64_code 34 = .ok (.istore 6, 2) := by decide +kernel
theorem dX10_builds_36 : decode prog_37_method_64_code 36 = .ok (.iload 6, 2) := by decide +kernel
theorem dX10_builds_38 : decode prog_37_method_64_code 38 = .ok (.aload_n 0, 1) := by decide +kernel
theorem dX10_builds_39 : decode prog_37_method_64_code 39 = .ok (.getfield 461, 3) := by decide +kernel
theorem dX10_builds_42 : decode prog_37_method_64_code 42 = .ok (.if_icmp .ge 30, 3) := by decide +kernel
theorem dX10_builds_45 : decode prog_37_method_64_code 45 = .ok (.iload_n 1, 1) := by decide +kernel
theorem dX10_builds_46 : decode prog_37_method_64_code 46 = .ok (.iconst 2, 1) := by decide +kernel
theorem dX10_builds_47 : decode prog_37_method_64_code 47 = .ok (.if_icmp .ne 25, 3) := by decide +kernel
theorem dX10_builds_50 : decode prog_37_method_64_code 50 = .ok (.iload 4, 2) := by decide +kernel
theorem dX10_builds_52 : decode prog_37_method_64_code 52 = .ok (.aload_n 0, 1) := by decide +kernel
theorem dX10_builds_53 : decode prog_37_method_64_code 53 = .ok (.aload_n 0, 1) := by decide +kernel
theorem dX10_builds_54 : decode prog_37_method_64_code 54 = .ok (.getfield 189, 3) := by decide +kernel
theorem dX10_builds_57 : decode prog_37_method_64_code 57 = .ok (.iload 6, 2) := by decide +kernel
theorem dX10_builds_59 : decode prog_37_method_64_code 59 = .ok (.iaload, 1) := by decide +kernel
theorem dX10_builds_60 : decode prog_37_method_64_code 60 = .ok (.invokevirtual 477, 3) := by decide +kernel
theorem dX10_builds_63 : decode prog_37_method_64_code 63 = .ok (.iadd, 1) := by decide +kernel
theorem dX10_builds_64 : decode prog_37_method_64_code 64 = .ok (.istore 4, 2) := by decide +kernel
theorem dX10_builds_66 : decode prog_37_method_64_code 66 = .ok (.iinc 6 1, 3) := by decide +kernel
theorem dX10_builds_69 : decode prog_37_method_64_code 69 = .ok (.goto (-33), 3) := by decide +kernel
theorem dX10_builds_72 : decode prog_37_method_64_code 72 = .ok (.iload 5, 2) := by decide +kernel
theorem dX10_builds_74 : decode prog_37_method_64_code 74 = .ok (.ifCond .ne 11, 3) := by decide +kernel
theorem dX10_builds_77 : decode prog_37_method_64_code 77 = .ok (.iload 4, 2) := by decide +kernel
theorem dX10_builds_79 : decode prog_37_method_64_code 79 = .ok (.sipush 200, 3) := by decide +kernel
theorem dX10_builds_82 : decode prog_37_method_64_code 82 = .ok (.if_icmp .le 7, 3) := by decide +kernel
theorem dX10_builds_85 : decode prog_37_method_64_code 85 = .ok (.iconst 1, 1) := by decide +kernel
theorem dX10_builds_86 : decode prog_37_method_64_code 86 = .ok (.goto 4, 3) := by decide +kernel
theorem dX10_builds_89 : decode prog_37_method_64_code 89 = .ok (.iconst 0, 1) := by decide +kernel
theorem dX10_builds_90 : decode prog_37_method_64_code 90 = .ok (.istore 5, 2) := by decide +kernel
theorem dX10_builds_92 : decode prog_37_method_64_code 92 = .ok (.iconst 0, 1) := by decide +kernel
theorem dX10_builds_93 : decode prog_37_method_64_code 93 = .ok (.istore 6, 2) := by decide +kernel
theorem dX10_builds_95 : decode prog_37_method_64_code 95 = .ok (.iconst 1, 1) := by decide +kernel
theorem dX10_builds_96 : decode prog_37_method_64_code 96 = .ok (.istore 7, 2) := by decide +kernel
theorem dX10_builds_98 : decode prog_37_method_64_code 98 = .ok (.iload_n 2, 1) := by decide +kernel
theorem dX10_builds_99 : decode prog_37_method_64_code 99 = .ok (.istore 8, 2) := by decide +kernel
theorem dX10_builds_101 : decode prog_37_method_64_code 101 = .ok (.iload 8, 2) := by decide +kernel
theorem dX10_builds_103 : decode prog_37_method_64_code 103 = .ok (.aload_n 0, 1) := by decide +kernel
theorem dX10_builds_104 : decode prog_37_method_64_code 104 = .ok (.getfield 461, 3) := by decide +kernel
theorem dX10_builds_107 : decode prog_37_method_64_code 107 = .ok (.if_icmp .ge 80, 3) := by decide +kernel
theorem dX10_builds_110 : decode prog_37_method_64_code 110 = .ok (.iload_n 1, 1) := by decide +kernel
theorem dX10_builds_111 : decode prog_37_method_64_code 111 = .ok (.iconst 3, 1) := by decide +kernel
theorem dX10_builds_112 : decode prog_37_method_64_code 112 = .ok (.if_icmp .ne 75, 3) := by decide +kernel
theorem dX10_builds_115 : decode prog_37_method_64_code 115 = .ok (.iload 5, 2) := by decide +kernel
theorem dX10_builds_117 : decode prog_37_method_64_code 117 = .ok (.ifCond .ne 70, 3) := by decide +kernel
theorem dX10_builds_120 : decode prog_37_method_64_code 120 = .ok (.aload_n 0, 1) := by decide +kernel
theorem dX10_builds_121 : decode prog_37_method_64_code 121 = .ok (.iconst 0, 1) := by decide +kernel
theorem dX10_builds_122 : decode prog_37_method_64_code 122 = .ok (.putfield 480, 3) := by decide +kernel
theorem dX10_builds_125 : decode prog_37_method_64_code 125 = .ok (.aload_n 0, 1) := by decide +kernel
theorem dX10_builds_126 : decode prog_37_method_64_code 126 = .ok (.iconst 1, 1) := by decide +kernel
theorem dX10_builds_127 : decode prog_37_method_64_code 127 = .ok (.putfield 486, 3) := by decide +kernel
theorem dX10_builds_130 : decode prog_37_method_64_code 130 = .ok (.aload_n 0, 1) := by decide +kernel
theorem dX10_builds_131 : decode prog_37_method_64_code 131 = .ok (.getfield 186, 3) := by decide +kernel
theorem dX10_builds_134 : decode prog_37_method_64_code 134 = .ok (.iload 8, 2) := by decide +kernel
theorem dX10_builds_136 : decode prog_37_method_64_code 136 = .ok (.iaload, 1) := by decide +kernel
theorem dX10_builds_137 : decode prog_37_method_64_code 137 = .ok (.iconst 1, 1) := by decide +kernel
theorem dX10_builds_138 : decode prog_37_method_64_code 138 = .ok (.if_icmp .ne 14, 3) := by decide +kernel
theorem dX10_builds_141 : decode prog_37_method_64_code 141 = .ok (.aload_n 0, 1) := by decide +kernel
theorem dX10_builds_142 : decode prog_37_method_64_code 142 = .ok (.aload_n 0, 1) := by decide +kernel
theorem dX10_builds_143 : decode prog_37_method_64_code 143 = .ok (.getfield 189, 3) := by decide +kernel
theorem dX10_builds_146 : decode prog_37_method_64_code 146 = .ok (.iload 8, 2) := by decide +kernel
theorem dX10_builds_148 : decode prog_37_method_64_code 148 = .ok (.iaload, 1) := by decide +kernel
theorem dX10_builds_149 : decode prog_37_method_64_code 149 = .ok (.invokevirtual 522, 3) := by decide +kernel
theorem dX10_builds_152 : decode prog_37_method_64_code 152 = .ok (.aload_n 0, 1) := by decide +kernel
theorem dX10_builds_153 : decode prog_37_method_64_code 153 = .ok (.getfield 480, 3) := by decide +kernel
theorem dX10_builds_156 : decode prog_37_method_64_code 156 = .ok (.iload 6, 2) := by decide +kernel
theorem dX10_builds_158 : decode prog_37_method_64_code 158 = .ok (.if_icmp .le 10, 3) := by decide +kernel
theorem dX10_builds_161 : decode prog_37_method_64_code 161 = .ok (.aload_n 0, 1) := by decide +kernel
theorem dX10_builds_162 : decode prog_37_method_64_code 162 = .ok (.getfield 480, 3) := by decide +kernel
theorem dX10_builds_165 : decode prog_37_method_64_code 165 = .ok (.goto 5, 3) := by decide +kernel
theorem dX10_builds_168 : decode prog_37_method_64_code 168 = .ok (.iload 6, 2) := by decide +kernel
theorem dX10_builds_170 : decode prog_37_method_64_code 170 = .ok (.istore 6, 2) := by decide +kernel
theorem dX10_builds_172 : decode prog_37_method_64_code 172 = .ok (.iload 7, 2) := by decide +kernel
theorem dX10_builds_174 : decode prog_37_method_64_code 174 = .ok (.aload_n 0, 1) := by decide +kernel
theorem dX10_builds_175 : decode prog_37_method_64_code 175 = .ok (.getfield 486, 3) := by decide +kernel
theorem dX10_builds_178 : decode prog_37_method_64_code 178 = .ok (.iadd, 1) := by decide +kernel
theorem dX10_builds_179 : decode prog_37_method_64_code 179 = .ok (.istore 7, 2) := by decide +kernel
theorem dX10_builds_181 : decode prog_37_method_64_code 181 = .ok (.iinc 8 1, 3) := by decide +kernel
theorem dX10_builds_184 : decode prog_37_method_64_code 184 = .ok (.goto (-83), 3) := by decide +kernel
theorem dX10_builds_187 : decode prog_37_method_64_code 187 = .ok (.iload 5, 2) := by decide +kernel
theorem dX10_builds_189 : decode prog_37_method_64_code 189 = .ok (.ifCond .ne 17, 3) := by decide +kernel
theorem dX10_builds_192 : decode prog_37_method_64_code 192 = .ok (.iload 6, 2) := by decide +kernel
theorem dX10_builds_194 : decode prog_37_method_64_code 194 = .ok (.iconst 3, 1) := by decide +kernel
theorem dX10_builds_195 : decode prog_37_method_64_code 195 = .ok (.if_icmp .gt 11, 3) := by decide +kernel
theorem dX10_builds_198 : decode prog_37_method_64_code 198 = .ok (.iload 7, 2) := by decide +kernel
theorem dX10_builds_200 : decode prog_37_method_64_code 200 = .ok (.sipush 600, 3) := by decide +kernel
theorem dX10_builds_203 : decode prog_37_method_64_code 203 = .ok (.if_icmp .le 7, 3) := by decide +kernel
theorem dX10_builds_206 : decode prog_37_method_64_code 206 = .ok (.iconst 1, 1) := by decide +kernel
theorem dX10_builds_207 : decode prog_37_method_64_code 207 = .ok (.goto 4, 3) := by decide +kernel
theorem dX10_builds_210 : decode prog_37_method_64_code 210 = .ok (.iconst 0, 1) := by decide +kernel
theorem dX10_builds_211 : decode prog_37_method_64_code 211 = .ok (.istore 5, 2) := by decide +kernel
theorem dX10_builds_213 : decode prog_37_method_64_code 213 = .ok (.iload 5, 2) := by decide +kernel
theorem dX10_builds_215 : decode prog_37_method_64_code 215 = .ok (.ifCond .eq 13, 3) := by decide +kernel
theorem dX10_builds_218 : decode prog_37_method_64_code 218 = .ok (.aload_n 0, 1) := by decide +kernel
theorem dX10_builds_219 : decode prog_37_method_64_code 219 = .ok (.iconst 2, 1) := by decide +kernel
theorem dX10_builds_220 : decode prog_37_method_64_code 220 = .ok (.aload_n 0, 1) := by decide +kernel
theorem dX10_builds_221 : decode prog_37_method_64_code 221 = .ok (.getfield 507, 3) := by decide +kernel
theorem dX10_builds_224 : decode prog_37_method_64_code 224 = .ok (.invokevirtual 510, 3) := by decide +kernel
theorem dX10_builds_227 : decode prog_37_method_64_code 227 = .ok (.return_, 1) := by decide +kernel
theorem dX10_builds_228 : decode prog_37_method_64_code 228 = .ok (.aload_n 0, 1) := by decide +kernel
theorem dX10_builds_229 : decode prog_37_method_64_code 229 = .ok (.iload_n 1, 1) := by decide +kernel
theorem dX10_builds_230 : decode prog_37_method_64_code 230 = .ok (.iload_n 3, 1) := by decide +kernel
theorem dX10_builds_231 : decode prog_37_method_64_code 231 = .ok (.invokevirtual 525, 3) := by decide +kernel
theorem dX10_builds_234 : decode prog_37_method_64_code 234 = .ok (.istore 8, 2) := by decide +kernel
theorem dX10_builds_236 : decode prog_37_method_64_code 236 = .ok (.iload_n 2, 1) := by decide +kernel
theorem dX10_builds_237 : decode prog_37_method_64_code 237 = .ok (.istore 9, 2) := by decide +kernel
theorem dX10_builds_239 : decode prog_37_method_64_code 239 = .ok (.iload 9, 2) := by decide +kernel
theorem dX10_builds_241 : decode prog_37_method_64_code 241 = .ok (.aload_n 0, 1) := by decide +kernel
theorem dX10_builds_242 : decode prog_37_method_64_code 242 = .ok (.getfield 461, 3) := by decide +kernel
theorem dX10_builds_245 : decode prog_37_method_64_code 245 = .ok (.if_icmp .ge 90, 3) := by decide +kernel
theorem dX10_builds_248 : decode prog_37_method_64_code 248 = .ok (.iload_n 1, 1) := by decide +kernel
theorem dX10_builds_249 : decode prog_37_method_64_code 249 = .ok (.iconst 3, 1) := by decide +kernel
theorem dX10_builds_250 : decode prog_37_method_64_code 250 = .ok (.if_icmp .ne 29, 3) := by decide +kernel
theorem dX10_builds_253 : decode prog_37_method_64_code 253 = .ok (.aload_n 0, 1) := by decide +kernel
theorem dX10_builds_254 : decode prog_37_method_64_code 254 = .ok (.getfield 183, 3) := by decide +kernel
theorem dX10_builds_257 : decode prog_37_method_64_code 257 = .ok (.aload_n 0, 1) := by decide +kernel
theorem dX10_builds_258 : decode prog_37_method_64_code 258 = .ok (.getfield 519, 3) := by decide +kernel
theorem dX10_builds_261 : decode prog_37_method_64_code 261 = .ok (.aload_n 0, 1) := by decide +kernel
theorem dX10_builds_262 : decode prog_37_method_64_code 262 = .ok (.getfield 186, 3) := by decide +kernel
theorem dX10_builds_265 : decode prog_37_method_64_code 265 = .ok (.iload 9, 2) := by decide +kernel
theorem dX10_builds_267 : decode prog_37_method_64_code 267 = .ok (.iaload, 1) := by decide +kernel
theorem dX10_builds_268 : decode prog_37_method_64_code 268 = .ok (.iastore, 1) := by decide +kernel
theorem dX10_builds_269 : decode prog_37_method_64_code 269 = .ok (.aload_n 0, 1) := by decide +kernel
theorem dX10_builds_270 : decode prog_37_method_64_code 270 = .ok (.dup, 1) := by decide +kernel
theorem dX10_builds_271 : decode prog_37_method_64_code 271 = .ok (.getfield 519, 3) := by decide +kernel
theorem dX10_builds_274 : decode prog_37_method_64_code 274 = .ok (.iconst 1, 1) := by decide +kernel
theorem dX10_builds_275 : decode prog_37_method_64_code 275 = .ok (.iadd, 1) := by decide +kernel
theorem dX10_builds_276 : decode prog_37_method_64_code 276 = .ok (.putfield 519, 3) := by decide +kernel
theorem dX10_builds_279 : decode prog_37_method_64_code 279 = .ok (.aload_n 0, 1) := by decide +kernel
theorem dX10_builds_280 : decode prog_37_method_64_code 280 = .ok (.getfield 183, 3) := by decide +kernel
theorem dX10_builds_283 : decode prog_37_method_64_code 283 = .ok (.aload_n 0, 1) := by decide +kernel
theorem dX10_builds_284 : decode prog_37_method_64_code 284 = .ok (.getfield 519, 3) := by decide +kernel
theorem dX10_builds_287 : decode prog_37_method_64_code 287 = .ok (.aload_n 0, 1) := by decide +kernel
theorem dX10_builds_288 : decode prog_37_method_64_code 288 = .ok (.getfield 186, 3) := by decide +kernel
theorem dX10_builds_291 : decode prog_37_method_64_code 291 = .ok (.iload 9, 2) := by decide +kernel
theorem dX10_builds_293 : decode prog_37_method_64_code 293 = .ok (.iaload, 1) := by decide +kernel
theorem dX10_builds_294 : decode prog_37_method_64_code 294 = .ok (.iconst 1, 1) := by decide +kernel
theorem dX10_builds_295 : decode prog_37_method_64_code 295 = .ok (.if_icmp .ne 16, 3) := by decide +kernel
theorem dX10_builds_298 : decode prog_37_method_64_code 298 = .ok (.aload_n 0, 1) := by decide +kernel
theorem dX10_builds_299 : decode prog_37_method_64_code 299 = .ok (.getfield 189, 3) := by decide +kernel
theorem dX10_builds_302 : decode prog_37_method_64_code 302 = .ok (.iload 9, 2) := by decide +kernel
theorem dX10_builds_304 : decode prog_37_method_64_code 304 = .ok (.iaload, 1) := by decide +kernel
theorem dX10_builds_305 : decode prog_37_method_64_code 305 = .ok (.iload 8, 2) := by decide +kernel
theorem dX10_builds_307 : decode prog_37_method_64_code 307 = .ok (.isub, 1) := by decide +kernel
theorem dX10_builds_308 : decode prog_37_method_64_code 308 = .ok (.goto 10, 3) := by decide +kernel
theorem dX10_builds_311 : decode prog_37_method_64_code 311 = .ok (.aload_n 0, 1) := by decide +kernel
theorem dX10_builds_312 : decode prog_37_method_64_code 312 = .ok (.getfield 189, 3) := by decide +kernel
theorem dX10_builds_315 : decode prog_37_method_64_code 315 = .ok (.iload 9, 2) := by decide +kernel
theorem dX10_builds_317 : decode prog_37_method_64_code 317 = .ok (.iaload, 1) := by decide +kernel
theorem dX10_builds_318 : decode prog_37_method_64_code 318 = .ok (.iastore, 1) := by decide +kernel
theorem dX10_builds_319 : decode prog_37_method_64_code 319 = .ok (.aload_n 0, 1) := by decide +kernel
theorem dX10_builds_320 : decode prog_37_method_64_code 320 = .ok (.dup, 1) := by decide +kernel
theorem dX10_builds_321 : decode prog_37_method_64_code 321 = .ok (.getfield 519, 3) := by decide +kernel
theorem dX10_builds_324 : decode prog_37_method_64_code 324 = .ok (.iconst 1, 1) := by decide +kernel
theorem dX10_builds_325 : decode prog_37_method_64_code 325 = .ok (.iadd, 1) := by decide +kernel
theorem dX10_builds_326 : decode prog_37_method_64_code 326 = .ok (.putfield 519, 3) := by decide +kernel
theorem dX10_builds_329 : decode prog_37_method_64_code 329 = .ok (.iinc 9 1, 3) := by decide +kernel
theorem dX10_builds_332 : decode prog_37_method_64_code 332 = .ok (.goto (-93), 3) := by decide +kernel
theorem dX10_builds_335 : decode prog_37_method_64_code 335 = .ok (.aload_n 0, 1) := by decide +kernel
theorem dX10_builds_336 : decode prog_37_method_64_code 336 = .ok (.iload_n 2, 1) := by decide +kernel
theorem dX10_builds_337 : decode prog_37_method_64_code 337 = .ok (.putfield 461, 3) := by decide +kernel
theorem dX10_builds_340 : decode prog_37_method_64_code 340 = .ok (.aload_n 0, 1) := by decide +kernel
theorem dX10_builds_341 : decode prog_37_method_64_code 341 = .ok (.iload 8, 2) := by decide +kernel
theorem dX10_builds_343 : decode prog_37_method_64_code 343 = .ok (.invokevirtual 528, 3) := by decide +kernel
theorem dX10_builds_346 : decode prog_37_method_64_code 346 = .ok (.return_, 1) := by decide +kernel
theorem dX10_measure_0 : decode prog_37_method_55_code 0 = .ok (.aload_n 0, 1) := by decide +kernel
theorem dX10_measure_1 : decode prog_37_method_55_code 1 = .ok (.iconst 0, 1) := by decide +kernel
theorem dX10_measure_2 : decode prog_37_method_55_code 2 = .ok (.putfield 480, 3) := by decide +kernel
theorem dX10_measure_5 : decode prog_37_method_55_code 5 = .ok (.aload_n 0, 1) := by decide +kernel
theorem dX10_measure_6 : decode prog_37_method_55_code 6 = .ok (.aload_n 0, 1) := by decide +kernel
theorem dX10_measure_7 : decode prog_37_method_55_code 7 = .ok (.getfield 183, 3) := by decide +kernel
theorem dX10_measure_10 : decode prog_37_method_55_code 10 = .ok (.iload_n 1, 1) := by decide +kernel
theorem dX10_measure_11 : decode prog_37_method_55_code 11 = .ok (.iaload, 1) := by decide +kernel
theorem dX10_measure_12 : decode prog_37_method_55_code 12 = .ok (.iconst 3, 1) := by decide +kernel
theorem dX10_measure_13 : decode prog_37_method_55_code 13 = .ok (.if_icmp .ne 7, 3) := by decide +kernel
theorem dX10_measure_16 : decode prog_37_method_55_code 16 = .ok (.iconst 1, 1) := by decide +kernel
theorem dX10_measure_17 : decode prog_37_method_55_code 17 = .ok (.goto 8, 3) := by decide +kernel
theorem dX10_measure_20 : decode prog_37_method_55_code 20 = .ok (.aload_n 0, 1) := by decide +kernel
theorem dX10_measure_21 : decode prog_37_method_55_code 21 = .ok (.iload_n 1, 1) := by decide +kernel
theorem dX10_measure_22 : decode prog_37_method_55_code 22 = .ok (.invokevirtual 483, 3) := by decide +kernel
theorem dX10_measure_25 : decode prog_37_method_55_code 25 = .ok (.putfield 486, 3) := by decide +kernel
theorem dX10_measure_28 : decode prog_37_method_55_code 28 = .ok (.aload_n 0, 1) := by decide +kernel
theorem dX10_measure_29 : decode prog_37_method_55_code 29 = .ok (.iconst 0, 1) := by decide +kernel
theorem dX10_measure_30 : decode prog_37_method_55_code 30 = .ok (.putfield 474, 3) := by decide +kernel
theorem dX10_measure_33 : decode prog_37_method_55_code 33 = .ok (.aload_n 0, 1) := by decide +kernel
theorem dX10_measure_34 : decode prog_37_method_55_code 34 = .ok (.getfield 183, 3) := by decide +kernel
theorem dX10_measure_37 : decode prog_37_method_55_code 37 = .ok (.iload_n 1, 1) := by decide +kernel
theorem dX10_measure_38 : decode prog_37_method_55_code 38 = .ok (.iaload, 1) := by decide +kernel
theorem dX10_measure_39 : decode prog_37_method_55_code 39 = .ok (.iconst 3, 1) := by decide +kernel
theorem dX10_measure_40 : decode prog_37_method_55_code 40 = .ok (.if_icmp .ne 9, 3) := by decide +kernel
theorem dX10_measure_43 : decode prog_37_method_55_code 43 = .ok (.aload_n 0, 1) := by decide +kernel
theorem dX10_measure_44 : decode prog_37_method_55_code 44 = .ok (.iload_n 1, 1) := by decide +kernel
theorem dX10_measure_45 : decode prog_37_method_55_code 45 = .ok (.iconst 0, 1) := by decide +kernel
theorem dX10_measure_46 : decode prog_37_method_55_code 46 = .ok (.invokevirtual 489, 3) := by decide +kernel
theorem dX10_measure_49 : decode prog_37_method_55_code 49 = .ok (.aload_n 0, 1) := by decide +kernel
theorem dX10_measure_50 : decode prog_37_method_55_code 50 = .ok (.getfield 474, 3) := by decide +kernel
theorem dX10_measure_53 : decode prog_37_method_55_code 53 = .ok (.ifCond .le 171, 3) := by decide +kernel
theorem dX10_measure_56 : decode prog_37_method_55_code 56 = .ok (.aload_n 0, 1) := by decide +kernel
theorem dX10_measure_57 : decode prog_37_method_55_code 57 = .ok (.getfield 474, 3) := by decide +kernel
theorem dX10_measure_60 : decode prog_37_method_55_code 60 = .ok (.iconst 1, 1) := by decide +kernel
theorem dX10_measure_61 : decode prog_37_method_55_code 61 = .ok (.isub, 1) := by decide +kernel
theorem dX10_measure_62 : decode prog_37_method_55_code 62 = .ok (.istore_n 2, 1) := by decide +kernel
theorem dX10_measure_63 : decode prog_37_method_55_code 63 = .ok (.aload_n 0, 1) := by decide +kernel
theorem dX10_measure_64 : decode prog_37_method_55_code 64 = .ok (.getfield 192, 3) := by decide +kernel
theorem dX10_measure_67 : decode prog_37_method_55_code 67 = .ok (.iload_n 2, 1) := by decide +kernel
theorem dX10_measure_68 : decode prog_37_method_55_code 68 = .ok (.iaload, 1) := by decide +kernel
theorem dX10_measure_69 : decode prog_37_method_55_code 69 = .ok (.istore_n 3, 1) := by decide +kernel
theorem dX10_measure_70 : decode prog_37_method_55_code 70 = .ok (.aload_n 0, 1) := by decide +kernel
theorem dX10_measure_71 : decode prog_37_method_55_code 71 = .ok (.getfield 198, 3) := by decide +kernel
theorem dX10_measure_74 : decode prog_37_method_55_code 74 = .ok (.iload_n 2, 1) := by decide +kernel
theorem dX10_measure_75 : decode prog_37_method_55_code 75 = .ok (.iaload, 1) := by decide +kernel
theorem dX10_measure_76 : decode prog_37_method_55_code 76 = .ok (.istore 4, 2) := by decide +kernel
theorem dX10_measure_78 : decode prog_37_method_55_code 78 = .ok (.aload_n 0, 1) := by decide +kernel
theorem dX10_measure_79 : decode prog_37_method_55_code 79 = .ok (.aload_n 0, 1) := by decide +kernel
theorem dX10_measure_80 : decode prog_37_method_55_code 80 = .ok (.getfield 474, 3) := by decide +kernel
theorem dX10_measure_83 : decode prog_37_method_55_code 83 = .ok (.aload_n 0, 1) := by decide +kernel
theorem dX10_measure_84 : decode prog_37_method_55_code 84 = .ok (.getfield 480, 3) := by decide +kernel
theorem dX10_measure_87 : decode prog_37_method_55_code 87 = .ok (.if_icmp .le 10, 3) := by decide +kernel
theorem dX10_measure_90 : decode prog_37_method_55_code 90 = .ok (.aload_n 0, 1) := by decide +kernel
theorem dX10_measure_91 : decode prog_37_method_55_code 91 = .ok (.getfield 474, 3) := by decide +kernel
theorem dX10_measure_94 : decode prog_37_method_55_code 94 = .ok (.goto 7, 3) := by decide +kernel
theorem dX10_measure_97 : decode prog_37_method_55_code 97 = .ok (.aload_n 0, 1) := by decide +kernel
theorem dX10_measure_98 : decode prog_37_method_55_code 98 = .ok (.getfield 480, 3) := by decide +kernel
theorem dX10_measure_101 : decode prog_37_method_55_code 101 = .ok (.putfield 480, 3) := by decide +kernel
theorem dX10_measure_104 : decode prog_37_method_55_code 104 = .ok (.iload 4, 2) := by decide +kernel
theorem dX10_measure_106 : decode prog_37_method_55_code 106 = .ok (.aload_n 0, 1) := by decide +kernel
theorem dX10_measure_107 : decode prog_37_method_55_code 107 = .ok (.iload_n 3, 1) := by decide +kernel
theorem dX10_measure_108 : decode prog_37_method_55_code 108 = .ok (.invokevirtual 477, 3) := by decide +kernel
theorem dX10_measure_111 : decode prog_37_method_55_code 111 = .ok (.if_icmp .ne 16, 3) := by decide +kernel
theorem dX10_measure_114 : decode prog_37_method_55_code 114 = .ok (.aload_n 0, 1) := by decide +kernel
theorem dX10_measure_115 : decode prog_37_method_55_code 115 = .ok (.dup, 1) := by decide +kernel
theorem dX10_measure_116 : decode prog_37_method_55_code 116 = .ok (.getfield 474, 3) := by decide +kernel
theorem dX10_measure_119 : decode prog_37_method_55_code 119 = .ok (.iconst 1, 1) := by decide +kernel
theorem dX10_measure_120 : decode prog_37_method_55_code 120 = .ok (.isub, 1) := by decide +kernel
theorem dX10_measure_121 : decode prog_37_method_55_code 121 = .ok (.putfield 474, 3) := by decide +kernel
theorem dX10_measure_124 : decode prog_37_method_55_code 124 = .ok (.goto (-75), 3) := by decide +kernel
theorem dX10_measure_127 : decode prog_37_method_55_code 127 = .ok (.aload_n 0, 1) := by decide +kernel
theorem dX10_measure_128 : decode prog_37_method_55_code 128 = .ok (.getfield 198, 3) := by decide +kernel
theorem dX10_measure_131 : decode prog_37_method_55_code 131 = .ok (.iload_n 2, 1) := by decide +kernel
theorem dX10_measure_132 : decode prog_37_method_55_code 132 = .ok (.dup2, 1) := by decide +kernel
theorem dX10_measure_133 : decode prog_37_method_55_code 133 = .ok (.iaload, 1) := by decide +kernel
theorem dX10_measure_134 : decode prog_37_method_55_code 134 = .ok (.iconst 1, 1) := by decide +kernel
theorem dX10_measure_135 : decode prog_37_method_55_code 135 = .ok (.iadd, 1) := by decide +kernel
theorem dX10_measure_136 : decode prog_37_method_55_code 136 = .ok (.iastore, 1) := by decide +kernel
theorem dX10_measure_137 : decode prog_37_method_55_code 137 = .ok (.aload_n 0, 1) := by decide +kernel
theorem dX10_measure_138 : decode prog_37_method_55_code 138 = .ok (.iload_n 3, 1) := by decide +kernel
theorem dX10_measure_139 : decode prog_37_method_55_code 139 = .ok (.iload 4, 2) := by decide +kernel
theorem dX10_measure_141 : decode prog_37_method_55_code 141 = .ok (.invokevirtual 467, 3) := by decide +kernel
theorem dX10_measure_144 : decode prog_37_method_55_code 144 = .ok (.ifCond .eq 16, 3) := by decide +kernel
theorem dX10_measure_147 : decode prog_37_method_55_code 147 = .ok (.aload_n 0, 1) := by decide +kernel
theorem dX10_measure_148 : decode prog_37_method_55_code 148 = .ok (.dup, 1) := by decide +kernel
theorem dX10_measure_149 : decode prog_37_method_55_code 149 = .ok (.getfield 486, 3) := by decide +kernel
theorem dX10_measure_152 : decode prog_37_method_55_code 152 = .ok (.iconst 1, 1) := by decide +kernel
theorem dX10_measure_153 : decode prog_37_method_55_code 153 = .ok (.iadd, 1) := by decide +kernel
theorem dX10_measure_154 : decode prog_37_method_55_code 154 = .ok (.putfield 486, 3) := by decide +kernel
theorem dX10_measure_157 : decode prog_37_method_55_code 157 = .ok (.goto 64, 3) := by decide +kernel
theorem dX10_measure_160 : decode prog_37_method_55_code 160 = .ok (.aload_n 0, 1) := by decide +kernel
theorem dX10_measure_161 : decode prog_37_method_55_code 161 = .ok (.getfield 183, 3) := by decide +kernel
theorem dX10_measure_164 : decode prog_37_method_55_code 164 = .ok (.aload_n 0, 1) := by decide +kernel
theorem dX10_measure_165 : decode prog_37_method_55_code 165 = .ok (.iload_n 3, 1) := by decide +kernel
theorem dX10_measure_166 : decode prog_37_method_55_code 166 = .ok (.iload 4, 2) := by decide +kernel
theorem dX10_measure_168 : decode prog_37_method_55_code 168 = .ok (.invokevirtual 470, 3) := by decide +kernel
theorem dX10_measure_171 : decode prog_37_method_55_code 171 = .ok (.iaload, 1) := by decide +kernel
theorem dX10_measure_172 : decode prog_37_method_55_code 172 = .ok (.iconst 3, 1) := by decide +kernel
theorem dX10_measure_173 : decode prog_37_method_55_code 173 = .ok (.if_icmp .ne 28, 3) := by decide +kernel
theorem dX10_measure_176 : decode prog_37_method_55_code 176 = .ok (.aload_n 0, 1) := by decide +kernel
theorem dX10_measure_177 : decode prog_37_method_55_code 177 = .ok (.dup, 1) := by decide +kernel
theorem dX10_measure_178 : decode prog_37_method_55_code 178 = .ok (.getfield 486, 3) := by decide +kernel
theorem dX10_measure_181 : decode prog_37_method_55_code 181 = .ok (.iconst 1, 1) := by decide +kernel
theorem dX10_measure_182 : decode prog_37_method_55_code 182 = .ok (.iadd, 1) := by decide +kernel
theorem dX10_measure_183 : decode prog_37_method_55_code 183 = .ok (.putfield 486, 3) := by decide +kernel
theorem dX10_measure_186 : decode prog_37_method_55_code 186 = .ok (.aload_n 0, 1) := by decide +kernel
theorem dX10_measure_187 : decode prog_37_method_55_code 187 = .ok (.aload_n 0, 1) := by decide +kernel
theorem dX10_measure_188 : decode prog_37_method_55_code 188 = .ok (.iload_n 3, 1) := by decide +kernel
theorem dX10_measure_189 : decode prog_37_method_55_code 189 = .ok (.iload 4, 2) := by decide +kernel
theorem dX10_measure_191 : decode prog_37_method_55_code 191 = .ok (.invokevirtual 470, 3) := by decide +kernel
theorem dX10_measure_194 : decode prog_37_method_55_code 194 = .ok (.iconst 0, 1) := by decide +kernel
theorem dX10_measure_195 : decode prog_37_method_55_code 195 = .ok (.invokevirtual 489, 3) := by decide +kernel
theorem dX10_measure_198 : decode prog_37_method_55_code 198 = .ok (.goto 23, 3) := by decide +kernel
theorem dX10_measure_201 : decode prog_37_method_55_code 201 = .ok (.aload_n 0, 1) := by decide +kernel
theorem dX10_measure_202 : decode prog_37_method_55_code 202 = .ok (.dup, 1) := by decide +kernel
theorem dX10_measure_203 : decode prog_37_method_55_code 203 = .ok (.getfield 486, 3) := by decide +kernel
theorem dX10_measure_206 : decode prog_37_method_55_code 206 = .ok (.aload_n 0, 1) := by decide +kernel
theorem dX10_measure_207 : decode prog_37_method_55_code 207 = .ok (.aload_n 0, 1) := by decide +kernel
theorem dX10_measure_208 : decode prog_37_method_55_code 208 = .ok (.iload_n 3, 1) := by decide +kernel
theorem dX10_measure_209 : decode prog_37_method_55_code 209 = .ok (.iload 4, 2) := by decide +kernel
theorem dX10_measure_211 : decode prog_37_method_55_code 211 = .ok (.invokevirtual 470, 3) := by decide +kernel
theorem dX10_measure_214 : decode prog_37_method_55_code 214 = .ok (.invokevirtual 483, 3) := by decide +kernel
theorem dX10_measure_217 : decode prog_37_method_55_code 217 = .ok (.iadd, 1) := by decide +kernel
theorem dX10_measure_218 : decode prog_37_method_55_code 218 = .ok (.putfield 486, 3) := by decide +kernel
theorem dX10_measure_221 : decode prog_37_method_55_code 221 = .ok (.goto (-172), 3) := by decide +kernel
theorem dX10_measure_224 : decode prog_37_method_55_code 224 = .ok (.return_, 1) := by decide +kernel
theorem dX10_plainBulk_0 : decode prog_37_method_54_code 0 = .ok (.aload_n 0, 1) := by decide +kernel
theorem dX10_plainBulk_1 : decode prog_37_method_54_code 1 = .ok (.getfield 183, 3) := by decide +kernel
theorem dX10_plainBulk_4 : decode prog_37_method_54_code 4 = .ok (.iload_n 1, 1) := by decide +kernel
theorem dX10_plainBulk_5 : decode prog_37_method_54_code 5 = .ok (.iaload, 1) := by decide +kernel
theorem dX10_plainBulk_6 : decode prog_37_method_54_code 6 = .ok (.iconst 1, 1) := by decide +kernel
theorem dX10_plainBulk_7 : decode prog_37_method_54_code 7 = .ok (.if_icmp .ne 11, 3) := by decide +kernel
theorem dX10_plainBulk_10 : decode prog_37_method_54_code 10 = .ok (.iconst 1, 1) := by decide +kernel
theorem dX10_plainBulk_11 : decode prog_37_method_54_code 11 = .ok (.aload_n 0, 1) := by decide +kernel
theorem dX10_plainBulk_12 : decode prog_37_method_54_code 12 = .ok (.iload_n 1, 1) := by decide +kernel
theorem dX10_plainBulk_13 : decode prog_37_method_54_code 13 = .ok (.invokevirtual 477, 3) := by decide +kernel
theorem dX10_plainBulk_16 : decode prog_37_method_54_code 16 = .ok (.iadd, 1) := by decide +kernel
theorem dX10_plainBulk_17 : decode prog_37_method_54_code 17 = .ok (.ireturn, 1) := by decide +kernel
theorem dX10_plainBulk_18 : decode prog_37_method_54_code 18 = .ok (.iconst 1, 1) := by decide +kernel
theorem dX10_plainBulk_19 : decode prog_37_method_54_code 19 = .ok (.istore_n 2, 1) := by decide +kernel
theorem dX10_plainBulk_20 : decode prog_37_method_54_code 20 = .ok (.iconst 0, 1) := by decide +kernel
theorem dX10_plainBulk_21 : decode prog_37_method_54_code 21 = .ok (.istore_n 3, 1) := by decide +kernel
theorem dX10_plainBulk_22 : decode prog_37_method_54_code 22 = .ok (.iload_n 3, 1) := by decide +kernel
theorem dX10_plainBulk_23 : decode prog_37_method_54_code 23 = .ok (.aload_n 0, 1) := by decide +kernel
theorem dX10_plainBulk_24 : decode prog_37_method_54_code 24 = .ok (.iload_n 1, 1) := by decide +kernel
theorem dX10_plainBulk_25 : decode prog_37_method_54_code 25 = .ok (.invokevirtual 477, 3) := by decide +kernel
theorem dX10_plainBulk_28 : decode prog_37_method_54_code 28 = .ok (.if_icmp .ge 24, 3) := by decide +kernel
theorem dX10_plainBulk_31 : decode prog_37_method_54_code 31 = .ok (.iload_n 2, 1) := by decide +kernel
theorem dX10_plainBulk_32 : decode prog_37_method_54_code 32 = .ok (.iconst 1, 1) := by decide +kernel
theorem dX10_plainBulk_33 : decode prog_37_method_54_code 33 = .ok (.aload_n 0, 1) := by decide +kernel
theorem dX10_plainBulk_34 : decode prog_37_method_54_code 34 = .ok (.aload_n 0, 1) := by decide +kernel
theorem dX10_plainBulk_35 : decode prog_37_method_54_code 35 = .ok (.iload_n 1, 1) := by decide +kernel
theorem dX10_plainBulk_36 : decode prog_37_method_54_code 36 = .ok (.iload_n 3, 1) := by decide +kernel
theorem dX10_plainBulk_37 : decode prog_37_method_54_code 37 = .ok (.invokevirtual 470, 3) := by decide +kernel
theorem dX10_plainBulk_40 : decode prog_37_method_54_code 40 = .ok (.invokevirtual 477, 3) := by decide +kernel
theorem dX10_plainBulk_43 : decode prog_37_method_54_code 43 = .ok (.iadd, 1) := by decide +kernel
theorem dX10_plainBulk_44 : decode prog_37_method_54_code 44 = .ok (.iadd, 1) := by decide +kernel
theorem dX10_plainBulk_45 : decode prog_37_method_54_code 45 = .ok (.istore_n 2, 1) := by decide +kernel
theorem dX10_plainBulk_46 : decode prog_37_method_54_code 46 = .ok (.iinc 3 1, 3) := by decide +kernel
theorem dX10_plainBulk_49 : decode prog_37_method_54_code 49 = .ok (.goto (-27), 3) := by decide +kernel
theorem dX10_plainBulk_52 : decode prog_37_method_54_code 52 = .ok (.iload_n 2, 1) := by decide +kernel
theorem dX10_plainBulk_53 : decode prog_37_method_54_code 53 = .ok (.ireturn, 1) := by decide +kernel
theorem dX10_partAt_0 : decode prog_37_method_51_code 0 = .ok (.iload_n 1, 1) := by decide +kernel
theorem dX10_partAt_1 : decode prog_37_method_51_code 1 = .ok (.aload_n 0, 1) := by decide +kernel
theorem dX10_partAt_2 : decode prog_37_method_51_code 2 = .ok (.getfield 183, 3) := by decide +kernel
theorem dX10_partAt_5 : decode prog_37_method_51_code 5 = .ok (.iload_n 1, 1) := by decide +kernel
theorem dX10_partAt_6 : decode prog_37_method_51_code 6 = .ok (.iaload, 1) := by decide +kernel
theorem dX10_partAt_7 : decode prog_37_method_51_code 7 = .ok (.iconst 2, 1) := by decide +kernel
theorem dX10_partAt_8 : decode prog_37_method_51_code 8 = .ok (.if_icmp .ne 16, 3) := by decide +kernel
theorem dX10_partAt_11 : decode prog_37_method_51_code 11 = .ok (.aload_n 0, 1) := by decide +kernel
theorem dX10_partAt_12 : decode prog_37_method_51_code 12 = .ok (.getfield 183, 3) := by decide +kernel
theorem dX10_partAt_15 : decode prog_37_method_51_code 15 = .ok (.iload_n 1, 1) := by decide +kernel
theorem dX10_partAt_16 : decode prog_37_method_51_code 16 = .ok (.iconst 2, 1) := by decide +kernel
theorem dX10_partAt_17 : decode prog_37_method_51_code 17 = .ok (.iadd, 1) := by decide +kernel
theorem dX10_partAt_18 : decode prog_37_method_51_code 18 = .ok (.iload_n 2, 1) := by decide +kernel
theorem dX10_partAt_19 : decode prog_37_method_51_code 19 = .ok (.iadd, 1) := by decide +kernel
theorem dX10_partAt_20 : decode prog_37_method_51_code 20 = .ok (.iaload, 1) := by decide +kernel
theorem dX10_partAt_21 : decode prog_37_method_51_code 21 = .ok (.goto 15, 3) := by decide +kernel
theorem dX10_partAt_24 : decode prog_37_method_51_code 24 = .ok (.aload_n 0, 1) := by decide +kernel
theorem dX10_partAt_25 : decode prog_37_method_51_code 25 = .ok (.getfield 183, 3) := by decide +kernel
theorem dX10_partAt_28 : decode prog_37_method_51_code 28 = .ok (.iload_n 1, 1) := by decide +kernel
theorem dX10_partAt_29 : decode prog_37_method_51_code 29 = .ok (.iconst 3, 1) := by decide +kernel
theorem dX10_partAt_30 : decode prog_37_method_51_code 30 = .ok (.iadd, 1) := by decide +kernel
theorem dX10_partAt_31 : decode prog_37_method_51_code 31 = .ok (.iconst 2, 1) := by decide +kernel
theorem dX10_partAt_32 : decode prog_37_method_51_code 32 = .ok (.iload_n 2, 1) := by decide +kernel
theorem dX10_partAt_33 : decode prog_37_method_51_code 33 = .ok (.imul, 1) := by decide +kernel
theorem dX10_partAt_34 : decode prog_37_method_51_code 34 = .ok (.iadd, 1) := by decide +kernel
theorem dX10_partAt_35 : decode prog_37_method_51_code 35 = .ok (.iaload, 1) := by decide +kernel
theorem dX10_partAt_36 : decode prog_37_method_51_code 36 = .ok (.iadd, 1) := by decide +kernel
theorem dX10_partAt_37 : decode prog_37_method_51_code 37 = .ok (.ireturn, 1) := by decide +kernel
theorem dX10_goesIn_0 : decode prog_37_method_53_code 0 = .ok (.aload_n 0, 1) := by decide +kernel
theorem dX10_goesIn_1 : decode prog_37_method_53_code 1 = .ok (.getfield 192, 3) := by decide +kernel
theorem dX10_goesIn_4 : decode prog_37_method_53_code 4 = .ok (.aload_n 0, 1) := by decide +kernel
theorem dX10_goesIn_5 : decode prog_37_method_53_code 5 = .ok (.getfield 474, 3) := by decide +kernel
theorem dX10_goesIn_8 : decode prog_37_method_53_code 8 = .ok (.iload_n 1, 1) := by decide +kernel
theorem dX10_goesIn_9 : decode prog_37_method_53_code 9 = .ok (.iastore, 1) := by decide +kernel
theorem dX10_goesIn_10 : decode prog_37_method_53_code 10 = .ok (.aload_n 0, 1) := by decide +kernel
theorem dX10_goesIn_11 : decode prog_37_method_53_code 11 = .ok (.getfield 195, 3) := by decide +kernel
theorem dX10_goesIn_14 : decode prog_37_method_53_code 14 = .ok (.aload_n 0, 1) := by decide +kernel
theorem dX10_goesIn_15 : decode prog_37_method_53_code 15 = .ok (.getfield 474, 3) := by decide +kernel
theorem dX10_goesIn_18 : decode prog_37_method_53_code 18 = .ok (.iload_n 2, 1) := by decide +kernel
theorem dX10_goesIn_19 : decode prog_37_method_53_code 19 = .ok (.iastore, 1) := by decide +kernel
theorem dX10_goesIn_20 : decode prog_37_method_53_code 20 = .ok (.aload_n 0, 1) := by decide +kernel
theorem dX10_goesIn_21 : decode prog_37_method_53_code 21 = .ok (.getfield 198, 3) := by decide +kernel
theorem dX10_goesIn_24 : decode prog_37_method_53_code 24 = .ok (.aload_n 0, 1) := by decide +kernel
theorem dX10_goesIn_25 : decode prog_37_method_53_code 25 = .ok (.getfield 474, 3) := by decide +kernel
theorem dX10_goesIn_28 : decode prog_37_method_53_code 28 = .ok (.iconst 0, 1) := by decide +kernel
theorem dX10_goesIn_29 : decode prog_37_method_53_code 29 = .ok (.iastore, 1) := by decide +kernel
theorem dX10_goesIn_30 : decode prog_37_method_53_code 30 = .ok (.aload_n 0, 1) := by decide +kernel
theorem dX10_goesIn_31 : decode prog_37_method_53_code 31 = .ok (.dup, 1) := by decide +kernel
theorem dX10_goesIn_32 : decode prog_37_method_53_code 32 = .ok (.getfield 474, 3) := by decide +kernel
theorem dX10_goesIn_35 : decode prog_37_method_53_code 35 = .ok (.iconst 1, 1) := by decide +kernel
theorem dX10_goesIn_36 : decode prog_37_method_53_code 36 = .ok (.iadd, 1) := by decide +kernel
theorem dX10_goesIn_37 : decode prog_37_method_53_code 37 = .ok (.putfield 474, 3) := by decide +kernel
theorem dX10_goesIn_40 : decode prog_37_method_53_code 40 = .ok (.return_, 1) := by decide +kernel
theorem dX10_isInt_0 : decode prog_37_method_50_code 0 = .ok (.aload_n 0, 1) := by decide +kernel
theorem dX10_isInt_1 : decode prog_37_method_50_code 1 = .ok (.getfield 183, 3) := by decide +kernel
theorem dX10_isInt_4 : decode prog_37_method_50_code 4 = .ok (.iload_n 1, 1) := by decide +kernel
theorem dX10_isInt_5 : decode prog_37_method_50_code 5 = .ok (.iconst 2, 1) := by decide +kernel
theorem dX10_isInt_6 : decode prog_37_method_50_code 6 = .ok (.iadd, 1) := by decide +kernel
theorem dX10_isInt_7 : decode prog_37_method_50_code 7 = .ok (.iconst 2, 1) := by decide +kernel
theorem dX10_isInt_8 : decode prog_37_method_50_code 8 = .ok (.iload_n 2, 1) := by decide +kernel
theorem dX10_isInt_9 : decode prog_37_method_50_code 9 = .ok (.imul, 1) := by decide +kernel
theorem dX10_isInt_10 : decode prog_37_method_50_code 10 = .ok (.iadd, 1) := by decide +kernel
theorem dX10_isInt_11 : decode prog_37_method_50_code 11 = .ok (.iaload, 1) := by decide +kernel
theorem dX10_isInt_12 : decode prog_37_method_50_code 12 = .ok (.ifCond .ne 7, 3) := by decide +kernel
theorem dX10_isInt_15 : decode prog_37_method_50_code 15 = .ok (.iconst 1, 1) := by decide +kernel
theorem dX10_isInt_16 : decode prog_37_method_50_code 16 = .ok (.goto 4, 3) := by decide +kernel
theorem dX10_isInt_19 : decode prog_37_method_50_code 19 = .ok (.iconst 0, 1) := by decide +kernel
theorem dX10_isInt_20 : decode prog_37_method_50_code 20 = .ok (.ireturn, 1) := by decide +kernel
theorem dX10_begins_0 : decode prog_37_method_63_code 0 = .ok (.aload_n 0, 1) := by decide +kernel
theorem dX10_begins_1 : decode prog_37_method_63_code 1 = .ok (.getfield 519, 3) := by decide +kernel
theorem dX10_begins_4 : decode prog_37_method_63_code 4 = .ok (.istore_n 3, 1) := by decide +kernel
theorem dX10_begins_5 : decode prog_37_method_63_code 5 = .ok (.aload_n 0, 1) := by decide +kernel
theorem dX10_begins_6 : decode prog_37_method_63_code 6 = .ok (.getfield 183, 3) := by decide +kernel
theorem dX10_begins_9 : decode prog_37_method_63_code 9 = .ok (.iload_n 3, 1) := by decide +kernel
theorem dX10_begins_10 : decode prog_37_method_63_code 10 = .ok (.iload_n 1, 1) := by decide +kernel
theorem dX10_begins_11 : decode prog_37_method_63_code 11 = .ok (.iastore, 1) := by decide +kernel
theorem dX10_begins_12 : decode prog_37_method_63_code 12 = .ok (.aload_n 0, 1) := by decide +kernel
theorem dX10_begins_13 : decode prog_37_method_63_code 13 = .ok (.getfield 183, 3) := by decide +kernel
theorem dX10_begins_16 : decode prog_37_method_63_code 16 = .ok (.iload_n 3, 1) := by decide +kernel
theorem dX10_begins_17 : decode prog_37_method_63_code 17 = .ok (.iconst 1, 1) := by decide +kernel
theorem dX10_begins_18 : decode prog_37_method_63_code 18 = .ok (.iadd, 1) := by decide +kernel
theorem dX10_begins_19 : decode prog_37_method_63_code 19 = .ok (.iload_n 2, 1) := by decide +kernel
theorem dX10_begins_20 : decode prog_37_method_63_code 20 = .ok (.iastore, 1) := by decide +kernel
theorem dX10_begins_21 : decode prog_37_method_63_code 21 = .ok (.aload_n 0, 1) := by decide +kernel
theorem dX10_begins_22 : decode prog_37_method_63_code 22 = .ok (.iload_n 3, 1) := by decide +kernel
theorem dX10_begins_23 : decode prog_37_method_63_code 23 = .ok (.iconst 2, 1) := by decide +kernel
theorem dX10_begins_24 : decode prog_37_method_63_code 24 = .ok (.iadd, 1) := by decide +kernel
theorem dX10_begins_25 : decode prog_37_method_63_code 25 = .ok (.putfield 519, 3) := by decide +kernel
theorem dX10_begins_28 : decode prog_37_method_63_code 28 = .ok (.iload_n 3, 1) := by decide +kernel
theorem dX10_begins_29 : decode prog_37_method_63_code 29 = .ok (.ireturn, 1) := by decide +kernel
theorem dX10_gives_0 : decode prog_37_method_62_code 0 = .ok (.aload_n 0, 1) := by decide +kernel
theorem dX10_gives_1 : decode prog_37_method_62_code 1 = .ok (.dup, 1) := by decide +kernel
theorem dX10_gives_2 : decode prog_37_method_62_code 2 = .ok (.getfield 513, 3) := by decide +kernel
theorem dX10_gives_5 : decode prog_37_method_62_code 5 = .ok (.aload_n 0, 1) := by decide +kernel
theorem dX10_gives_6 : decode prog_37_method_62_code 6 = .ok (.iload_n 1, 1) := by decide +kernel
theorem dX10_gives_7 : decode prog_37_method_62_code 7 = .ok (.invokevirtual 516, 3) := by decide +kernel
theorem dX10_gives_10 : decode prog_37_method_62_code 10 = .ok (.iadd, 1) := by decide +kernel
theorem dX10_gives_11 : decode prog_37_method_62_code 11 = .ok (.putfield 513, 3) := by decide +kernel
theorem dX10_gives_14 : decode prog_37_method_62_code 14 = .ok (.aload_n 0, 1) := by decide +kernel
theorem dX10_gives_15 : decode prog_37_method_62_code 15 = .ok (.getfield 513, 3) := by decide +kernel
theorem dX10_gives_18 : decode prog_37_method_62_code 18 = .ok (.sipush 3000, 3) := by decide +kernel
theorem dX10_gives_21 : decode prog_37_method_62_code 21 = .ok (.if_icmp .le 13, 3) := by decide +kernel
theorem dX10_gives_24 : decode prog_37_method_62_code 24 = .ok (.aload_n 0, 1) := by decide +kernel
theorem dX10_gives_25 : decode prog_37_method_62_code 25 = .ok (.bipush 11, 2) := by decide +kernel
theorem dX10_gives_27 : decode prog_37_method_62_code 27 = .ok (.aload_n 0, 1) := by decide +kernel
theorem dX10_gives_28 : decode prog_37_method_62_code 28 = .ok (.getfield 507, 3) := by decide +kernel
theorem dX10_gives_31 : decode prog_37_method_62_code 31 = .ok (.invokevirtual 510, 3) := by decide +kernel
theorem dX10_gives_34 : decode prog_37_method_62_code 34 = .ok (.aload_n 0, 1) := by decide +kernel
theorem dX10_gives_35 : decode prog_37_method_62_code 35 = .ok (.iconst 1, 1) := by decide +kernel
theorem dX10_gives_36 : decode prog_37_method_62_code 36 = .ok (.iload_n 1, 1) := by decide +kernel
theorem dX10_gives_37 : decode prog_37_method_62_code 37 = .ok (.invokevirtual 464, 3) := by decide +kernel
theorem dX10_gives_40 : decode prog_37_method_62_code 40 = .ok (.return_, 1) := by decide +kernel
theorem dX10_counts_0 : decode prog_37_method_56_code 0 = .ok (.aload_n 0, 1) := by decide +kernel
theorem dX10_counts_1 : decode prog_37_method_56_code 1 = .ok (.getfield 183, 3) := by decide +kernel
theorem dX10_counts_4 : decode prog_37_method_56_code 4 = .ok (.iload_n 1, 1) := by decide +kernel
theorem dX10_counts_5 : decode prog_37_method_56_code 5 = .ok (.iaload, 1) := by decide +kernel
theorem dX10_counts_6 : decode prog_37_method_56_code 6 = .ok (.iconst 1, 1) := by decide +kernel
theorem dX10_counts_7 : decode prog_37_method_56_code 7 = .ok (.if_icmp .ne 11, 3) := by decide +kernel
theorem dX10_counts_10 : decode prog_37_method_56_code 10 = .ok (.iconst 4, 1) := by decide +kernel
theorem dX10_counts_11 : decode prog_37_method_56_code 11 = .ok (.aload_n 0, 1) := by decide +kernel
theorem dX10_counts_12 : decode prog_37_method_56_code 12 = .ok (.iload_n 1, 1) := by decide +kernel
theorem dX10_counts_13 : decode prog_37_method_56_code 13 = .ok (.invokevirtual 477, 3) := by decide +kernel
theorem dX10_counts_16 : decode prog_37_method_56_code 16 = .ok (.iadd, 1) := by decide +kernel
theorem dX10_counts_17 : decode prog_37_method_56_code 17 = .ok (.ireturn, 1) := by decide +kernel
theorem dX10_counts_18 : decode prog_37_method_56_code 18 = .ok (.aload_n 0, 1) := by decide +kernel
theorem dX10_counts_19 : decode prog_37_method_56_code 19 = .ok (.getfield 183, 3) := by decide +kernel
theorem dX10_counts_22 : decode prog_37_method_56_code 22 = .ok (.iload_n 1, 1) := by decide +kernel
theorem dX10_counts_23 : decode prog_37_method_56_code 23 = .ok (.iaload, 1) := by decide +kernel
theorem dX10_counts_24 : decode prog_37_method_56_code 24 = .ok (.iconst 3, 1) := by decide +kernel
theorem dX10_counts_25 : decode prog_37_method_56_code 25 = .ok (.if_icmp .ne 13, 3) := by decide +kernel
theorem dX10_counts_28 : decode prog_37_method_56_code 28 = .ok (.iconst 4, 1) := by decide +kernel
theorem dX10_counts_29 : decode prog_37_method_56_code 29 = .ok (.iconst 2, 1) := by decide +kernel
theorem dX10_counts_30 : decode prog_37_method_56_code 30 = .ok (.aload_n 0, 1) := by decide +kernel
theorem dX10_counts_31 : decode prog_37_method_56_code 31 = .ok (.iload_n 1, 1) := by decide +kernel
theorem dX10_counts_32 : decode prog_37_method_56_code 32 = .ok (.invokevirtual 477, 3) := by decide +kernel
theorem dX10_counts_35 : decode prog_37_method_56_code 35 = .ok (.imul, 1) := by decide +kernel
theorem dX10_counts_36 : decode prog_37_method_56_code 36 = .ok (.iadd, 1) := by decide +kernel
theorem dX10_counts_37 : decode prog_37_method_56_code 37 = .ok (.ireturn, 1) := by decide +kernel
theorem dX10_counts_38 : decode prog_37_method_56_code 38 = .ok (.iconst 4, 1) := by decide +kernel
theorem dX10_counts_39 : decode prog_37_method_56_code 39 = .ok (.istore_n 2, 1) := by decide +kernel
theorem dX10_counts_40 : decode prog_37_method_56_code 40 = .ok (.iconst 0, 1) := by decide +kernel
theorem dX10_counts_41 : decode prog_37_method_56_code 41 = .ok (.istore_n 3, 1) := by decide +kernel
theorem dX10_counts_42 : decode prog_37_method_56_code 42 = .ok (.iload_n 3, 1) := by decide +kernel
theorem dX10_counts_43 : decode prog_37_method_56_code 43 = .ok (.aload_n 0, 1) := by decide +kernel
theorem dX10_counts_44 : decode prog_37_method_56_code 44 = .ok (.iload_n 1, 1) := by decide +kernel
theorem dX10_counts_45 : decode prog_37_method_56_code 45 = .ok (.invokevirtual 477, 3) := by decide +kernel
theorem dX10_counts_48 : decode prog_37_method_56_code 48 = .ok (.if_icmp .ge 24, 3) := by decide +kernel
theorem dX10_counts_51 : decode prog_37_method_56_code 51 = .ok (.iload_n 2, 1) := by decide +kernel
theorem dX10_counts_52 : decode prog_37_method_56_code 52 = .ok (.iconst 4, 1) := by decide +kernel
theorem dX10_counts_53 : decode prog_37_method_56_code 53 = .ok (.aload_n 0, 1) := by decide +kernel
theorem dX10_counts_54 : decode prog_37_method_56_code 54 = .ok (.aload_n 0, 1) := by decide +kernel
theorem dX10_counts_55 : decode prog_37_method_56_code 55 = .ok (.iload_n 1, 1) := by decide +kernel
theorem dX10_counts_56 : decode prog_37_method_56_code 56 = .ok (.iload_n 3, 1) := by decide +kernel
theorem dX10_counts_57 : decode prog_37_method_56_code 57 = .ok (.invokevirtual 470, 3) := by decide +kernel
theorem dX10_counts_60 : decode prog_37_method_56_code 60 = .ok (.invokevirtual 477, 3) := by decide +kernel
theorem dX10_counts_63 : decode prog_37_method_56_code 63 = .ok (.iadd, 1) := by decide +kernel
theorem dX10_counts_64 : decode prog_37_method_56_code 64 = .ok (.iadd, 1) := by decide +kernel
theorem dX10_counts_65 : decode prog_37_method_56_code 65 = .ok (.istore_n 2, 1) := by decide +kernel
theorem dX10_counts_66 : decode prog_37_method_56_code 66 = .ok (.iinc 3 1, 3) := by decide +kernel
theorem dX10_counts_69 : decode prog_37_method_56_code 69 = .ok (.goto (-27), 3) := by decide +kernel
theorem dX10_counts_72 : decode prog_37_method_56_code 72 = .ok (.iload_n 2, 1) := by decide +kernel
theorem dX10_counts_73 : decode prog_37_method_56_code 73 = .ok (.ireturn, 1) := by decide +kernel
theorem dX10_rowOf_0 : decode prog_37_method_65_code 0 = .ok (.aload_n 0, 1) := by decide +kernel
theorem dX10_rowOf_1 : decode prog_37_method_65_code 1 = .ok (.iconst 1, 1) := by decide +kernel
theorem dX10_rowOf_2 : decode prog_37_method_65_code 2 = .ok (.aload_n 0, 1) := by decide +kernel
theorem dX10_rowOf_3 : decode prog_37_method_65_code 3 = .ok (.getfield 461, 3) := by decide +kernel
theorem dX10_rowOf_6 : decode prog_37_method_65_code 6 = .ok (.iload_n 1, 1) := by decide +kernel
theorem dX10_rowOf_7 : decode prog_37_method_65_code 7 = .ok (.isub, 1) := by decide +kernel
theorem dX10_rowOf_8 : decode prog_37_method_65_code 8 = .ok (.invokevirtual 525, 3) := by decide +kernel
theorem dX10_rowOf_11 : decode prog_37_method_65_code 11 = .ok (.istore_n 2, 1) := by decide +kernel
theorem dX10_rowOf_12 : decode prog_37_method_65_code 12 = .ok (.iload_n 1, 1) := by decide +kernel
theorem dX10_rowOf_13 : decode prog_37_method_65_code 13 = .ok (.istore_n 3, 1) := by decide +kernel
theorem dX10_rowOf_14 : decode prog_37_method_65_code 14 = .ok (.iload_n 3, 1) := by decide +kernel
theorem dX10_rowOf_15 : decode prog_37_method_65_code 15 = .ok (.aload_n 0, 1) := by decide +kernel
theorem dX10_rowOf_16 : decode prog_37_method_65_code 16 = .ok (.getfield 461, 3) := by decide +kernel
theorem dX10_rowOf_19 : decode prog_37_method_65_code 19 = .ok (.if_icmp .ge 34, 3) := by decide +kernel
theorem dX10_rowOf_22 : decode prog_37_method_65_code 22 = .ok (.aload_n 0, 1) := by decide +kernel
theorem dX10_rowOf_23 : decode prog_37_method_65_code 23 = .ok (.getfield 183, 3) := by decide +kernel
theorem dX10_rowOf_26 : decode prog_37_method_65_code 26 = .ok (.aload_n 0, 1) := by decide +kernel
theorem dX10_rowOf_27 : decode prog_37_method_65_code 27 = .ok (.getfield 519, 3) := by decide +kernel
theorem dX10_rowOf_30 : decode prog_37_method_65_code 30 = .ok (.aload_n 0, 1) := by decide +kernel
theorem dX10_rowOf_31 : decode prog_37_method_65_code 31 = .ok (.getfield 189, 3) := by decide +kernel
theorem dX10_rowOf_34 : decode prog_37_method_65_code 34 = .ok (.iload_n 3, 1) := by decide +kernel
theorem dX10_rowOf_35 : decode prog_37_method_65_code 35 = .ok (.iaload, 1) := by decide +kernel
theorem dX10_rowOf_36 : decode prog_37_method_65_code 36 = .ok (.iastore, 1) := by decide +kernel
theorem dX10_rowOf_37 : decode prog_37_method_65_code 37 = .ok (.aload_n 0, 1) := by decide +kernel
theorem dX10_rowOf_38 : decode prog_37_method_65_code 38 = .ok (.dup, 1) := by decide +kernel
theorem dX10_rowOf_39 : decode prog_37_method_65_code 39 = .ok (.getfield 519, 3) := by decide +kernel
theorem dX10_rowOf_42 : decode prog_37_method_65_code 42 = .ok (.iconst 1, 1) := by decide +kernel
theorem dX10_rowOf_43 : decode prog_37_method_65_code 43 = .ok (.iadd, 1) := by decide +kernel
theorem dX10_rowOf_44 : decode prog_37_method_65_code 44 = .ok (.putfield 519, 3) := by decide +kernel
theorem dX10_rowOf_47 : decode prog_37_method_65_code 47 = .ok (.iinc 3 1, 3) := by decide +kernel
theorem dX10_rowOf_50 : decode prog_37_method_65_code 50 = .ok (.goto (-36), 3) := by decide +kernel
theorem dX10_rowOf_53 : decode prog_37_method_65_code 53 = .ok (.aload_n 0, 1) := by decide +kernel
theorem dX10_rowOf_54 : decode prog_37_method_65_code 54 = .ok (.iload_n 1, 1) := by decide +kernel
theorem dX10_rowOf_55 : decode prog_37_method_65_code 55 = .ok (.putfield 461, 3) := by decide +kernel
theorem dX10_rowOf_58 : decode prog_37_method_65_code 58 = .ok (.aload_n 0, 1) := by decide +kernel
theorem dX10_rowOf_59 : decode prog_37_method_65_code 59 = .ok (.iconst 1, 1) := by decide +kernel
theorem dX10_rowOf_60 : decode prog_37_method_65_code 60 = .ok (.iload_n 2, 1) := by decide +kernel
theorem dX10_rowOf_61 : decode prog_37_method_65_code 61 = .ok (.invokevirtual 464, 3) := by decide +kernel
theorem dX10_rowOf_64 : decode prog_37_method_65_code 64 = .ok (.return_, 1) := by decide +kernel
theorem dX10_two_0 : decode prog_37_method_81_code 0 = .ok (.aload_n 0, 1) := by decide +kernel
theorem dX10_two_1 : decode prog_37_method_81_code 1 = .ok (.getfield 186, 3) := by decide +kernel
theorem dX10_two_4 : decode prog_37_method_81_code 4 = .ok (.aload_n 0, 1) := by decide +kernel
theorem dX10_two_5 : decode prog_37_method_81_code 5 = .ok (.getfield 461, 3) := by decide +kernel
theorem dX10_two_8 : decode prog_37_method_81_code 8 = .ok (.iconst 2, 1) := by decide +kernel
theorem dX10_two_9 : decode prog_37_method_81_code 9 = .ok (.isub, 1) := by decide +kernel
theorem dX10_two_10 : decode prog_37_method_81_code 10 = .ok (.iaload, 1) := by decide +kernel
theorem dX10_two_11 : decode prog_37_method_81_code 11 = .ok (.istore_n 2, 1) := by decide +kernel
theorem dX10_two_12 : decode prog_37_method_81_code 12 = .ok (.aload_n 0, 1) := by decide +kernel
theorem dX10_two_13 : decode prog_37_method_81_code 13 = .ok (.getfield 189, 3) := by decide +kernel
theorem dX10_two_16 : decode prog_37_method_81_code 16 = .ok (.aload_n 0, 1) := by decide +kernel
theorem dX10_two_17 : decode prog_37_method_81_code 17 = .ok (.getfield 461, 3) := by decide +kernel
theorem dX10_two_20 : decode prog_37_method_81_code 20 = .ok (.iconst 2, 1) := by decide +kernel
theorem dX10_two_21 : decode prog_37_method_81_code 21 = .ok (.isub, 1) := by decide +kernel
theorem dX10_two_22 : decode prog_37_method_81_code 22 = .ok (.iaload, 1) := by decide +kernel
theorem dX10_two_23 : decode prog_37_method_81_code 23 = .ok (.istore_n 3, 1) := by decide +kernel
theorem dX10_two_24 : decode prog_37_method_81_code 24 = .ok (.aload_n 0, 1) := by decide +kernel
theorem dX10_two_25 : decode prog_37_method_81_code 25 = .ok (.getfield 186, 3) := by decide +kernel
theorem dX10_two_28 : decode prog_37_method_81_code 28 = .ok (.aload_n 0, 1) := by decide +kernel
theorem dX10_two_29 : decode prog_37_method_81_code 29 = .ok (.getfield 461, 3) := by decide +kernel
theorem dX10_two_32 : decode prog_37_method_81_code 32 = .ok (.iconst 1, 1) := by decide +kernel
theorem dX10_two_33 : decode prog_37_method_81_code 33 = .ok (.isub, 1) := by decide +kernel
theorem dX10_two_34 : decode prog_37_method_81_code 34 = .ok (.iaload, 1) := by decide +kernel
theorem dX10_two_35 : decode prog_37_method_81_code 35 = .ok (.istore 4, 2) := by decide +kernel
theorem dX10_two_37 : decode prog_37_method_81_code 37 = .ok (.aload_n 0, 1) := by decide +kernel
theorem dX10_two_38 : decode prog_37_method_81_code 38 = .ok (.getfield 189, 3) := by decide +kernel
theorem dX10_two_41 : decode prog_37_method_81_code 41 = .ok (.aload_n 0, 1) := by decide +kernel
theorem dX10_two_42 : decode prog_37_method_81_code 42 = .ok (.getfield 461, 3) := by decide +kernel
theorem dX10_two_45 : decode prog_37_method_81_code 45 = .ok (.iconst 1, 1) := by decide +kernel
theorem dX10_two_46 : decode prog_37_method_81_code 46 = .ok (.isub, 1) := by decide +kernel
theorem dX10_two_47 : decode prog_37_method_81_code 47 = .ok (.iaload, 1) := by decide +kernel
theorem dX10_two_48 : decode prog_37_method_81_code 48 = .ok (.istore 5, 2) := by decide +kernel
theorem dX10_two_50 : decode prog_37_method_81_code 50 = .ok (.aload_n 0, 1) := by decide +kernel
theorem dX10_two_51 : decode prog_37_method_81_code 51 = .ok (.aload_n 0, 1) := by decide +kernel
theorem dX10_two_52 : decode prog_37_method_81_code 52 = .ok (.getfield 461, 3) := by decide +kernel
theorem dX10_two_55 : decode prog_37_method_81_code 55 = .ok (.iconst 2, 1) := by decide +kernel
theorem dX10_two_56 : decode prog_37_method_81_code 56 = .ok (.isub, 1) := by decide +kernel
theorem dX10_two_57 : decode prog_37_method_81_code 57 = .ok (.invokevirtual 631, 3) := by decide +kernel
theorem dX10_two_60 : decode prog_37_method_81_code 60 = .ok (.istore 6, 2) := by decide +kernel
theorem dX10_two_62 : decode prog_37_method_81_code 62 = .ok (.aload_n 0, 1) := by decide +kernel
theorem dX10_two_63 : decode prog_37_method_81_code 63 = .ok (.aload_n 0, 1) := by decide +kernel
theorem dX10_two_64 : decode prog_37_method_81_code 64 = .ok (.getfield 461, 3) := by decide +kernel
theorem dX10_two_67 : decode prog_37_method_81_code 67 = .ok (.iconst 1, 1) := by decide +kernel
theorem dX10_two_68 : decode prog_37_method_81_code 68 = .ok (.isub, 1) := by decide +kernel
theorem dX10_two_69 : decode prog_37_method_81_code 69 = .ok (.invokevirtual 631, 3) := by decide +kernel
theorem dX10_two_72 : decode prog_37_method_81_code 72 = .ok (.istore 7, 2) := by decide +kernel
theorem dX10_two_74 : decode prog_37_method_81_code 74 = .ok (.aload_n 0, 1) := by decide +kernel
theorem dX10_two_75 : decode prog_37_method_81_code 75 = .ok (.dup, 1) := by decide +kernel
theorem dX10_two_76 : decode prog_37_method_81_code 76 = .ok (.getfield 461, 3) := by decide +kernel
theorem dX10_two_79 : decode prog_37_method_81_code 79 = .ok (.iconst 2, 1) := by decide +kernel
theorem dX10_two_80 : decode prog_37_method_81_code 80 = .ok (.isub, 1) := by decide +kernel
theorem dX10_two_81 : decode prog_37_method_81_code 81 = .ok (.putfield 461, 3) := by decide +kernel
theorem dX10_two_84 : decode prog_37_method_81_code 84 = .ok (.aload_n 0, 1) := by decide +kernel
theorem dX10_two_85 : decode prog_37_method_81_code 85 = .ok (.getfield 461, 3) := by decide +kernel
theorem dX10_two_88 : decode prog_37_method_81_code 88 = .ok (.istore 8, 2) := by decide +kernel
theorem dX10_two_90 : decode prog_37_method_81_code 90 = .ok (.iload_n 1, 1) := by decide +kernel
theorem dX10_two_91 : decode prog_37_method_81_code 91 = .ok (.bipush 47, 2) := by decide +kernel
theorem dX10_two_93 : decode prog_37_method_81_code 93 = .ok (.if_icmp .eq 9, 3) := by decide +kernel
theorem dX10_two_96 : decode prog_37_method_81_code 96 = .ok (.iload_n 1, 1) := by decide +kernel
theorem dX10_two_97 : decode prog_37_method_81_code 97 = .ok (.bipush 37, 2) := by decide +kernel
theorem dX10_two_99 : decode prog_37_method_81_code 99 = .ok (.if_icmp .ne 7, 3) := by decide +kernel
theorem dX10_two_102 : decode prog_37_method_81_code 102 = .ok (.iconst 1, 1) := by decide +kernel
theorem dX10_two_103 : decode prog_37_method_81_code 103 = .ok (.goto 4, 3) := by decide +kernel
theorem dX10_two_106 : decode prog_37_method_81_code 106 = .ok (.iconst 0, 1) := by decide +kernel
theorem dX10_two_107 : decode prog_37_method_81_code 107 = .ok (.istore 9, 2) := by decide +kernel
theorem dX10_two_109 : decode prog_37_method_81_code 109 = .ok (.iload 6, 2) := by decide +kernel
theorem dX10_two_111 : decode prog_37_method_81_code 111 = .ok (.iconst 3, 1) := by decide +kernel
theorem dX10_two_112 : decode prog_37_method_81_code 112 = .ok (.if_icmp .eq 9, 3) := by decide +kernel
theorem dX10_two_115 : decode prog_37_method_81_code 115 = .ok (.iload 7, 2) := by decide +kernel
theorem dX10_two_117 : decode prog_37_method_81_code 117 = .ok (.iconst 3, 1) := by decide +kernel
theorem dX10_two_118 : decode prog_37_method_81_code 118 = .ok (.if_icmp .ne 13, 3) := by decide +kernel
theorem dX10_two_121 : decode prog_37_method_81_code 121 = .ok (.aload_n 0, 1) := by decide +kernel
theorem dX10_two_122 : decode prog_37_method_81_code 122 = .ok (.iconst 3, 1) := by decide +kernel
theorem dX10_two_123 : decode prog_37_method_81_code 123 = .ok (.aload_n 0, 1) := by decide +kernel
theorem dX10_two_124 : decode prog_37_method_81_code 124 = .ok (.getfield 507, 3) := by decide +kernel
theorem dX10_two_127 : decode prog_37_method_81_code 127 = .ok (.invokevirtual 510, 3) := by decide +kernel
theorem dX10_two_130 : decode prog_37_method_81_code 130 = .ok (.return_, 1) := by decide +kernel
theorem dX10_two_131 : decode prog_37_method_81_code 131 = .ok (.iload 6, 2) := by decide +kernel
theorem dX10_two_133 : decode prog_37_method_81_code 133 = .ok (.ifCond .ne 44, 3) := by decide +kernel
theorem dX10_two_136 : decode prog_37_method_81_code 136 = .ok (.iload 7, 2) := by decide +kernel
theorem dX10_two_138 : decode prog_37_method_81_code 138 = .ok (.ifCond .ne 39, 3) := by decide +kernel
theorem dX10_two_141 : decode prog_37_method_81_code 141 = .ok (.iload 9, 2) := by decide +kernel
theorem dX10_two_143 : decode prog_37_method_81_code 143 = .ok (.ifCond .eq 21, 3) := by decide +kernel
theorem dX10_two_146 : decode prog_37_method_81_code 146 = .ok (.iload 5, 2) := by decide +kernel
theorem dX10_two_148 : decode prog_37_method_81_code 148 = .ok (.ifCond .ne 16, 3) := by decide +kernel
theorem dX10_two_151 : decode prog_37_method_81_code 151 = .ok (.aload_n 0, 1) := by decide +kernel
theorem dX10_two_152 : decode prog_37_method_81_code 152 = .ok (.bipush 6, 2) := by decide +kernel
theorem dX10_two_154 : decode prog_37_method_81_code 154 = .ok (.aload_n 0, 1) := by decide +kernel
theorem dX10_two_155 : decode prog_37_method_81_code 155 = .ok (.getfield 507, 3) := by decide +kernel
theorem dX10_two_158 : decode prog_37_method_81_code 158 = .ok (.invokevirtual 510, 3) := by decide +kernel
theorem dX10_two_161 : decode prog_37_method_81_code 161 = .ok (.goto 15, 3) := by decide +kernel
theorem dX10_two_164 : decode prog_37_method_81_code 164 = .ok (.aload_n 0, 1) := by decide +kernel
theorem dX10_two_165 : decode prog_37_method_81_code 165 = .ok (.iconst 0, 1) := by decide +kernel
theorem dX10_two_166 : decode prog_37_method_81_code 166 = .ok (.iload_n 1, 1) := by decide +kernel
theorem dX10_two_167 : decode prog_37_method_81_code 167 = .ok (.iload_n 3, 1) := by decide +kernel
theorem dX10_two_168 : decode prog_37_method_81_code 168 = .ok (.iload 5, 2) := by decide +kernel
theorem dX10_two_170 : decode prog_37_method_81_code 170 = .ok (.invokestatic 637, 3) := by decide +kernel
theorem dX10_two_173 : decode prog_37_method_81_code 173 = .ok (.invokevirtual 464, 3) := by decide +kernel
theorem dX10_two_176 : decode prog_37_method_81_code 176 = .ok (.return_, 1) := by decide +kernel
theorem dX10_two_177 : decode prog_37_method_81_code 177 = .ok (.iload 6, 2) := by decide +kernel
theorem dX10_two_179 : decode prog_37_method_81_code 179 = .ok (.iconst 2, 1) := by decide +kernel
theorem dX10_two_180 : decode prog_37_method_81_code 180 = .ok (.if_icmp .eq 9, 3) := by decide +kernel
theorem dX10_two_183 : decode prog_37_method_81_code 183 = .ok (.iload 7, 2) := by decide +kernel
theorem dX10_two_185 : decode prog_37_method_81_code 185 = .ok (.iconst 2, 1) := by decide +kernel
theorem dX10_two_186 : decode prog_37_method_81_code 186 = .ok (.if_icmp .ne 7, 3) := by decide +kernel
theorem dX10_two_189 : decode prog_37_method_81_code 189 = .ok (.iconst 1, 1) := by decide +kernel
theorem dX10_two_190 : decode prog_37_method_81_code 190 = .ok (.goto 4, 3) := by decide +kernel
theorem dX10_two_193 : decode prog_37_method_81_code 193 = .ok (.iconst 0, 1) := by decide +kernel
theorem dX10_two_194 : decode prog_37_method_81_code 194 = .ok (.istore 10, 2) := by decide +kernel
theorem dX10_two_196 : decode prog_37_method_81_code 196 = .ok (.iload 6, 2) := by decide +kernel
theorem dX10_two_198 : decode prog_37_method_81_code 198 = .ok (.iconst 2, 1) := by decide +kernel
theorem dX10_two_199 : decode prog_37_method_81_code 199 = .ok (.if_icmp .ne 11, 3) := by decide +kernel
theorem dX10_two_202 : decode prog_37_method_81_code 202 = .ok (.aload_n 0, 1) := by decide +kernel
theorem dX10_two_203 : decode prog_37_method_81_code 203 = .ok (.iload_n 3, 1) := by decide +kernel
theorem dX10_two_204 : decode prog_37_method_81_code 204 = .ok (.invokevirtual 477, 3) := by decide +kernel
theorem dX10_two_207 : decode prog_37_method_81_code 207 = .ok (.goto 19, 3) := by decide +kernel
theorem dX10_two_210 : decode prog_37_method_81_code 210 = .ok (.iload 7, 2) := by decide +kernel
theorem dX10_two_212 : decode prog_37_method_81_code 212 = .ok (.iconst 2, 1) := by decide +kernel
theorem dX10_two_213 : decode prog_37_method_81_code 213 = .ok (.if_icmp .ne 12, 3) := by decide +kernel
theorem dX10_two_216 : decode prog_37_method_81_code 216 = .ok (.aload_n 0, 1) := by decide +kernel
theorem dX10_two_217 : decode prog_37_method_81_code 217 = .ok (.iload 5, 2) := by decide +kernel
theorem dX10_two_219 : decode prog_37_method_81_code 219 = .ok (.invokevirtual 477, 3) := by decide +kernel
theorem dX10_two_222 : decode prog_37_method_81_code 222 = .ok (.goto 4, 3) := by decide +kernel
theorem dX10_two_225 : decode prog_37_method_81_code 225 = .ok (.iconst 1, 1) := by decide +kernel
theorem dX10_two_226 : decode prog_37_method_81_code 226 = .ok (.istore 11, 2) := by decide +kernel
theorem dX10_two_228 : decode prog_37_method_81_code 228 = .ok (.iload 6, 2) := by decide +kernel
theorem dX10_two_230 : decode prog_37_method_81_code 230 = .ok (.iconst 2, 1) := by decide +kernel
theorem dX10_two_231 : decode prog_37_method_81_code 231 = .ok (.if_icmp .ne 27, 3) := by decide +kernel
theorem dX10_two_234 : decode prog_37_method_81_code 234 = .ok (.iload 7, 2) := by decide +kernel
theorem dX10_two_236 : decode prog_37_method_81_code 236 = .ok (.iconst 2, 1) := by decide +kernel
theorem dX10_two_237 : decode prog_37_method_81_code 237 = .ok (.if_icmp .ne 21, 3) := by decide +kernel
theorem dX10_two_240 : decode prog_37_method_81_code 240 = .ok (.aload_n 0, 1) := by decide +kernel
theorem dX10_two_241 : decode prog_37_method_81_code 241 = .ok (.iload_n 3, 1) := by decide +kernel
theorem dX10_two_242 : decode prog_37_method_81_code 242 = .ok (.invokevirtual 477, 3) := by decide +kernel
theorem dX10_two_245 : decode prog_37_method_81_code 245 = .ok (.aload_n 0, 1) := by decide +kernel
theorem dX10_two_246 : decode prog_37_method_81_code 246 = .ok (.iload 5, 2) := by decide +kernel
theorem dX10_two_248 : decode prog_37_method_81_code 248 = .ok (.invokevirtual 477, 3) := by decide +kernel
theorem dX10_two_251 : decode prog_37_method_81_code 251 = .ok (.if_icmp .eq 7, 3) := by decide +kernel
theorem dX10_two_254 : decode prog_37_method_81_code 254 = .ok (.iconst 1, 1) := by decide +kernel
theorem dX10_two_255 : decode prog_37_method_81_code 255 = .ok (.goto 4, 3) := by decide +kernel
theorem dX10_two_258 : decode prog_37_method_81_code 258 = .ok (.iconst 0, 1) := by decide +kernel
theorem dX10_two_259 : decode prog_37_method_81_code 259 = .ok (.istore 12, 2) := by decide +kernel
theorem dX10_two_261 : decode prog_37_method_81_code 261 = .ok (.iconst 0, 1) := by decide +kernel
theorem dX10_two_262 : decode prog_37_method_81_code 262 = .ok (.istore 13, 2) := by decide +kernel
theorem dX10_two_264 : decode prog_37_method_81_code 264 = .ok (.iload 13, 2) := by decide +kernel
theorem dX10_two_266 : decode prog_37_method_81_code 266 = .ok (.iload 11, 2) := by decide +kernel
theorem dX10_two_268 : decode prog_37_method_81_code 268 = .ok (.if_icmp .ge 68, 3) := by decide +kernel
theorem dX10_two_271 : decode prog_37_method_81_code 271 = .ok (.iload 12, 2) := by decide +kernel
theorem dX10_two_273 : decode prog_37_method_81_code 273 = .ok (.ifCond .ne 63, 3) := by decide +kernel
theorem dX10_two_276 : decode prog_37_method_81_code 276 = .ok (.aload_n 0, 1) := by decide +kernel
theorem dX10_two_277 : decode prog_37_method_81_code 277 = .ok (.iload_n 2, 1) := by decide +kernel
theorem dX10_two_278 : decode prog_37_method_81_code 278 = .ok (.iload_n 3, 1) := by decide +kernel
theorem dX10_two_279 : decode prog_37_method_81_code 279 = .ok (.iload 13, 2) := by decide +kernel
theorem dX10_two_281 : decode prog_37_method_81_code 281 = .ok (.invokevirtual 641, 3) := by decide +kernel
theorem dX10_two_284 : decode prog_37_method_81_code 284 = .ok (.istore 14, 2) := by decide +kernel
theorem dX10_two_286 : decode prog_37_method_81_code 286 = .ok (.aload_n 0, 1) := by decide +kernel
theorem dX10_two_287 : decode prog_37_method_81_code 287 = .ok (.iload 4, 2) := by decide +kernel
theorem dX10_two_289 : decode prog_37_method_81_code 289 = .ok (.iload 5, 2) := by decide +kernel
theorem dX10_two_291 : decode prog_37_method_81_code 291 = .ok (.iload 13, 2) := by decide +kernel
theorem dX10_two_293 : decode prog_37_method_81_code 293 = .ok (.invokevirtual 641, 3) := by decide +kernel
theorem dX10_two_296 : decode prog_37_method_81_code 296 = .ok (.istore 15, 2) := by decide +kernel
theorem dX10_two_298 : decode prog_37_method_81_code 298 = .ok (.iload 14, 2) := by decide +kernel
theorem dX10_two_300 : decode prog_37_method_81_code 300 = .ok (.ifCond .lt 27, 3) := by decide +kernel
theorem dX10_two_303 : decode prog_37_method_81_code 303 = .ok (.iload 15, 2) := by decide +kernel
theorem dX10_two_305 : decode prog_37_method_81_code 305 = .ok (.ifCond .lt 22, 3) := by decide +kernel
theorem dX10_two_308 : decode prog_37_method_81_code 308 = .ok (.aload_n 0, 1) := by decide +kernel
theorem dX10_two_309 : decode prog_37_method_81_code 309 = .ok (.iload 14, 2) := by decide +kernel
theorem dX10_two_311 : decode prog_37_method_81_code 311 = .ok (.invokevirtual 477, 3) := by decide +kernel
theorem dX10_two_314 : decode prog_37_method_81_code 314 = .ok (.aload_n 0, 1) := by decide +kernel
theorem dX10_two_315 : decode prog_37_method_81_code 315 = .ok (.iload 15, 2) := by decide +kernel
theorem dX10_two_317 : decode prog_37_method_81_code 317 = .ok (.invokevirtual 477, 3) := by decide +kernel
theorem dX10_two_320 : decode prog_37_method_81_code 320 = .ok (.if_icmp .eq 7, 3) := by decide +kernel
theorem dX10_two_323 : decode prog_37_method_81_code 323 = .ok (.iconst 1, 1) := by decide +kernel
theorem dX10_two_324 : decode prog_37_method_81_code 324 = .ok (.goto 4, 3) := by decide +kernel
theorem dX10_two_327 : decode prog_37_method_81_code 327 = .ok (.iconst 0, 1) := by decide +kernel
theorem dX10_two_328 : decode prog_37_method_81_code 328 = .ok (.istore 12, 2) := by decide +kernel
theorem dX10_two_330 : decode prog_37_method_81_code 330 = .ok (.iinc 13 1, 3) := by decide +kernel
theorem dX10_two_333 : decode prog_37_method_81_code 333 = .ok (.goto (-69), 3) := by decide +kernel
theorem dX10_two_336 : decode prog_37_method_81_code 336 = .ok (.iload 12, 2) := by decide +kernel
theorem dX10_two_338 : decode prog_37_method_81_code 338 = .ok (.ifCond .eq 13, 3) := by decide +kernel
theorem dX10_two_341 : decode prog_37_method_81_code 341 = .ok (.aload_n 0, 1) := by decide +kernel
theorem dX10_two_342 : decode prog_37_method_81_code 342 = .ok (.iconst 4, 1) := by decide +kernel
theorem dX10_two_343 : decode prog_37_method_81_code 343 = .ok (.aload_n 0, 1) := by decide +kernel
theorem dX10_two_344 : decode prog_37_method_81_code 344 = .ok (.getfield 507, 3) := by decide +kernel
theorem dX10_two_347 : decode prog_37_method_81_code 347 = .ok (.invokevirtual 510, 3) := by decide +kernel
theorem dX10_two_350 : decode prog_37_method_81_code 350 = .ok (.return_, 1) := by decide +kernel
theorem dX10_two_351 : decode prog_37_method_81_code 351 = .ok (.iconst 0, 1) := by decide +kernel
theorem dX10_two_352 : decode prog_37_method_81_code 352 = .ok (.istore 13, 2) := by decide +kernel
theorem dX10_two_354 : decode prog_37_method_81_code 354 = .ok (.iload 13, 2) := by decide +kernel
theorem dX10_two_356 : decode prog_37_method_81_code 356 = .ok (.iload 11, 2) := by decide +kernel
theorem dX10_two_358 : decode prog_37_method_81_code 358 = .ok (.if_icmp .ge 167, 3) := by decide +kernel
theorem dX10_two_361 : decode prog_37_method_81_code 361 = .ok (.aload_n 0, 1) := by decide +kernel
theorem dX10_two_362 : decode prog_37_method_81_code 362 = .ok (.iload_n 2, 1) := by decide +kernel
theorem dX10_two_363 : decode prog_37_method_81_code 363 = .ok (.iload_n 3, 1) := by decide +kernel
theorem dX10_two_364 : decode prog_37_method_81_code 364 = .ok (.iload 13, 2) := by decide +kernel
theorem dX10_two_366 : decode prog_37_method_81_code 366 = .ok (.invokevirtual 641, 3) := by decide +kernel
theorem dX10_two_369 : decode prog_37_method_81_code 369 = .ok (.istore 14, 2) := by decide +kernel
theorem dX10_two_371 : decode prog_37_method_81_code 371 = .ok (.aload_n 0, 1) := by decide +kernel
theorem dX10_two_372 : decode prog_37_method_81_code 372 = .ok (.iload 4, 2) := by decide +kernel
theorem dX10_two_374 : decode prog_37_method_81_code 374 = .ok (.iload 5, 2) := by decide +kernel
theorem dX10_two_376 : decode prog_37_method_81_code 376 = .ok (.iload 13, 2) := by decide +kernel
theorem dX10_two_378 : decode prog_37_method_81_code 378 = .ok (.invokevirtual 641, 3) := by decide +kernel
theorem dX10_two_381 : decode prog_37_method_81_code 381 = .ok (.istore 15, 2) := by decide +kernel
theorem dX10_two_383 : decode prog_37_method_81_code 383 = .ok (.iload 14, 2) := by decide +kernel
theorem dX10_two_385 : decode prog_37_method_81_code 385 = .ok (.ifCond .lt 12, 3) := by decide +kernel
theorem dX10_two_388 : decode prog_37_method_81_code 388 = .ok (.aload_n 0, 1) := by decide +kernel
theorem dX10_two_389 : decode prog_37_method_81_code 389 = .ok (.iload 14, 2) := by decide +kernel
theorem dX10_two_391 : decode prog_37_method_81_code 391 = .ok (.invokevirtual 477, 3) := by decide +kernel
theorem dX10_two_394 : decode prog_37_method_81_code 394 = .ok (.goto 9, 3) := by decide +kernel
theorem dX10_two_397 : decode prog_37_method_81_code 397 = .ok (.aload_n 0, 1) := by decide +kernel
theorem dX10_two_398 : decode prog_37_method_81_code 398 = .ok (.iload 15, 2) := by decide +kernel
theorem dX10_two_400 : decode prog_37_method_81_code 400 = .ok (.invokevirtual 477, 3) := by decide +kernel
theorem dX10_two_403 : decode prog_37_method_81_code 403 = .ok (.istore 16, 2) := by decide +kernel
theorem dX10_two_405 : decode prog_37_method_81_code 405 = .ok (.aload_n 0, 1) := by decide +kernel
theorem dX10_two_406 : decode prog_37_method_81_code 406 = .ok (.getfield 461, 3) := by decide +kernel
theorem dX10_two_409 : decode prog_37_method_81_code 409 = .ok (.istore 17, 2) := by decide +kernel
theorem dX10_two_411 : decode prog_37_method_81_code 411 = .ok (.iconst 0, 1) := by decide +kernel
theorem dX10_two_412 : decode prog_37_method_81_code 412 = .ok (.istore 18, 2) := by decide +kernel
theorem dX10_two_414 : decode prog_37_method_81_code 414 = .ok (.iload 18, 2) := by decide +kernel
theorem dX10_two_416 : decode prog_37_method_81_code 416 = .ok (.iload 16, 2) := by decide +kernel
theorem dX10_two_418 : decode prog_37_method_81_code 418 = .ok (.if_icmp .ge 90, 3) := by decide +kernel
theorem dX10_two_421 : decode prog_37_method_81_code 421 = .ok (.iload 14, 2) := by decide +kernel
theorem dX10_two_423 : decode prog_37_method_81_code 423 = .ok (.ifCond .lt 18, 3) := by decide +kernel
theorem dX10_two_426 : decode prog_37_method_81_code 426 = .ok (.aload_n 0, 1) := by decide +kernel
theorem dX10_two_427 : decode prog_37_method_81_code 427 = .ok (.getfield 183, 3) := by decide +kernel
theorem dX10_two_430 : decode prog_37_method_81_code 430 = .ok (.iload 14, 2) := by decide +kernel
theorem dX10_two_432 : decode prog_37_method_81_code 432 = .ok (.iconst 2, 1) := by decide +kernel
theorem dX10_two_433 : decode prog_37_method_81_code 433 = .ok (.iadd, 1) := by decide +kernel
theorem dX10_two_434 : decode prog_37_method_81_code 434 = .ok (.iload 18, 2) := by decide +kernel
theorem dX10_two_436 : decode prog_37_method_81_code 436 = .ok (.iadd, 1) := by decide +kernel
theorem dX10_two_437 : decode prog_37_method_81_code 437 = .ok (.iaload, 1) := by decide +kernel
theorem dX10_two_438 : decode prog_37_method_81_code 438 = .ok (.goto 4, 3) := by decide +kernel
theorem dX10_two_441 : decode prog_37_method_81_code 441 = .ok (.iload_n 3, 1) := by decide +kernel
theorem dX10_two_442 : decode prog_37_method_81_code 442 = .ok (.istore 19, 2) := by decide +kernel
theorem dX10_two_444 : decode prog_37_method_81_code 444 = .ok (.iload 15, 2) := by decide +kernel
theorem dX10_two_446 : decode prog_37_method_81_code 446 = .ok (.ifCond .lt 18, 3) := by decide +kernel
theorem dX10_two_449 : decode prog_37_method_81_code 449 = .ok (.aload_n 0, 1) := by decide +kernel
theorem dX10_two_450 : decode prog_37_method_81_code 450 = .ok (.getfield 183, 3) := by decide +kernel
theorem dX10_two_453 : decode prog_37_method_81_code 453 = .ok (.iload 15, 2) := by decide +kernel
theorem dX10_two_455 : decode prog_37_method_81_code 455 = .ok (.iconst 2, 1) := by decide +kernel
theorem dX10_two_456 : decode prog_37_method_81_code 456 = .ok (.iadd, 1) := by decide +kernel
theorem dX10_two_457 : decode prog_37_method_81_code 457 = .ok (.iload 18, 2) := by decide +kernel
theorem dX10_two_459 : decode prog_37_method_81_code 459 = .ok (.iadd, 1) := by decide +kernel
theorem dX10_two_460 : decode prog_37_method_81_code 460 = .ok (.iaload, 1) := by decide +kernel
theorem dX10_two_461 : decode prog_37_method_81_code 461 = .ok (.goto 5, 3) := by decide +kernel
theorem dX10_two_464 : decode prog_37_method_81_code 464 = .ok (.iload 5, 2) := by decide +kernel
theorem dX10_two_466 : decode prog_37_method_81_code 466 = .ok (.istore 20, 2) := by decide +kernel
theorem dX10_two_468 : decode prog_37_method_81_code 468 = .ok (.iload 9, 2) := by decide +kernel
theorem dX10_two_470 : decode prog_37_method_81_code 470 = .ok (.ifCond .eq 19, 3) := by decide +kernel
theorem dX10_two_473 : decode prog_37_method_81_code 473 = .ok (.iload 20, 2) := by decide +kernel
theorem dX10_two_475 : decode prog_37_method_81_code 475 = .ok (.ifCond .ne 14, 3) := by decide +kernel
theorem dX10_two_478 : decode prog_37_method_81_code 478 = .ok (.aload_n 0, 1) := by decide +kernel
theorem dX10_two_479 : decode prog_37_method_81_code 479 = .ok (.bipush 6, 2) := by decide +kernel
theorem dX10_two_481 : decode prog_37_method_81_code 481 = .ok (.aload_n 0, 1) := by decide +kernel
theorem dX10_two_482 : decode prog_37_method_81_code 482 = .ok (.getfield 507, 3) := by decide +kernel
theorem dX10_two_485 : decode prog_37_method_81_code 485 = .ok (.invokevirtual 510, 3) := by decide +kernel
theorem dX10_two_488 : decode prog_37_method_81_code 488 = .ok (.return_, 1) := by decide +kernel
theorem dX10_two_489 : decode prog_37_method_81_code 489 = .ok (.aload_n 0, 1) := by decide +kernel
theorem dX10_two_490 : decode prog_37_method_81_code 490 = .ok (.iconst 0, 1) := by decide +kernel
theorem dX10_two_491 : decode prog_37_method_81_code 491 = .ok (.iload_n 1, 1) := by decide +kernel
theorem dX10_two_492 : decode prog_37_method_81_code 492 = .ok (.iload 19, 2) := by decide +kernel
theorem dX10_two_494 : decode prog_37_method_81_code 494 = .ok (.iload 20, 2) := by decide +kernel
theorem dX10_two_496 : decode prog_37_method_81_code 496 = .ok (.invokestatic 637, 3) := by decide +kernel
theorem dX10_two_499 : decode prog_37_method_81_code 499 = .ok (.invokevirtual 464, 3) := by decide +kernel
theorem dX10_two_502 : decode prog_37_method_81_code 502 = .ok (.iinc 18 1, 3) := by decide +kernel
theorem dX10_two_505 : decode prog_37_method_81_code 505 = .ok (.goto (-91), 3) := by decide +kernel
theorem dX10_two_508 : decode prog_37_method_81_code 508 = .ok (.iload 10, 2) := by decide +kernel
theorem dX10_two_510 : decode prog_37_method_81_code 510 = .ok (.ifCond .eq 9, 3) := by decide +kernel
theorem dX10_two_513 : decode prog_37_method_81_code 513 = .ok (.aload_n 0, 1) := by decide +kernel
theorem dX10_two_514 : decode prog_37_method_81_code 514 = .ok (.iload 17, 2) := by decide +kernel
theorem dX10_two_516 : decode prog_37_method_81_code 516 = .ok (.invokevirtual 634, 3) := by decide +kernel
theorem dX10_two_519 : decode prog_37_method_81_code 519 = .ok (.iinc 13 1, 3) := by decide +kernel
theorem dX10_two_522 : decode prog_37_method_81_code 522 = .ok (.goto (-168), 3) := by decide +kernel
theorem dX10_two_525 : decode prog_37_method_81_code 525 = .ok (.aload_n 0, 1) := by decide +kernel
theorem dX10_two_526 : decode prog_37_method_81_code 526 = .ok (.iload 10, 2) := by decide +kernel
theorem dX10_two_528 : decode prog_37_method_81_code 528 = .ok (.ifCond .eq 7, 3) := by decide +kernel
theorem dX10_two_531 : decode prog_37_method_81_code 531 = .ok (.iconst 2, 1) := by decide +kernel
theorem dX10_two_532 : decode prog_37_method_81_code 532 = .ok (.goto 4, 3) := by decide +kernel
theorem dX10_two_535 : decode prog_37_method_81_code 535 = .ok (.iconst 1, 1) := by decide +kernel
theorem dX10_two_536 : decode prog_37_method_81_code 536 = .ok (.iload 8, 2) := by decide +kernel
theorem dX10_two_538 : decode prog_37_method_81_code 538 = .ok (.invokevirtual 628, 3) := by decide +kernel
theorem dX10_two_541 : decode prog_37_method_81_code 541 = .ok (.return_, 1) := by decide +kernel
theorem dX10_act_0 : decode prog_37_method_79_code 0 = .ok (.iload_n 0, 1) := by decide +kernel
theorem dX10_act_1 : decode prog_37_method_79_code 1 = .ok (.lookupswitch 190 #[(37, 123), (38, 127), (42, 115), (43, 107), (45, 111), (47, 119), (60, 157), (62, 179), (124, 131), (256, 135), (257, 146), (258, 168)], 107) := by decide +kernel
theorem dX10_act_108 : decode prog_37_method_79_code 108 = .ok (.iload_n 1, 1) := by decide +kernel
theorem dX10_act_109 : decode prog_37_method_79_code 109 = .ok (.iload_n 2, 1) := by decide +kernel
theorem dX10_act_110 : decode prog_37_method_79_code 110 = .ok (.iadd, 1) := by decide +kernel
theorem dX10_act_111 : decode prog_37_method_79_code 111 = .ok (.ireturn, 1) := by decide +kernel
theorem dX10_act_112 : decode prog_37_method_79_code 112 = .ok (.iload_n 1, 1) := by decide +kernel
theorem dX10_act_113 : decode prog_37_method_79_code 113 = .ok (.iload_n 2, 1) := by decide +kernel
theorem dX10_act_114 : decode prog_37_method_79_code 114 = .ok (.isub, 1) := by decide +kernel
theorem dX10_act_115 : decode prog_37_method_79_code 115 = .ok (.ireturn, 1) := by decide +kernel
theorem dX10_act_116 : decode prog_37_method_79_code 116 = .ok (.iload_n 1, 1) := by decide +kernel
theorem dX10_act_117 : decode prog_37_method_79_code 117 = .ok (.iload_n 2, 1) := by decide +kernel
theorem dX10_act_118 : decode prog_37_method_79_code 118 = .ok (.imul, 1) := by decide +kernel
theorem dX10_act_119 : decode prog_37_method_79_code 119 = .ok (.ireturn, 1) := by decide +kernel
theorem dX10_act_120 : decode prog_37_method_79_code 120 = .ok (.iload_n 1, 1) := by decide +kernel
theorem dX10_act_121 : decode prog_37_method_79_code 121 = .ok (.iload_n 2, 1) := by decide +kernel
theorem dX10_act_122 : decode prog_37_method_79_code 122 = .ok (.idiv, 1) := by decide +kernel
theorem dX10_act_123 : decode prog_37_method_79_code 123 = .ok (.ireturn, 1) := by decide +kernel
theorem dX10_act_124 : decode prog_37_method_79_code 124 = .ok (.iload_n 1, 1) := by decide +kernel
theorem dX10_act_125 : decode prog_37_method_79_code 125 = .ok (.iload_n 2, 1) := by decide +kernel
theorem dX10_act_126 : decode prog_37_method_79_code 126 = .ok (.irem, 1) := by decide +kernel
theorem dX10_act_127 : decode prog_37_method_79_code 127 = .ok (.ireturn, 1) := by decide +kernel
theorem dX10_act_128 : decode prog_37_method_79_code 128 = .ok (.iload_n 1, 1) := by decide +kernel
theorem dX10_act_129 : decode prog_37_method_79_code 129 = .ok (.iload_n 2, 1) := by decide +kernel
theorem dX10_act_130 : decode prog_37_method_79_code 130 = .ok (.iand, 1) := by decide +kernel
theorem dX10_act_131 : decode prog_37_method_79_code 131 = .ok (.ireturn, 1) := by decide +kernel
theorem dX10_act_132 : decode prog_37_method_79_code 132 = .ok (.iload_n 1, 1) := by decide +kernel
theorem dX10_act_133 : decode prog_37_method_79_code 133 = .ok (.iload_n 2, 1) := by decide +kernel
theorem dX10_act_134 : decode prog_37_method_79_code 134 = .ok (.ior, 1) := by decide +kernel
theorem dX10_act_135 : decode prog_37_method_79_code 135 = .ok (.ireturn, 1) := by decide +kernel
theorem dX10_act_136 : decode prog_37_method_79_code 136 = .ok (.iload_n 1, 1) := by decide +kernel
theorem dX10_act_137 : decode prog_37_method_79_code 137 = .ok (.iload_n 2, 1) := by decide +kernel
theorem dX10_act_138 : decode prog_37_method_79_code 138 = .ok (.if_icmp .ne 7, 3) := by decide +kernel
theorem dX10_act_141 : decode prog_37_method_79_code 141 = .ok (.iconst 1, 1) := by decide +kernel
theorem dX10_act_142 : decode prog_37_method_79_code 142 = .ok (.goto 4, 3) := by decide +kernel
theorem dX10_act_145 : decode prog_37_method_79_code 145 = .ok (.iconst 0, 1) := by decide +kernel
theorem dX10_act_146 : decode prog_37_method_79_code 146 = .ok (.ireturn, 1) := by decide +kernel
theorem dX10_act_147 : decode prog_37_method_79_code 147 = .ok (.iload_n 1, 1) := by decide +kernel
theorem dX10_act_148 : decode prog_37_method_79_code 148 = .ok (.iload_n 2, 1) := by decide +kernel
theorem dX10_act_149 : decode prog_37_method_79_code 149 = .ok (.if_icmp .eq 7, 3) := by decide +kernel
theorem dX10_act_152 : decode prog_37_method_79_code 152 = .ok (.iconst 1, 1) := by decide +kernel
theorem dX10_act_153 : decode prog_37_method_79_code 153 = .ok (.goto 4, 3) := by decide +kernel
theorem dX10_act_156 : decode prog_37_method_79_code 156 = .ok (.iconst 0, 1) := by decide +kernel
theorem dX10_act_157 : decode prog_37_method_79_code 157 = .ok (.ireturn, 1) := by decide +kernel
theorem dX10_act_158 : decode prog_37_method_79_code 158 = .ok (.iload_n 1, 1) := by decide +kernel
theorem dX10_act_159 : decode prog_37_method_79_code 159 = .ok (.iload_n 2, 1) := by decide +kernel
theorem dX10_act_160 : decode prog_37_method_79_code 160 = .ok (.if_icmp .ge 7, 3) := by decide +kernel
theorem dX10_act_163 : decode prog_37_method_79_code 163 = .ok (.iconst 1, 1) := by decide +kernel
theorem dX10_act_164 : decode prog_37_method_79_code 164 = .ok (.goto 4, 3) := by decide +kernel
theorem dX10_act_167 : decode prog_37_method_79_code 167 = .ok (.iconst 0, 1) := by decide +kernel
theorem dX10_act_168 : decode prog_37_method_79_code 168 = .ok (.ireturn, 1) := by decide +kernel
theorem dX10_act_169 : decode prog_37_method_79_code 169 = .ok (.iload_n 1, 1) := by decide +kernel
theorem dX10_act_170 : decode prog_37_method_79_code 170 = .ok (.iload_n 2, 1) := by decide +kernel
theorem dX10_act_171 : decode prog_37_method_79_code 171 = .ok (.if_icmp .gt 7, 3) := by decide +kernel
theorem dX10_act_174 : decode prog_37_method_79_code 174 = .ok (.iconst 1, 1) := by decide +kernel
theorem dX10_act_175 : decode prog_37_method_79_code 175 = .ok (.goto 4, 3) := by decide +kernel
theorem dX10_act_178 : decode prog_37_method_79_code 178 = .ok (.iconst 0, 1) := by decide +kernel
theorem dX10_act_179 : decode prog_37_method_79_code 179 = .ok (.ireturn, 1) := by decide +kernel
theorem dX10_act_180 : decode prog_37_method_79_code 180 = .ok (.iload_n 1, 1) := by decide +kernel
theorem dX10_act_181 : decode prog_37_method_79_code 181 = .ok (.iload_n 2, 1) := by decide +kernel
theorem dX10_act_182 : decode prog_37_method_79_code 182 = .ok (.if_icmp .le 7, 3) := by decide +kernel
theorem dX10_act_185 : decode prog_37_method_79_code 185 = .ok (.iconst 1, 1) := by decide +kernel
theorem dX10_act_186 : decode prog_37_method_79_code 186 = .ok (.goto 4, 3) := by decide +kernel
theorem dX10_act_189 : decode prog_37_method_79_code 189 = .ok (.iconst 0, 1) := by decide +kernel
theorem dX10_act_190 : decode prog_37_method_79_code 190 = .ok (.ireturn, 1) := by decide +kernel
theorem dX10_act_191 : decode prog_37_method_79_code 191 = .ok (.iload_n 1, 1) := by decide +kernel
theorem dX10_act_192 : decode prog_37_method_79_code 192 = .ok (.iload_n 2, 1) := by decide +kernel
theorem dX10_act_193 : decode prog_37_method_79_code 193 = .ok (.if_icmp .lt 7, 3) := by decide +kernel
theorem dX10_act_196 : decode prog_37_method_79_code 196 = .ok (.iconst 1, 1) := by decide +kernel
theorem dX10_act_197 : decode prog_37_method_79_code 197 = .ok (.goto 4, 3) := by decide +kernel
theorem dX10_act_200 : decode prog_37_method_79_code 200 = .ok (.iconst 0, 1) := by decide +kernel
theorem dX10_act_201 : decode prog_37_method_79_code 201 = .ok (.ireturn, 1) := by decide +kernel
theorem dX10_beside_0 : decode prog_37_method_80_code 0 = .ok (.iload_n 1, 1) := by decide +kernel
theorem dX10_beside_1 : decode prog_37_method_80_code 1 = .ok (.ifCond .ne 7, 3) := by decide +kernel
theorem dX10_beside_4 : decode prog_37_method_80_code 4 = .ok (.iconst (-1), 1) := by decide +kernel
theorem dX10_beside_5 : decode prog_37_method_80_code 5 = .ok (.goto 23, 3) := by decide +kernel
theorem dX10_beside_8 : decode prog_37_method_80_code 8 = .ok (.aload_n 0, 1) := by decide +kernel
theorem dX10_beside_9 : decode prog_37_method_80_code 9 = .ok (.getfield 183, 3) := by decide +kernel
theorem dX10_beside_12 : decode prog_37_method_80_code 12 = .ok (.iload_n 2, 1) := by decide +kernel
theorem dX10_beside_13 : decode prog_37_method_80_code 13 = .ok (.iaload, 1) := by decide +kernel
theorem dX10_beside_14 : decode prog_37_method_80_code 14 = .ok (.iconst 2, 1) := by decide +kernel
theorem dX10_beside_15 : decode prog_37_method_80_code 15 = .ok (.if_icmp .ne 12, 3) := by decide +kernel
theorem dX10_beside_18 : decode prog_37_method_80_code 18 = .ok (.aload_n 0, 1) := by decide +kernel
theorem dX10_beside_19 : decode prog_37_method_80_code 19 = .ok (.iload_n 2, 1) := by decide +kernel
theorem dX10_beside_20 : decode prog_37_method_80_code 20 = .ok (.iload_n 3, 1) := by decide +kernel
theorem dX10_beside_21 : decode prog_37_method_80_code 21 = .ok (.invokevirtual 470, 3) := by decide +kernel
theorem dX10_beside_24 : decode prog_37_method_80_code 24 = .ok (.goto 4, 3) := by decide +kernel
theorem dX10_beside_27 : decode prog_37_method_80_code 27 = .ok (.iload_n 2, 1) := by decide +kernel
theorem dX10_beside_28 : decode prog_37_method_80_code 28 = .ok (.ireturn, 1) := by decide +kernel
theorem dX10_literal_0 : decode prog_37_method_84_code 0 = .ok (.iconst 1, 1) := by decide +kernel
theorem dX10_literal_1 : decode prog_37_method_84_code 1 = .ok (.istore_n 2, 1) := by decide +kernel
theorem dX10_literal_2 : decode prog_37_method_84_code 2 = .ok (.iconst 1, 1) := by decide +kernel
theorem dX10_literal_3 : decode prog_37_method_84_code 3 = .ok (.istore_n 3, 1) := by decide +kernel
theorem dX10_literal_4 : decode prog_37_method_84_code 4 = .ok (.iload_n 1, 1) := by decide +kernel
theorem dX10_literal_5 : decode prog_37_method_84_code 5 = .ok (.istore 4, 2) := by decide +kernel
theorem dX10_literal_7 : decode prog_37_method_84_code 7 = .ok (.iload 4, 2) := by decide +kernel
theorem dX10_literal_9 : decode prog_37_method_84_code 9 = .ok (.aload_n 0, 1) := by decide +kernel
theorem dX10_literal_10 : decode prog_37_method_84_code 10 = .ok (.getfield 461, 3) := by decide +kernel
theorem dX10_literal_13 : decode prog_37_method_84_code 13 = .ok (.if_icmp .ge 49, 3) := by decide +kernel
theorem dX10_literal_16 : decode prog_37_method_84_code 16 = .ok (.iload_n 2, 1) := by decide +kernel
theorem dX10_literal_17 : decode prog_37_method_84_code 17 = .ok (.ifCond .eq 17, 3) := by decide +kernel
theorem dX10_literal_20 : decode prog_37_method_84_code 20 = .ok (.aload_n 0, 1) := by decide +kernel
theorem dX10_literal_21 : decode prog_37_method_84_code 21 = .ok (.getfield 186, 3) := by decide +kernel
theorem dX10_literal_24 : decode prog_37_method_84_code 24 = .ok (.iload 4, 2) := by decide +kernel
theorem dX10_literal_26 : decode prog_37_method_84_code 26 = .ok (.iaload, 1) := by decide +kernel
theorem dX10_literal_27 : decode prog_37_method_84_code 27 = .ok (.ifCond .ne 7, 3) := by decide +kernel
theorem dX10_literal_30 : decode prog_37_method_84_code 30 = .ok (.iconst 1, 1) := by decide +kernel
theorem dX10_literal_31 : decode prog_37_method_84_code 31 = .ok (.goto 4, 3) := by decide +kernel
theorem dX10_literal_34 : decode prog_37_method_84_code 34 = .ok (.iconst 0, 1) := by decide +kernel
theorem dX10_literal_35 : decode prog_37_method_84_code 35 = .ok (.istore_n 2, 1) := by decide +kernel
theorem dX10_literal_36 : decode prog_37_method_84_code 36 = .ok (.iload_n 3, 1) := by decide +kernel
theorem dX10_literal_37 : decode prog_37_method_84_code 37 = .ok (.ifCond .eq 17, 3) := by decide +kernel
theorem dX10_literal_40 : decode prog_37_method_84_code 40 = .ok (.aload_n 0, 1) := by decide +kernel
theorem dX10_literal_41 : decode prog_37_method_84_code 41 = .ok (.iload 4, 2) := by decide +kernel
theorem dX10_literal_43 : decode prog_37_method_84_code 43 = .ok (.invokevirtual 631, 3) := by decide +kernel
theorem dX10_literal_46 : decode prog_37_method_84_code 46 = .ok (.iconst 1, 1) := by decide +kernel
theorem dX10_literal_47 : decode prog_37_method_84_code 47 = .ok (.if_icmp .ne 7, 3) := by decide +kernel
theorem dX10_literal_50 : decode prog_37_method_84_code 50 = .ok (.iconst 1, 1) := by decide +kernel
theorem dX10_literal_51 : decode prog_37_method_84_code 51 = .ok (.goto 4, 3) := by decide +kernel
theorem dX10_literal_54 : decode prog_37_method_84_code 54 = .ok (.iconst 0, 1) := by decide +kernel
theorem dX10_literal_55 : decode prog_37_method_84_code 55 = .ok (.istore_n 3, 1) := by decide +kernel
theorem dX10_literal_56 : decode prog_37_method_84_code 56 = .ok (.iinc 4 1, 3) := by decide +kernel
theorem dX10_literal_59 : decode prog_37_method_84_code 59 = .ok (.goto (-52), 3) := by decide +kernel
theorem dX10_literal_62 : decode prog_37_method_84_code 62 = .ok (.iload_n 2, 1) := by decide +kernel
theorem dX10_literal_63 : decode prog_37_method_84_code 63 = .ok (.ifCond .eq 12, 3) := by decide +kernel
theorem dX10_literal_66 : decode prog_37_method_84_code 66 = .ok (.aload_n 0, 1) := by decide +kernel
theorem dX10_literal_67 : decode prog_37_method_84_code 67 = .ok (.iconst 1, 1) := by decide +kernel
theorem dX10_literal_68 : decode prog_37_method_84_code 68 = .ok (.iload_n 1, 1) := by decide +kernel
theorem dX10_literal_69 : decode prog_37_method_84_code 69 = .ok (.invokevirtual 628, 3) := by decide +kernel
theorem dX10_literal_72 : decode prog_37_method_84_code 72 = .ok (.goto 25, 3) := by decide +kernel
theorem dX10_literal_75 : decode prog_37_method_84_code 75 = .ok (.iload_n 3, 1) := by decide +kernel
theorem dX10_literal_76 : decode prog_37_method_84_code 76 = .ok (.ifCond .eq 12, 3) := by decide +kernel
theorem dX10_literal_79 : decode prog_37_method_84_code 79 = .ok (.aload_n 0, 1) := by decide +kernel
theorem dX10_literal_80 : decode prog_37_method_84_code 80 = .ok (.iconst 2, 1) := by decide +kernel
theorem dX10_literal_81 : decode prog_37_method_84_code 81 = .ok (.iload_n 1, 1) := by decide +kernel
theorem dX10_literal_82 : decode prog_37_method_84_code 82 = .ok (.invokevirtual 628, 3) := by decide +kernel
theorem dX10_literal_85 : decode prog_37_method_84_code 85 = .ok (.goto 12, 3) := by decide +kernel
theorem dX10_literal_88 : decode prog_37_method_84_code 88 = .ok (.aload_n 0, 1) := by decide +kernel
theorem dX10_literal_89 : decode prog_37_method_84_code 89 = .ok (.iconst 3, 1) := by decide +kernel
theorem dX10_literal_90 : decode prog_37_method_84_code 90 = .ok (.aload_n 0, 1) := by decide +kernel
theorem dX10_literal_91 : decode prog_37_method_84_code 91 = .ok (.getfield 507, 3) := by decide +kernel
theorem dX10_literal_94 : decode prog_37_method_84_code 94 = .ok (.invokevirtual 510, 3) := by decide +kernel
theorem dX10_literal_97 : decode prog_37_method_84_code 97 = .ok (.return_, 1) := by decide +kernel
theorem dX10_index_0 : decode prog_37_method_85_code 0 = .ok (.aload_n 0, 1) := by decide +kernel
theorem dX10_index_1 : decode prog_37_method_85_code 1 = .ok (.aload_n 0, 1) := by decide +kernel
theorem dX10_index_2 : decode prog_37_method_85_code 2 = .ok (.getfield 461, 3) := by decide +kernel
theorem dX10_index_5 : decode prog_37_method_85_code 5 = .ok (.iconst 2, 1) := by decide +kernel
theorem dX10_index_6 : decode prog_37_method_85_code 6 = .ok (.isub, 1) := by decide +kernel
theorem dX10_index_7 : decode prog_37_method_85_code 7 = .ok (.invokevirtual 631, 3) := by decide +kernel
theorem dX10_index_10 : decode prog_37_method_85_code 10 = .ok (.istore_n 1, 1) := by decide +kernel
theorem dX10_index_11 : decode prog_37_method_85_code 11 = .ok (.aload_n 0, 1) := by decide +kernel
theorem dX10_index_12 : decode prog_37_method_85_code 12 = .ok (.aload_n 0, 1) := by decide +kernel
theorem dX10_index_13 : decode prog_37_method_85_code 13 = .ok (.getfield 461, 3) := by decide +kernel
theorem dX10_index_16 : decode prog_37_method_85_code 16 = .ok (.iconst 1, 1) := by decide +kernel
theorem dX10_index_17 : decode prog_37_method_85_code 17 = .ok (.isub, 1) := by decide +kernel
theorem dX10_index_18 : decode prog_37_method_85_code 18 = .ok (.invokevirtual 631, 3) := by decide +kernel
theorem dX10_index_21 : decode prog_37_method_85_code 21 = .ok (.istore_n 2, 1) := by decide +kernel
theorem dX10_index_22 : decode prog_37_method_85_code 22 = .ok (.aload_n 0, 1) := by decide +kernel
theorem dX10_index_23 : decode prog_37_method_85_code 23 = .ok (.dup, 1) := by decide +kernel
theorem dX10_index_24 : decode prog_37_method_85_code 24 = .ok (.getfield 461, 3) := by decide +kernel
theorem dX10_index_27 : decode prog_37_method_85_code 27 = .ok (.iconst 2, 1) := by decide +kernel
theorem dX10_index_28 : decode prog_37_method_85_code 28 = .ok (.isub, 1) := by decide +kernel
theorem dX10_index_29 : decode prog_37_method_85_code 29 = .ok (.putfield 461, 3) := by decide +kernel
theorem dX10_index_32 : decode prog_37_method_85_code 32 = .ok (.aload_n 0, 1) := by decide +kernel
theorem dX10_index_33 : decode prog_37_method_85_code 33 = .ok (.getfield 461, 3) := by decide +kernel
theorem dX10_index_36 : decode prog_37_method_85_code 36 = .ok (.istore_n 3, 1) := by decide +kernel
theorem dX10_index_37 : decode prog_37_method_85_code 37 = .ok (.aload_n 0, 1) := by decide +kernel
theorem dX10_index_38 : decode prog_37_method_85_code 38 = .ok (.getfield 189, 3) := by decide +kernel
theorem dX10_index_41 : decode prog_37_method_85_code 41 = .ok (.iload_n 3, 1) := by decide +kernel
theorem dX10_index_42 : decode prog_37_method_85_code 42 = .ok (.iaload, 1) := by decide +kernel
theorem dX10_index_43 : decode prog_37_method_85_code 43 = .ok (.istore 4, 2) := by decide +kernel
theorem dX10_index_45 : decode prog_37_method_85_code 45 = .ok (.aload_n 0, 1) := by decide +kernel
theorem dX10_index_46 : decode prog_37_method_85_code 46 = .ok (.getfield 189, 3) := by decide +kernel
theorem dX10_index_49 : decode prog_37_method_85_code 49 = .ok (.iload_n 3, 1) := by decide +kernel
theorem dX10_index_50 : decode prog_37_method_85_code 50 = .ok (.iconst 1, 1) := by decide +kernel
theorem dX10_index_51 : decode prog_37_method_85_code 51 = .ok (.iadd, 1) := by decide +kernel
theorem dX10_index_52 : decode prog_37_method_85_code 52 = .ok (.iaload, 1) := by decide +kernel
theorem dX10_index_53 : decode prog_37_method_85_code 53 = .ok (.istore 5, 2) := by decide +kernel
theorem dX10_index_55 : decode prog_37_method_85_code 55 = .ok (.iload_n 1, 1) := by decide +kernel
theorem dX10_index_56 : decode prog_37_method_85_code 56 = .ok (.ifCond .eq 8, 3) := by decide +kernel
theorem dX10_index_59 : decode prog_37_method_85_code 59 = .ok (.iload_n 2, 1) := by decide +kernel
theorem dX10_index_60 : decode prog_37_method_85_code 60 = .ok (.iconst 1, 1) := by decide +kernel
theorem dX10_index_61 : decode prog_37_method_85_code 61 = .ok (.if_icmp .le 13, 3) := by decide +kernel
theorem dX10_index_64 : decode prog_37_method_85_code 64 = .ok (.aload_n 0, 1) := by decide +kernel
theorem dX10_index_65 : decode prog_37_method_85_code 65 = .ok (.iconst 3, 1) := by decide +kernel
theorem dX10_index_66 : decode prog_37_method_85_code 66 = .ok (.aload_n 0, 1) := by decide +kernel
theorem dX10_index_67 : decode prog_37_method_85_code 67 = .ok (.getfield 507, 3) := by decide +kernel
theorem dX10_index_70 : decode prog_37_method_85_code 70 = .ok (.invokevirtual 510, 3) := by decide +kernel
theorem dX10_index_73 : decode prog_37_method_85_code 73 = .ok (.return_, 1) := by decide +kernel
theorem dX10_index_74 : decode prog_37_method_85_code 74 = .ok (.iload_n 2, 1) := by decide +kernel
theorem dX10_index_75 : decode prog_37_method_85_code 75 = .ok (.ifCond .ne 7, 3) := by decide +kernel
theorem dX10_index_78 : decode prog_37_method_85_code 78 = .ok (.iconst 1, 1) := by decide +kernel
theorem dX10_index_79 : decode prog_37_method_85_code 79 = .ok (.goto 9, 3) := by decide +kernel
theorem dX10_index_82 : decode prog_37_method_85_code 82 = .ok (.aload_n 0, 1) := by decide +kernel
theorem dX10_index_83 : decode prog_37_method_85_code 83 = .ok (.iload 5, 2) := by decide +kernel
theorem dX10_index_85 : decode prog_37_method_85_code 85 = .ok (.invokevirtual 477, 3) := by decide +kernel
theorem dX10_index_88 : decode prog_37_method_85_code 88 = .ok (.istore 6, 2) := by decide +kernel
theorem dX10_index_90 : decode prog_37_method_85_code 90 = .ok (.iconst 0, 1) := by decide +kernel
theorem dX10_index_91 : decode prog_37_method_85_code 91 = .ok (.istore 7, 2) := by decide +kernel
theorem dX10_index_93 : decode prog_37_method_85_code 93 = .ok (.iload 7, 2) := by decide +kernel
theorem dX10_index_95 : decode prog_37_method_85_code 95 = .ok (.iload 6, 2) := by decide +kernel
theorem dX10_index_97 : decode prog_37_method_85_code 97 = .ok (.if_icmp .ge 58, 3) := by decide +kernel
theorem dX10_index_100 : decode prog_37_method_85_code 100 = .ok (.iload_n 2, 1) := by decide +kernel
theorem dX10_index_101 : decode prog_37_method_85_code 101 = .ok (.ifCond .ne 8, 3) := by decide +kernel
theorem dX10_index_104 : decode prog_37_method_85_code 104 = .ok (.iload 5, 2) := by decide +kernel
theorem dX10_index_106 : decode prog_37_method_85_code 106 = .ok (.goto 15, 3) := by decide +kernel
theorem dX10_index_109 : decode prog_37_method_85_code 109 = .ok (.aload_n 0, 1) := by decide +kernel
theorem dX10_index_110 : decode prog_37_method_85_code 110 = .ok (.getfield 183, 3) := by decide +kernel
theorem dX10_index_113 : decode prog_37_method_85_code 113 = .ok (.iload 5, 2) := by decide +kernel
theorem dX10_index_115 : decode prog_37_method_85_code 115 = .ok (.iconst 2, 1) := by decide +kernel
theorem dX10_index_116 : decode prog_37_method_85_code 116 = .ok (.iadd, 1) := by decide +kernel
theorem dX10_index_117 : decode prog_37_method_85_code 117 = .ok (.iload 7, 2) := by decide +kernel
theorem dX10_index_119 : decode prog_37_method_85_code 119 = .ok (.iadd, 1) := by decide +kernel
theorem dX10_index_120 : decode prog_37_method_85_code 120 = .ok (.iaload, 1) := by decide +kernel
theorem dX10_index_121 : decode prog_37_method_85_code 121 = .ok (.istore 8, 2) := by decide +kernel
theorem dX10_index_123 : decode prog_37_method_85_code 123 = .ok (.iload 8, 2) := by decide +kernel
theorem dX10_index_125 : decode prog_37_method_85_code 125 = .ok (.ifCond .lt 14, 3) := by decide +kernel
theorem dX10_index_128 : decode prog_37_method_85_code 128 = .ok (.iload 8, 2) := by decide +kernel
theorem dX10_index_130 : decode prog_37_method_85_code 130 = .ok (.aload_n 0, 1) := by decide +kernel
theorem dX10_index_131 : decode prog_37_method_85_code 131 = .ok (.iload 4, 2) := by decide +kernel
theorem dX10_index_133 : decode prog_37_method_85_code 133 = .ok (.invokevirtual 477, 3) := by decide +kernel
theorem dX10_index_136 : decode prog_37_method_85_code 136 = .ok (.if_icmp .lt 13, 3) := by decide +kernel
theorem dX10_index_139 : decode prog_37_method_85_code 139 = .ok (.aload_n 0, 1) := by decide +kernel
theorem dX10_index_140 : decode prog_37_method_85_code 140 = .ok (.iconst 5, 1) := by decide +kernel
theorem dX10_index_141 : decode prog_37_method_85_code 141 = .ok (.aload_n 0, 1) := by decide +kernel
theorem dX10_index_142 : decode prog_37_method_85_code 142 = .ok (.getfield 507, 3) := by decide +kernel
theorem dX10_index_145 : decode prog_37_method_85_code 145 = .ok (.invokevirtual 510, 3) := by decide +kernel
theorem dX10_index_148 : decode prog_37_method_85_code 148 = .ok (.return_, 1) := by decide +kernel
theorem dX10_index_149 : decode prog_37_method_85_code 149 = .ok (.iinc 7 1, 3) := by decide +kernel
theorem dX10_index_152 : decode prog_37_method_85_code 152 = .ok (.goto (-59), 3) := by decide +kernel
theorem dX10_index_155 : decode prog_37_method_85_code 155 = .ok (.iload_n 2, 1) := by decide +kernel
theorem dX10_index_156 : decode prog_37_method_85_code 156 = .ok (.ifCond .ne 37, 3) := by decide +kernel
theorem dX10_index_159 : decode prog_37_method_85_code 159 = .ok (.aload_n 0, 1) := by decide +kernel
