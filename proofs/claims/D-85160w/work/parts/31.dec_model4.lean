/-! decode rows -/
theorem dX10_areSameRows_17 : decode prog_37_method_104_code 17 = .ok (.iconst 0, 1) := by decide +kernel
theorem dX10_areSameRows_18 : decode prog_37_method_104_code 18 = .ok (.istore_n 3, 1) := by decide +kernel
theorem dX10_areSameRows_19 : decode prog_37_method_104_code 19 = .ok (.iconst 0, 1) := by decide +kernel
theorem dX10_areSameRows_20 : decode prog_37_method_104_code 20 = .ok (.istore 4, 2) := by decide +kernel
theorem dX10_areSameRows_22 : decode prog_37_method_104_code 22 = .ok (.iload_n 3, 1) := by decide +kernel
theorem dX10_areSameRows_23 : decode prog_37_method_104_code 23 = .ok (.ifCond .eq 50, 3) := by decide +kernel
theorem dX10_areSameRows_26 : decode prog_37_method_104_code 26 = .ok (.iload 4, 2) := by decide +kernel
theorem dX10_areSameRows_28 : decode prog_37_method_104_code 28 = .ok (.aload_n 0, 1) := by decide +kernel
theorem dX10_areSameRows_29 : decode prog_37_method_104_code 29 = .ok (.iload_n 1, 1) := by decide +kernel
theorem dX10_areSameRows_30 : decode prog_37_method_104_code 30 = .ok (.invokevirtual 477, 3) := by decide +kernel
theorem dX10_areSameRows_33 : decode prog_37_method_104_code 33 = .ok (.if_icmp .ge 40, 3) := by decide +kernel
theorem dX10_areSameRows_36 : decode prog_37_method_104_code 36 = .ok (.aload_n 0, 1) := by decide +kernel
theorem dX10_areSameRows_37 : decode prog_37_method_104_code 37 = .ok (.getfield 183, 3) := by decide +kernel
theorem dX10_areSameRows_40 : decode prog_37_method_104_code 40 = .ok (.iload_n 1, 1) := by decide +kernel
theorem dX10_areSameRows_41 : decode prog_37_method_104_code 41 = .ok (.iconst 2, 1) := by decide +kernel
theorem dX10_areSameRows_42 : decode prog_37_method_104_code 42 = .ok (.iadd, 1) := by decide +kernel
theorem dX10_areSameRows_43 : decode prog_37_method_104_code 43 = .ok (.iload 4, 2) := by decide +kernel
theorem dX10_areSameRows_45 : decode prog_37_method_104_code 45 = .ok (.iadd, 1) := by decide +kernel
theorem dX10_areSameRows_46 : decode prog_37_method_104_code 46 = .ok (.iaload, 1) := by decide +kernel
theorem dX10_areSameRows_47 : decode prog_37_method_104_code 47 = .ok (.aload_n 0, 1) := by decide +kernel
theorem dX10_areSameRows_48 : decode prog_37_method_104_code 48 = .ok (.getfield 183, 3) := by decide +kernel
theorem dX10_areSameRows_51 : decode prog_37_method_104_code 51 = .ok (.iload_n 2, 1) := by decide +kernel
theorem dX10_areSameRows_52 : decode prog_37_method_104_code 52 = .ok (.iconst 2, 1) := by decide +kernel
theorem dX10_areSameRows_53 : decode prog_37_method_104_code 53 = .ok (.iadd, 1) := by decide +kernel
theorem dX10_areSameRows_54 : decode prog_37_method_104_code 54 = .ok (.iload 4, 2) := by decide +kernel
theorem dX10_areSameRows_56 : decode prog_37_method_104_code 56 = .ok (.iadd, 1) := by decide +kernel
theorem dX10_areSameRows_57 : decode prog_37_method_104_code 57 = .ok (.iaload, 1) := by decide +kernel
theorem dX10_areSameRows_58 : decode prog_37_method_104_code 58 = .ok (.if_icmp .ne 7, 3) := by decide +kernel
theorem dX10_areSameRows_61 : decode prog_37_method_104_code 61 = .ok (.iconst 1, 1) := by decide +kernel
theorem dX10_areSameRows_62 : decode prog_37_method_104_code 62 = .ok (.goto 4, 3) := by decide +kernel
theorem dX10_areSameRows_65 : decode prog_37_method_104_code 65 = .ok (.iconst 0, 1) := by decide +kernel
theorem dX10_areSameRows_66 : decode prog_37_method_104_code 66 = .ok (.istore_n 3, 1) := by decide +kernel
theorem dX10_areSameRows_67 : decode prog_37_method_104_code 67 = .ok (.iinc 4 1, 3) := by decide +kernel
theorem dX10_areSameRows_70 : decode prog_37_method_104_code 70 = .ok (.goto (-48), 3) := by decide +kernel
theorem dX10_areSameRows_73 : decode prog_37_method_104_code 73 = .ok (.iload_n 3, 1) := by decide +kernel
theorem dX10_areSameRows_74 : decode prog_37_method_104_code 74 = .ok (.ireturn, 1) := by decide +kernel
theorem dX10_way_0 : decode prog_37_method_70_code 0 = .ok (.aload_n 0, 1) := by decide +kernel
theorem dX10_way_1 : decode prog_37_method_70_code 1 = .ok (.getfield 231, 3) := by decide +kernel
theorem dX10_way_4 : decode prog_37_method_70_code 4 = .ok (.aload_n 0, 1) := by decide +kernel
theorem dX10_way_5 : decode prog_37_method_70_code 5 = .ok (.getfield 534, 3) := by decide +kernel
theorem dX10_way_8 : decode prog_37_method_70_code 8 = .ok (.iload_n 1, 1) := by decide +kernel
theorem dX10_way_9 : decode prog_37_method_70_code 9 = .ok (.iastore, 1) := by decide +kernel
theorem dX10_way_10 : decode prog_37_method_70_code 10 = .ok (.aload_n 0, 1) := by decide +kernel
theorem dX10_way_11 : decode prog_37_method_70_code 11 = .ok (.getfield 234, 3) := by decide +kernel
theorem dX10_way_14 : decode prog_37_method_70_code 14 = .ok (.aload_n 0, 1) := by decide +kernel
theorem dX10_way_15 : decode prog_37_method_70_code 15 = .ok (.getfield 534, 3) := by decide +kernel
theorem dX10_way_18 : decode prog_37_method_70_code 18 = .ok (.iload_n 2, 1) := by decide +kernel
theorem dX10_way_19 : decode prog_37_method_70_code 19 = .ok (.iastore, 1) := by decide +kernel
theorem dX10_way_20 : decode prog_37_method_70_code 20 = .ok (.aload_n 0, 1) := by decide +kernel
theorem dX10_way_21 : decode prog_37_method_70_code 21 = .ok (.getfield 237, 3) := by decide +kernel
theorem dX10_way_24 : decode prog_37_method_70_code 24 = .ok (.aload_n 0, 1) := by decide +kernel
theorem dX10_way_25 : decode prog_37_method_70_code 25 = .ok (.getfield 534, 3) := by decide +kernel
theorem dX10_way_28 : decode prog_37_method_70_code 28 = .ok (.iconst 0, 1) := by decide +kernel
theorem dX10_way_29 : decode prog_37_method_70_code 29 = .ok (.iastore, 1) := by decide +kernel
theorem dX10_way_30 : decode prog_37_method_70_code 30 = .ok (.aload_n 0, 1) := by decide +kernel
theorem dX10_way_31 : decode prog_37_method_70_code 31 = .ok (.getfield 240, 3) := by decide +kernel
theorem dX10_way_34 : decode prog_37_method_70_code 34 = .ok (.aload_n 0, 1) := by decide +kernel
theorem dX10_way_35 : decode prog_37_method_70_code 35 = .ok (.getfield 534, 3) := by decide +kernel
theorem dX10_way_38 : decode prog_37_method_70_code 38 = .ok (.iload_n 3, 1) := by decide +kernel
theorem dX10_way_39 : decode prog_37_method_70_code 39 = .ok (.iastore, 1) := by decide +kernel
theorem dX10_way_40 : decode prog_37_method_70_code 40 = .ok (.aload_n 0, 1) := by decide +kernel
theorem dX10_way_41 : decode prog_37_method_70_code 41 = .ok (.getfield 243, 3) := by decide +kernel
theorem dX10_way_44 : decode prog_37_method_70_code 44 = .ok (.aload_n 0, 1) := by decide +kernel
theorem dX10_way_45 : decode prog_37_method_70_code 45 = .ok (.getfield 534, 3) := by decide +kernel
theorem dX10_way_48 : decode prog_37_method_70_code 48 = .ok (.iload 4, 2) := by decide +kernel
theorem dX10_way_50 : decode prog_37_method_70_code 50 = .ok (.iastore, 1) := by decide +kernel
theorem dX10_way_51 : decode prog_37_method_70_code 51 = .ok (.aload_n 0, 1) := by decide +kernel
theorem dX10_way_52 : decode prog_37_method_70_code 52 = .ok (.getfield 246, 3) := by decide +kernel
theorem dX10_way_55 : decode prog_37_method_70_code 55 = .ok (.aload_n 0, 1) := by decide +kernel
theorem dX10_way_56 : decode prog_37_method_70_code 56 = .ok (.getfield 534, 3) := by decide +kernel
theorem dX10_way_59 : decode prog_37_method_70_code 59 = .ok (.aload_n 0, 1) := by decide +kernel
theorem dX10_way_60 : decode prog_37_method_70_code 60 = .ok (.getfield 531, 3) := by decide +kernel
theorem dX10_way_63 : decode prog_37_method_70_code 63 = .ok (.iastore, 1) := by decide +kernel
theorem dX10_way_64 : decode prog_37_method_70_code 64 = .ok (.aload_n 0, 1) := by decide +kernel
theorem dX10_way_65 : decode prog_37_method_70_code 65 = .ok (.dup, 1) := by decide +kernel
theorem dX10_way_66 : decode prog_37_method_70_code 66 = .ok (.getfield 534, 3) := by decide +kernel
theorem dX10_way_69 : decode prog_37_method_70_code 69 = .ok (.iconst 1, 1) := by decide +kernel
theorem dX10_way_70 : decode prog_37_method_70_code 70 = .ok (.iadd, 1) := by decide +kernel
theorem dX10_way_71 : decode prog_37_method_70_code 71 = .ok (.putfield 534, 3) := by decide +kernel
theorem dX10_way_74 : decode prog_37_method_70_code 74 = .ok (.return_, 1) := by decide +kernel
theorem dX10_next_0 : decode prog_37_method_77_code 0 = .ok (.aload_n 0, 1) := by decide +kernel
theorem dX10_next_1 : decode prog_37_method_77_code 1 = .ok (.getfield 534, 3) := by decide +kernel
theorem dX10_next_4 : decode prog_37_method_77_code 4 = .ok (.iconst 1, 1) := by decide +kernel
theorem dX10_next_5 : decode prog_37_method_77_code 5 = .ok (.isub, 1) := by decide +kernel
theorem dX10_next_6 : decode prog_37_method_77_code 6 = .ok (.istore_n 2, 1) := by decide +kernel
theorem dX10_next_7 : decode prog_37_method_77_code 7 = .ok (.aload_n 0, 1) := by decide +kernel
theorem dX10_next_8 : decode prog_37_method_77_code 8 = .ok (.getfield 237, 3) := by decide +kernel
theorem dX10_next_11 : decode prog_37_method_77_code 11 = .ok (.iload_n 2, 1) := by decide +kernel
theorem dX10_next_12 : decode prog_37_method_77_code 12 = .ok (.iaload, 1) := by decide +kernel
theorem dX10_next_13 : decode prog_37_method_77_code 13 = .ok (.aload_n 0, 1) := by decide +kernel
theorem dX10_next_14 : decode prog_37_method_77_code 14 = .ok (.getfield 240, 3) := by decide +kernel
theorem dX10_next_17 : decode prog_37_method_77_code 17 = .ok (.iload_n 2, 1) := by decide +kernel
theorem dX10_next_18 : decode prog_37_method_77_code 18 = .ok (.iaload, 1) := by decide +kernel
theorem dX10_next_19 : decode prog_37_method_77_code 19 = .ok (.if_icmp .ge 88, 3) := by decide +kernel
theorem dX10_next_22 : decode prog_37_method_77_code 22 = .ok (.aload_n 0, 1) := by decide +kernel
theorem dX10_next_23 : decode prog_37_method_77_code 23 = .ok (.invokevirtual 573, 3) := by decide +kernel
theorem dX10_next_26 : decode prog_37_method_77_code 26 = .ok (.aload_n 0, 1) := by decide +kernel
theorem dX10_next_27 : decode prog_37_method_77_code 27 = .ok (.getfield 498, 3) := by decide +kernel
theorem dX10_next_30 : decode prog_37_method_77_code 30 = .ok (.ifCond .le 4, 3) := by decide +kernel
theorem dX10_next_33 : decode prog_37_method_77_code 33 = .ok (.return_, 1) := by decide +kernel
theorem dX10_next_34 : decode prog_37_method_77_code 34 = .ok (.aload_n 0, 1) := by decide +kernel
theorem dX10_next_35 : decode prog_37_method_77_code 35 = .ok (.getfield 531, 3) := by decide +kernel
theorem dX10_next_38 : decode prog_37_method_77_code 38 = .ok (.bipush 10, 2) := by decide +kernel
theorem dX10_next_40 : decode prog_37_method_77_code 40 = .ok (.if_icmp .ne 14, 3) := by decide +kernel
theorem dX10_next_43 : decode prog_37_method_77_code 43 = .ok (.aload_n 0, 1) := by decide +kernel
theorem dX10_next_44 : decode prog_37_method_77_code 44 = .ok (.bipush 8, 2) := by decide +kernel
theorem dX10_next_46 : decode prog_37_method_77_code 46 = .ok (.aload_n 0, 1) := by decide +kernel
theorem dX10_next_47 : decode prog_37_method_77_code 47 = .ok (.getfield 507, 3) := by decide +kernel
theorem dX10_next_50 : decode prog_37_method_77_code 50 = .ok (.invokevirtual 510, 3) := by decide +kernel
theorem dX10_next_53 : decode prog_37_method_77_code 53 = .ok (.return_, 1) := by decide +kernel
theorem dX10_next_54 : decode prog_37_method_77_code 54 = .ok (.aload_n 0, 1) := by decide +kernel
theorem dX10_next_55 : decode prog_37_method_77_code 55 = .ok (.aload_n 0, 1) := by decide +kernel
theorem dX10_next_56 : decode prog_37_method_77_code 56 = .ok (.getfield 234, 3) := by decide +kernel
theorem dX10_next_59 : decode prog_37_method_77_code 59 = .ok (.iload_n 2, 1) := by decide +kernel
theorem dX10_next_60 : decode prog_37_method_77_code 60 = .ok (.iaload, 1) := by decide +kernel
theorem dX10_next_61 : decode prog_37_method_77_code 61 = .ok (.aload_n 0, 1) := by decide +kernel
theorem dX10_next_62 : decode prog_37_method_77_code 62 = .ok (.getfield 237, 3) := by decide +kernel
theorem dX10_next_65 : decode prog_37_method_77_code 65 = .ok (.iload_n 2, 1) := by decide +kernel
theorem dX10_next_66 : decode prog_37_method_77_code 66 = .ok (.iaload, 1) := by decide +kernel
theorem dX10_next_67 : decode prog_37_method_77_code 67 = .ok (.invokevirtual 610, 3) := by decide +kernel
theorem dX10_next_70 : decode prog_37_method_77_code 70 = .ok (.aload_n 0, 1) := by decide +kernel
theorem dX10_next_71 : decode prog_37_method_77_code 71 = .ok (.getfield 237, 3) := by decide +kernel
theorem dX10_next_74 : decode prog_37_method_77_code 74 = .ok (.iload_n 2, 1) := by decide +kernel
theorem dX10_next_75 : decode prog_37_method_77_code 75 = .ok (.dup2, 1) := by decide +kernel
theorem dX10_next_76 : decode prog_37_method_77_code 76 = .ok (.iaload, 1) := by decide +kernel
theorem dX10_next_77 : decode prog_37_method_77_code 77 = .ok (.iconst 1, 1) := by decide +kernel
theorem dX10_next_78 : decode prog_37_method_77_code 78 = .ok (.iadd, 1) := by decide +kernel
theorem dX10_next_79 : decode prog_37_method_77_code 79 = .ok (.iastore, 1) := by decide +kernel
theorem dX10_next_80 : decode prog_37_method_77_code 80 = .ok (.aload_n 0, 1) := by decide +kernel
theorem dX10_next_81 : decode prog_37_method_77_code 81 = .ok (.aload_n 0, 1) := by decide +kernel
theorem dX10_next_82 : decode prog_37_method_77_code 82 = .ok (.getfield 127, 3) := by decide +kernel
theorem dX10_next_85 : decode prog_37_method_77_code 85 = .ok (.iload_n 1, 1) := by decide +kernel
theorem dX10_next_86 : decode prog_37_method_77_code 86 = .ok (.iaload, 1) := by decide +kernel
theorem dX10_next_87 : decode prog_37_method_77_code 87 = .ok (.aload_n 0, 1) := by decide +kernel
theorem dX10_next_88 : decode prog_37_method_77_code 88 = .ok (.getfield 231, 3) := by decide +kernel
theorem dX10_next_91 : decode prog_37_method_77_code 91 = .ok (.iload_n 2, 1) := by decide +kernel
theorem dX10_next_92 : decode prog_37_method_77_code 92 = .ok (.iaload, 1) := by decide +kernel
theorem dX10_next_93 : decode prog_37_method_77_code 93 = .ok (.iconst 3, 1) := by decide +kernel
theorem dX10_next_94 : decode prog_37_method_77_code 94 = .ok (.if_icmp .ne 7, 3) := by decide +kernel
theorem dX10_next_97 : decode prog_37_method_77_code 97 = .ok (.iconst 1, 1) := by decide +kernel
theorem dX10_next_98 : decode prog_37_method_77_code 98 = .ok (.goto 4, 3) := by decide +kernel
theorem dX10_next_101 : decode prog_37_method_77_code 101 = .ok (.iconst 2, 1) := by decide +kernel
theorem dX10_next_102 : decode prog_37_method_77_code 102 = .ok (.iload_n 1, 1) := by decide +kernel
theorem dX10_next_103 : decode prog_37_method_77_code 103 = .ok (.invokevirtual 561, 3) := by decide +kernel
theorem dX10_next_106 : decode prog_37_method_77_code 106 = .ok (.return_, 1) := by decide +kernel
theorem dX10_next_107 : decode prog_37_method_77_code 107 = .ok (.aload_n 0, 1) := by decide +kernel
theorem dX10_next_108 : decode prog_37_method_77_code 108 = .ok (.dup, 1) := by decide +kernel
theorem dX10_next_109 : decode prog_37_method_77_code 109 = .ok (.getfield 534, 3) := by decide +kernel
theorem dX10_next_112 : decode prog_37_method_77_code 112 = .ok (.iconst 1, 1) := by decide +kernel
theorem dX10_next_113 : decode prog_37_method_77_code 113 = .ok (.isub, 1) := by decide +kernel
theorem dX10_next_114 : decode prog_37_method_77_code 114 = .ok (.putfield 534, 3) := by decide +kernel
theorem dX10_next_117 : decode prog_37_method_77_code 117 = .ok (.aload_n 0, 1) := by decide +kernel
theorem dX10_next_118 : decode prog_37_method_77_code 118 = .ok (.getfield 231, 3) := by decide +kernel
theorem dX10_next_121 : decode prog_37_method_77_code 121 = .ok (.iload_n 2, 1) := by decide +kernel
theorem dX10_next_122 : decode prog_37_method_77_code 122 = .ok (.iaload, 1) := by decide +kernel
theorem dX10_next_123 : decode prog_37_method_77_code 123 = .ok (.iconst 4, 1) := by decide +kernel
theorem dX10_next_124 : decode prog_37_method_77_code 124 = .ok (.if_icmp .ne 4, 3) := by decide +kernel
theorem dX10_next_127 : decode prog_37_method_77_code 127 = .ok (.return_, 1) := by decide +kernel
theorem dX10_next_128 : decode prog_37_method_77_code 128 = .ok (.aload_n 0, 1) := by decide +kernel
theorem dX10_next_129 : decode prog_37_method_77_code 129 = .ok (.getfield 243, 3) := by decide +kernel
theorem dX10_next_132 : decode prog_37_method_77_code 132 = .ok (.iload_n 2, 1) := by decide +kernel
theorem dX10_next_133 : decode prog_37_method_77_code 133 = .ok (.iaload, 1) := by decide +kernel
theorem dX10_next_134 : decode prog_37_method_77_code 134 = .ok (.istore_n 3, 1) := by decide +kernel
theorem dX10_next_135 : decode prog_37_method_77_code 135 = .ok (.aload_n 0, 1) := by decide +kernel
theorem dX10_next_136 : decode prog_37_method_77_code 136 = .ok (.getfield 183, 3) := by decide +kernel
theorem dX10_next_139 : decode prog_37_method_77_code 139 = .ok (.aload_n 0, 1) := by decide +kernel
theorem dX10_next_140 : decode prog_37_method_77_code 140 = .ok (.getfield 234, 3) := by decide +kernel
theorem dX10_next_143 : decode prog_37_method_77_code 143 = .ok (.iload_n 2, 1) := by decide +kernel
theorem dX10_next_144 : decode prog_37_method_77_code 144 = .ok (.iaload, 1) := by decide +kernel
theorem dX10_next_145 : decode prog_37_method_77_code 145 = .ok (.iaload, 1) := by decide +kernel
theorem dX10_next_146 : decode prog_37_method_77_code 146 = .ok (.iconst 3, 1) := by decide +kernel
theorem dX10_next_147 : decode prog_37_method_77_code 147 = .ok (.if_icmp .ne 10, 3) := by decide +kernel
theorem dX10_next_150 : decode prog_37_method_77_code 150 = .ok (.aload_n 0, 1) := by decide +kernel
theorem dX10_next_151 : decode prog_37_method_77_code 151 = .ok (.iconst 3, 1) := by decide +kernel
theorem dX10_next_152 : decode prog_37_method_77_code 152 = .ok (.iload_n 3, 1) := by decide +kernel
theorem dX10_next_153 : decode prog_37_method_77_code 153 = .ok (.invokevirtual 628, 3) := by decide +kernel
theorem dX10_next_156 : decode prog_37_method_77_code 156 = .ok (.return_, 1) := by decide +kernel
theorem dX10_next_157 : decode prog_37_method_77_code 157 = .ok (.aload_n 0, 1) := by decide +kernel
theorem dX10_next_158 : decode prog_37_method_77_code 158 = .ok (.getfield 461, 3) := by decide +kernel
theorem dX10_next_161 : decode prog_37_method_77_code 161 = .ok (.iload_n 3, 1) := by decide +kernel
theorem dX10_next_162 : decode prog_37_method_77_code 162 = .ok (.if_icmp .gt 18, 3) := by decide +kernel
theorem dX10_next_165 : decode prog_37_method_77_code 165 = .ok (.aload_n 0, 1) := by decide +kernel
theorem dX10_next_166 : decode prog_37_method_77_code 166 = .ok (.getfield 183, 3) := by decide +kernel
theorem dX10_next_169 : decode prog_37_method_77_code 169 = .ok (.aload_n 0, 1) := by decide +kernel
theorem dX10_next_170 : decode prog_37_method_77_code 170 = .ok (.getfield 234, 3) := by decide +kernel
theorem dX10_next_173 : decode prog_37_method_77_code 173 = .ok (.iload_n 2, 1) := by decide +kernel
theorem dX10_next_174 : decode prog_37_method_77_code 174 = .ok (.iaload, 1) := by decide +kernel
theorem dX10_next_175 : decode prog_37_method_77_code 175 = .ok (.iaload, 1) := by decide +kernel
theorem dX10_next_176 : decode prog_37_method_77_code 176 = .ok (.iconst 1, 1) := by decide +kernel
theorem dX10_next_177 : decode prog_37_method_77_code 177 = .ok (.if_icmp .ne 7, 3) := by decide +kernel
theorem dX10_next_180 : decode prog_37_method_77_code 180 = .ok (.iconst 1, 1) := by decide +kernel
theorem dX10_next_181 : decode prog_37_method_77_code 181 = .ok (.goto 4, 3) := by decide +kernel
theorem dX10_next_184 : decode prog_37_method_77_code 184 = .ok (.iconst 0, 1) := by decide +kernel
theorem dX10_next_185 : decode prog_37_method_77_code 185 = .ok (.istore 4, 2) := by decide +kernel
theorem dX10_next_187 : decode prog_37_method_77_code 187 = .ok (.aload_n 0, 1) := by decide +kernel
theorem dX10_next_188 : decode prog_37_method_77_code 188 = .ok (.getfield 461, 3) := by decide +kernel
theorem dX10_next_191 : decode prog_37_method_77_code 191 = .ok (.iload_n 3, 1) := by decide +kernel
theorem dX10_next_192 : decode prog_37_method_77_code 192 = .ok (.if_icmp .gt 18, 3) := by decide +kernel
theorem dX10_next_195 : decode prog_37_method_77_code 195 = .ok (.aload_n 0, 1) := by decide +kernel
theorem dX10_next_196 : decode prog_37_method_77_code 196 = .ok (.getfield 183, 3) := by decide +kernel
theorem dX10_next_199 : decode prog_37_method_77_code 199 = .ok (.aload_n 0, 1) := by decide +kernel
theorem dX10_next_200 : decode prog_37_method_77_code 200 = .ok (.getfield 234, 3) := by decide +kernel
theorem dX10_next_203 : decode prog_37_method_77_code 203 = .ok (.iload_n 2, 1) := by decide +kernel
theorem dX10_next_204 : decode prog_37_method_77_code 204 = .ok (.iaload, 1) := by decide +kernel
theorem dX10_next_205 : decode prog_37_method_77_code 205 = .ok (.iaload, 1) := by decide +kernel
theorem dX10_next_206 : decode prog_37_method_77_code 206 = .ok (.iconst 2, 1) := by decide +kernel
theorem dX10_next_207 : decode prog_37_method_77_code 207 = .ok (.if_icmp .ne 7, 3) := by decide +kernel
theorem dX10_next_210 : decode prog_37_method_77_code 210 = .ok (.iconst 1, 1) := by decide +kernel
theorem dX10_next_211 : decode prog_37_method_77_code 211 = .ok (.goto 4, 3) := by decide +kernel
theorem dX10_next_214 : decode prog_37_method_77_code 214 = .ok (.iconst 0, 1) := by decide +kernel
theorem dX10_next_215 : decode prog_37_method_77_code 215 = .ok (.istore 5, 2) := by decide +kernel
theorem dX10_next_217 : decode prog_37_method_77_code 217 = .ok (.iload_n 3, 1) := by decide +kernel
theorem dX10_next_218 : decode prog_37_method_77_code 218 = .ok (.istore 6, 2) := by decide +kernel
theorem dX10_next_220 : decode prog_37_method_77_code 220 = .ok (.iload 6, 2) := by decide +kernel
theorem dX10_next_222 : decode prog_37_method_77_code 222 = .ok (.aload_n 0, 1) := by decide +kernel
theorem dX10_next_223 : decode prog_37_method_77_code 223 = .ok (.getfield 461, 3) := by decide +kernel
theorem dX10_next_226 : decode prog_37_method_77_code 226 = .ok (.if_icmp .ge 53, 3) := by decide +kernel
theorem dX10_next_229 : decode prog_37_method_77_code 229 = .ok (.iload 4, 2) := by decide +kernel
theorem dX10_next_231 : decode prog_37_method_77_code 231 = .ok (.ifCond .eq 17, 3) := by decide +kernel
theorem dX10_next_234 : decode prog_37_method_77_code 234 = .ok (.aload_n 0, 1) := by decide +kernel
theorem dX10_next_235 : decode prog_37_method_77_code 235 = .ok (.getfield 186, 3) := by decide +kernel
theorem dX10_next_238 : decode prog_37_method_77_code 238 = .ok (.iload 6, 2) := by decide +kernel
theorem dX10_next_240 : decode prog_37_method_77_code 240 = .ok (.iaload, 1) := by decide +kernel
theorem dX10_next_241 : decode prog_37_method_77_code 241 = .ok (.ifCond .ne 7, 3) := by decide +kernel
theorem dX10_next_244 : decode prog_37_method_77_code 244 = .ok (.iconst 1, 1) := by decide +kernel
theorem dX10_next_245 : decode prog_37_method_77_code 245 = .ok (.goto 4, 3) := by decide +kernel
theorem dX10_next_248 : decode prog_37_method_77_code 248 = .ok (.iconst 0, 1) := by decide +kernel
theorem dX10_next_249 : decode prog_37_method_77_code 249 = .ok (.istore 4, 2) := by decide +kernel
theorem dX10_next_251 : decode prog_37_method_77_code 251 = .ok (.iload 5, 2) := by decide +kernel
theorem dX10_next_253 : decode prog_37_method_77_code 253 = .ok (.ifCond .eq 17, 3) := by decide +kernel
theorem dX10_next_256 : decode prog_37_method_77_code 256 = .ok (.aload_n 0, 1) := by decide +kernel
theorem dX10_next_257 : decode prog_37_method_77_code 257 = .ok (.iload 6, 2) := by decide +kernel
theorem dX10_next_259 : decode prog_37_method_77_code 259 = .ok (.invokevirtual 631, 3) := by decide +kernel
theorem dX10_next_262 : decode prog_37_method_77_code 262 = .ok (.iconst 1, 1) := by decide +kernel
theorem dX10_next_263 : decode prog_37_method_77_code 263 = .ok (.if_icmp .ne 7, 3) := by decide +kernel
theorem dX10_next_266 : decode prog_37_method_77_code 266 = .ok (.iconst 1, 1) := by decide +kernel
theorem dX10_next_267 : decode prog_37_method_77_code 267 = .ok (.goto 4, 3) := by decide +kernel
theorem dX10_next_270 : decode prog_37_method_77_code 270 = .ok (.iconst 0, 1) := by decide +kernel
theorem dX10_next_271 : decode prog_37_method_77_code 271 = .ok (.istore 5, 2) := by decide +kernel
theorem dX10_next_273 : decode prog_37_method_77_code 273 = .ok (.iinc 6 1, 3) := by decide +kernel
theorem dX10_next_276 : decode prog_37_method_77_code 276 = .ok (.goto (-56), 3) := by decide +kernel
theorem dX10_next_279 : decode prog_37_method_77_code 279 = .ok (.iload 4, 2) := by decide +kernel
theorem dX10_next_281 : decode prog_37_method_77_code 281 = .ok (.ifCond .eq 12, 3) := by decide +kernel
theorem dX10_next_284 : decode prog_37_method_77_code 284 = .ok (.aload_n 0, 1) := by decide +kernel
theorem dX10_next_285 : decode prog_37_method_77_code 285 = .ok (.iconst 1, 1) := by decide +kernel
theorem dX10_next_286 : decode prog_37_method_77_code 286 = .ok (.iload_n 3, 1) := by decide +kernel
theorem dX10_next_287 : decode prog_37_method_77_code 287 = .ok (.invokevirtual 628, 3) := by decide +kernel
theorem dX10_next_290 : decode prog_37_method_77_code 290 = .ok (.goto 26, 3) := by decide +kernel
theorem dX10_next_293 : decode prog_37_method_77_code 293 = .ok (.iload 5, 2) := by decide +kernel
theorem dX10_next_295 : decode prog_37_method_77_code 295 = .ok (.ifCond .eq 12, 3) := by decide +kernel
theorem dX10_next_298 : decode prog_37_method_77_code 298 = .ok (.aload_n 0, 1) := by decide +kernel
theorem dX10_next_299 : decode prog_37_method_77_code 299 = .ok (.iconst 2, 1) := by decide +kernel
theorem dX10_next_300 : decode prog_37_method_77_code 300 = .ok (.iload_n 3, 1) := by decide +kernel
theorem dX10_next_301 : decode prog_37_method_77_code 301 = .ok (.invokevirtual 628, 3) := by decide +kernel
theorem dX10_next_304 : decode prog_37_method_77_code 304 = .ok (.goto 12, 3) := by decide +kernel
theorem dX10_next_307 : decode prog_37_method_77_code 307 = .ok (.aload_n 0, 1) := by decide +kernel
theorem dX10_next_308 : decode prog_37_method_77_code 308 = .ok (.iconst 3, 1) := by decide +kernel
theorem dX10_next_309 : decode prog_37_method_77_code 309 = .ok (.aload_n 0, 1) := by decide +kernel
theorem dX10_next_310 : decode prog_37_method_77_code 310 = .ok (.getfield 507, 3) := by decide +kernel
theorem dX10_next_313 : decode prog_37_method_77_code 313 = .ok (.invokevirtual 510, 3) := by decide +kernel
theorem dX10_next_316 : decode prog_37_method_77_code 316 = .ok (.return_, 1) := by decide +kernel
theorem dX10_store_0 : decode prog_37_method_66_code 0 = .ok (.iload_n 1, 1) := by decide +kernel
theorem dX10_store_1 : decode prog_37_method_66_code 1 = .ok (.bipush 8, 2) := by decide +kernel
theorem dX10_store_3 : decode prog_37_method_66_code 3 = .ok (.if_icmp .ge 20, 3) := by decide +kernel
theorem dX10_store_6 : decode prog_37_method_66_code 6 = .ok (.aload_n 0, 1) := by decide +kernel
theorem dX10_store_7 : decode prog_37_method_66_code 7 = .ok (.getfield 210, 3) := by decide +kernel
theorem dX10_store_10 : decode prog_37_method_66_code 10 = .ok (.iload_n 1, 1) := by decide +kernel
theorem dX10_store_11 : decode prog_37_method_66_code 11 = .ok (.iload_n 2, 1) := by decide +kernel
theorem dX10_store_12 : decode prog_37_method_66_code 12 = .ok (.iastore, 1) := by decide +kernel
theorem dX10_store_13 : decode prog_37_method_66_code 13 = .ok (.aload_n 0, 1) := by decide +kernel
theorem dX10_store_14 : decode prog_37_method_66_code 14 = .ok (.getfield 213, 3) := by decide +kernel
theorem dX10_store_17 : decode prog_37_method_66_code 17 = .ok (.iload_n 1, 1) := by decide +kernel
theorem dX10_store_18 : decode prog_37_method_66_code 18 = .ok (.iload_n 3, 1) := by decide +kernel
theorem dX10_store_19 : decode prog_37_method_66_code 19 = .ok (.iastore, 1) := by decide +kernel
theorem dX10_store_20 : decode prog_37_method_66_code 20 = .ok (.goto 43, 3) := by decide +kernel
theorem dX10_store_23 : decode prog_37_method_66_code 23 = .ok (.aload_n 0, 1) := by decide +kernel
theorem dX10_store_24 : decode prog_37_method_66_code 24 = .ok (.getfield 225, 3) := by decide +kernel
theorem dX10_store_27 : decode prog_37_method_66_code 27 = .ok (.bipush 14, 2) := by decide +kernel
theorem dX10_store_29 : decode prog_37_method_66_code 29 = .ok (.aload_n 0, 1) := by decide +kernel
theorem dX10_store_30 : decode prog_37_method_66_code 30 = .ok (.getfield 531, 3) := by decide +kernel
theorem dX10_store_33 : decode prog_37_method_66_code 33 = .ok (.iconst 1, 1) := by decide +kernel
theorem dX10_store_34 : decode prog_37_method_66_code 34 = .ok (.isub, 1) := by decide +kernel
theorem dX10_store_35 : decode prog_37_method_66_code 35 = .ok (.imul, 1) := by decide +kernel
theorem dX10_store_36 : decode prog_37_method_66_code 36 = .ok (.iload_n 1, 1) := by decide +kernel
theorem dX10_store_37 : decode prog_37_method_66_code 37 = .ok (.iadd, 1) := by decide +kernel
theorem dX10_store_38 : decode prog_37_method_66_code 38 = .ok (.bipush 8, 2) := by decide +kernel
theorem dX10_store_40 : decode prog_37_method_66_code 40 = .ok (.isub, 1) := by decide +kernel
theorem dX10_store_41 : decode prog_37_method_66_code 41 = .ok (.iload_n 2, 1) := by decide +kernel
theorem dX10_store_42 : decode prog_37_method_66_code 42 = .ok (.iastore, 1) := by decide +kernel
theorem dX10_store_43 : decode prog_37_method_66_code 43 = .ok (.aload_n 0, 1) := by decide +kernel
theorem dX10_store_44 : decode prog_37_method_66_code 44 = .ok (.getfield 228, 3) := by decide +kernel
theorem dX10_store_47 : decode prog_37_method_66_code 47 = .ok (.bipush 14, 2) := by decide +kernel
theorem dX10_store_49 : decode prog_37_method_66_code 49 = .ok (.aload_n 0, 1) := by decide +kernel
theorem dX10_store_50 : decode prog_37_method_66_code 50 = .ok (.getfield 531, 3) := by decide +kernel
theorem dX10_store_53 : decode prog_37_method_66_code 53 = .ok (.iconst 1, 1) := by decide +kernel
theorem dX10_store_54 : decode prog_37_method_66_code 54 = .ok (.isub, 1) := by decide +kernel
theorem dX10_store_55 : decode prog_37_method_66_code 55 = .ok (.imul, 1) := by decide +kernel
theorem dX10_store_56 : decode prog_37_method_66_code 56 = .ok (.iload_n 1, 1) := by decide +kernel
theorem dX10_store_57 : decode prog_37_method_66_code 57 = .ok (.iadd, 1) := by decide +kernel
theorem dX10_store_58 : decode prog_37_method_66_code 58 = .ok (.bipush 8, 2) := by decide +kernel
theorem dX10_store_60 : decode prog_37_method_66_code 60 = .ok (.isub, 1) := by decide +kernel
theorem dX10_store_61 : decode prog_37_method_66_code 61 = .ok (.iload_n 3, 1) := by decide +kernel
theorem dX10_store_62 : decode prog_37_method_66_code 62 = .ok (.iastore, 1) := by decide +kernel
theorem dX10_store_63 : decode prog_37_method_66_code 63 = .ok (.return_, 1) := by decide +kernel
theorem dX10_putAt_0 : decode prog_37_method_78_code 0 = .ok (.aload_n 0, 1) := by decide +kernel
theorem dX10_putAt_1 : decode prog_37_method_78_code 1 = .ok (.getfield 127, 3) := by decide +kernel
theorem dX10_putAt_4 : decode prog_37_method_78_code 4 = .ok (.iload_n 1, 1) := by decide +kernel
theorem dX10_putAt_5 : decode prog_37_method_78_code 5 = .ok (.iaload, 1) := by decide +kernel
theorem dX10_putAt_6 : decode prog_37_method_78_code 6 = .ok (.iconst (-1), 1) := by decide +kernel
theorem dX10_putAt_7 : decode prog_37_method_78_code 7 = .ok (.if_icmp .eq 7, 3) := by decide +kernel
theorem dX10_putAt_10 : decode prog_37_method_78_code 10 = .ok (.iconst 1, 1) := by decide +kernel
theorem dX10_putAt_11 : decode prog_37_method_78_code 11 = .ok (.goto 4, 3) := by decide +kernel
theorem dX10_putAt_14 : decode prog_37_method_78_code 14 = .ok (.iconst 0, 1) := by decide +kernel
theorem dX10_putAt_15 : decode prog_37_method_78_code 15 = .ok (.istore_n 2, 1) := by decide +kernel
theorem dX10_putAt_16 : decode prog_37_method_78_code 16 = .ok (.aload_n 0, 1) := by decide +kernel
theorem dX10_putAt_17 : decode prog_37_method_78_code 17 = .ok (.getfield 124, 3) := by decide +kernel
theorem dX10_putAt_20 : decode prog_37_method_78_code 20 = .ok (.iload_n 1, 1) := by decide +kernel
theorem dX10_putAt_21 : decode prog_37_method_78_code 21 = .ok (.iaload, 1) := by decide +kernel
theorem dX10_putAt_22 : decode prog_37_method_78_code 22 = .ok (.istore_n 3, 1) := by decide +kernel
theorem dX10_putAt_23 : decode prog_37_method_78_code 23 = .ok (.aload_n 0, 1) := by decide +kernel
theorem dX10_putAt_24 : decode prog_37_method_78_code 24 = .ok (.getfield 461, 3) := by decide +kernel
theorem dX10_putAt_27 : decode prog_37_method_78_code 27 = .ok (.iconst 1, 1) := by decide +kernel
theorem dX10_putAt_28 : decode prog_37_method_78_code 28 = .ok (.isub, 1) := by decide +kernel
theorem dX10_putAt_29 : decode prog_37_method_78_code 29 = .ok (.istore 4, 2) := by decide +kernel
theorem dX10_putAt_31 : decode prog_37_method_78_code 31 = .ok (.iload_n 2, 1) := by decide +kernel
theorem dX10_putAt_32 : decode prog_37_method_78_code 32 = .ok (.ifCond .eq 12, 3) := by decide +kernel
theorem dX10_putAt_35 : decode prog_37_method_78_code 35 = .ok (.aload_n 0, 1) := by decide +kernel
theorem dX10_putAt_36 : decode prog_37_method_78_code 36 = .ok (.getfield 461, 3) := by decide +kernel
theorem dX10_putAt_39 : decode prog_37_method_78_code 39 = .ok (.iconst 3, 1) := by decide +kernel
theorem dX10_putAt_40 : decode prog_37_method_78_code 40 = .ok (.isub, 1) := by decide +kernel
theorem dX10_putAt_41 : decode prog_37_method_78_code 41 = .ok (.goto 9, 3) := by decide +kernel
theorem dX10_putAt_44 : decode prog_37_method_78_code 44 = .ok (.aload_n 0, 1) := by decide +kernel
theorem dX10_putAt_45 : decode prog_37_method_78_code 45 = .ok (.getfield 461, 3) := by decide +kernel
theorem dX10_putAt_48 : decode prog_37_method_78_code 48 = .ok (.iconst 2, 1) := by decide +kernel
theorem dX10_putAt_49 : decode prog_37_method_78_code 49 = .ok (.isub, 1) := by decide +kernel
theorem dX10_putAt_50 : decode prog_37_method_78_code 50 = .ok (.istore 5, 2) := by decide +kernel
theorem dX10_putAt_52 : decode prog_37_method_78_code 52 = .ok (.aload_n 0, 1) := by decide +kernel
theorem dX10_putAt_53 : decode prog_37_method_78_code 53 = .ok (.iload 5, 2) := by decide +kernel
theorem dX10_putAt_55 : decode prog_37_method_78_code 55 = .ok (.putfield 461, 3) := by decide +kernel
theorem dX10_putAt_58 : decode prog_37_method_78_code 58 = .ok (.aload_n 0, 1) := by decide +kernel
theorem dX10_putAt_59 : decode prog_37_method_78_code 59 = .ok (.iload_n 3, 1) := by decide +kernel
theorem dX10_putAt_60 : decode prog_37_method_78_code 60 = .ok (.invokevirtual 576, 3) := by decide +kernel
theorem dX10_putAt_63 : decode prog_37_method_78_code 63 = .ok (.iconst 2, 1) := by decide +kernel
theorem dX10_putAt_64 : decode prog_37_method_78_code 64 = .ok (.if_icmp .ne 16, 3) := by decide +kernel
theorem dX10_putAt_67 : decode prog_37_method_78_code 67 = .ok (.aload_n 0, 1) := by decide +kernel
theorem dX10_putAt_68 : decode prog_37_method_78_code 68 = .ok (.bipush 7, 2) := by decide +kernel
theorem dX10_putAt_70 : decode prog_37_method_78_code 70 = .ok (.aload_n 0, 1) := by decide +kernel
theorem dX10_putAt_71 : decode prog_37_method_78_code 71 = .ok (.getfield 130, 3) := by decide +kernel
theorem dX10_putAt_74 : decode prog_37_method_78_code 74 = .ok (.iload_n 1, 1) := by decide +kernel
theorem dX10_putAt_75 : decode prog_37_method_78_code 75 = .ok (.iaload, 1) := by decide +kernel
theorem dX10_putAt_76 : decode prog_37_method_78_code 76 = .ok (.invokevirtual 510, 3) := by decide +kernel
theorem dX10_putAt_79 : decode prog_37_method_78_code 79 = .ok (.return_, 1) := by decide +kernel
theorem dX10_putAt_80 : decode prog_37_method_78_code 80 = .ok (.aload_n 0, 1) := by decide +kernel
theorem dX10_putAt_81 : decode prog_37_method_78_code 81 = .ok (.iload_n 3, 1) := by decide +kernel
theorem dX10_putAt_82 : decode prog_37_method_78_code 82 = .ok (.invokevirtual 579, 3) := by decide +kernel
theorem dX10_putAt_85 : decode prog_37_method_78_code 85 = .ok (.istore 6, 2) := by decide +kernel
theorem dX10_putAt_87 : decode prog_37_method_78_code 87 = .ok (.aload_n 0, 1) := by decide +kernel
theorem dX10_putAt_88 : decode prog_37_method_78_code 88 = .ok (.iload_n 3, 1) := by decide +kernel
theorem dX10_putAt_89 : decode prog_37_method_78_code 89 = .ok (.invokevirtual 576, 3) := by decide +kernel
theorem dX10_putAt_92 : decode prog_37_method_78_code 92 = .ok (.ifCond .ne 7, 3) := by decide +kernel
theorem dX10_putAt_95 : decode prog_37_method_78_code 95 = .ok (.iconst 0, 1) := by decide +kernel
theorem dX10_putAt_96 : decode prog_37_method_78_code 96 = .ok (.goto 10, 3) := by decide +kernel
theorem dX10_putAt_99 : decode prog_37_method_78_code 99 = .ok (.aload_n 0, 1) := by decide +kernel
theorem dX10_putAt_100 : decode prog_37_method_78_code 100 = .ok (.getfield 183, 3) := by decide +kernel
theorem dX10_putAt_103 : decode prog_37_method_78_code 103 = .ok (.iload 6, 2) := by decide +kernel
theorem dX10_putAt_105 : decode prog_37_method_78_code 105 = .ok (.iaload, 1) := by decide +kernel
theorem dX10_putAt_106 : decode prog_37_method_78_code 106 = .ok (.istore 7, 2) := by decide +kernel
theorem dX10_putAt_108 : decode prog_37_method_78_code 108 = .ok (.iload 7, 2) := by decide +kernel
theorem dX10_putAt_110 : decode prog_37_method_78_code 110 = .ok (.ifCond .le 17, 3) := by decide +kernel
theorem dX10_putAt_113 : decode prog_37_method_78_code 113 = .ok (.aload_n 0, 1) := by decide +kernel
theorem dX10_putAt_114 : decode prog_37_method_78_code 114 = .ok (.getfield 186, 3) := by decide +kernel
theorem dX10_putAt_117 : decode prog_37_method_78_code 117 = .ok (.iload 5, 2) := by decide +kernel
theorem dX10_putAt_119 : decode prog_37_method_78_code 119 = .ok (.iaload, 1) := by decide +kernel
theorem dX10_putAt_120 : decode prog_37_method_78_code 120 = .ok (.ifCond .ne 7, 3) := by decide +kernel
theorem dX10_putAt_123 : decode prog_37_method_78_code 123 = .ok (.iconst 1, 1) := by decide +kernel
theorem dX10_putAt_124 : decode prog_37_method_78_code 124 = .ok (.goto 4, 3) := by decide +kernel
theorem dX10_putAt_127 : decode prog_37_method_78_code 127 = .ok (.iconst 0, 1) := by decide +kernel
theorem dX10_putAt_128 : decode prog_37_method_78_code 128 = .ok (.istore 8, 2) := by decide +kernel
theorem dX10_putAt_130 : decode prog_37_method_78_code 130 = .ok (.iload_n 2, 1) := by decide +kernel
theorem dX10_putAt_131 : decode prog_37_method_78_code 131 = .ok (.ifCond .eq 46, 3) := by decide +kernel
theorem dX10_putAt_134 : decode prog_37_method_78_code 134 = .ok (.iload 8, 2) := by decide +kernel
theorem dX10_putAt_136 : decode prog_37_method_78_code 136 = .ok (.ifCond .eq 35, 3) := by decide +kernel
theorem dX10_putAt_139 : decode prog_37_method_78_code 139 = .ok (.iload 7, 2) := by decide +kernel
theorem dX10_putAt_141 : decode prog_37_method_78_code 141 = .ok (.iconst 2, 1) := by decide +kernel
theorem dX10_putAt_142 : decode prog_37_method_78_code 142 = .ok (.if_icmp .ne 29, 3) := by decide +kernel
theorem dX10_putAt_145 : decode prog_37_method_78_code 145 = .ok (.aload_n 0, 1) := by decide +kernel
theorem dX10_putAt_146 : decode prog_37_method_78_code 146 = .ok (.getfield 186, 3) := by decide +kernel
theorem dX10_putAt_149 : decode prog_37_method_78_code 149 = .ok (.iload 5, 2) := by decide +kernel
theorem dX10_putAt_151 : decode prog_37_method_78_code 151 = .ok (.iconst 1, 1) := by decide +kernel
theorem dX10_putAt_152 : decode prog_37_method_78_code 152 = .ok (.iadd, 1) := by decide +kernel
theorem dX10_putAt_153 : decode prog_37_method_78_code 153 = .ok (.iaload, 1) := by decide +kernel
theorem dX10_putAt_154 : decode prog_37_method_78_code 154 = .ok (.ifCond .ne 17, 3) := by decide +kernel
theorem dX10_putAt_157 : decode prog_37_method_78_code 157 = .ok (.aload_n 0, 1) := by decide +kernel
theorem dX10_putAt_158 : decode prog_37_method_78_code 158 = .ok (.getfield 186, 3) := by decide +kernel
theorem dX10_putAt_161 : decode prog_37_method_78_code 161 = .ok (.iload 4, 2) := by decide +kernel
theorem dX10_putAt_163 : decode prog_37_method_78_code 163 = .ok (.iaload, 1) := by decide +kernel
theorem dX10_putAt_164 : decode prog_37_method_78_code 164 = .ok (.ifCond .ne 7, 3) := by decide +kernel
theorem dX10_putAt_167 : decode prog_37_method_78_code 167 = .ok (.iconst 1, 1) := by decide +kernel
theorem dX10_putAt_168 : decode prog_37_method_78_code 168 = .ok (.goto 4, 3) := by decide +kernel
theorem dX10_putAt_171 : decode prog_37_method_78_code 171 = .ok (.iconst 0, 1) := by decide +kernel
theorem dX10_putAt_172 : decode prog_37_method_78_code 172 = .ok (.istore 8, 2) := by decide +kernel
theorem dX10_putAt_174 : decode prog_37_method_78_code 174 = .ok (.goto 62, 3) := by decide +kernel
theorem dX10_putAt_177 : decode prog_37_method_78_code 177 = .ok (.iload 7, 2) := by decide +kernel
theorem dX10_putAt_179 : decode prog_37_method_78_code 179 = .ok (.iconst 1, 1) := by decide +kernel
theorem dX10_putAt_180 : decode prog_37_method_78_code 180 = .ok (.if_icmp .ne 28, 3) := by decide +kernel
theorem dX10_putAt_183 : decode prog_37_method_78_code 183 = .ok (.iload 8, 2) := by decide +kernel
theorem dX10_putAt_185 : decode prog_37_method_78_code 185 = .ok (.ifCond .eq 17, 3) := by decide +kernel
theorem dX10_putAt_188 : decode prog_37_method_78_code 188 = .ok (.aload_n 0, 1) := by decide +kernel
theorem dX10_putAt_189 : decode prog_37_method_78_code 189 = .ok (.getfield 186, 3) := by decide +kernel
theorem dX10_putAt_192 : decode prog_37_method_78_code 192 = .ok (.iload 4, 2) := by decide +kernel
theorem dX10_putAt_194 : decode prog_37_method_78_code 194 = .ok (.iaload, 1) := by decide +kernel
theorem dX10_putAt_195 : decode prog_37_method_78_code 195 = .ok (.ifCond .ne 7, 3) := by decide +kernel
theorem dX10_putAt_198 : decode prog_37_method_78_code 198 = .ok (.iconst 1, 1) := by decide +kernel
theorem dX10_putAt_199 : decode prog_37_method_78_code 199 = .ok (.goto 4, 3) := by decide +kernel
theorem dX10_putAt_202 : decode prog_37_method_78_code 202 = .ok (.iconst 0, 1) := by decide +kernel
theorem dX10_putAt_203 : decode prog_37_method_78_code 203 = .ok (.istore 8, 2) := by decide +kernel
theorem dX10_putAt_205 : decode prog_37_method_78_code 205 = .ok (.goto 31, 3) := by decide +kernel
theorem dX10_putAt_208 : decode prog_37_method_78_code 208 = .ok (.iload 7, 2) := by decide +kernel
theorem dX10_putAt_210 : decode prog_37_method_78_code 210 = .ok (.iconst 2, 1) := by decide +kernel
theorem dX10_putAt_211 : decode prog_37_method_78_code 211 = .ok (.if_icmp .ne 25, 3) := by decide +kernel
theorem dX10_putAt_214 : decode prog_37_method_78_code 214 = .ok (.iload 8, 2) := by decide +kernel
theorem dX10_putAt_216 : decode prog_37_method_78_code 216 = .ok (.ifCond .eq 17, 3) := by decide +kernel
theorem dX10_putAt_219 : decode prog_37_method_78_code 219 = .ok (.aload_n 0, 1) := by decide +kernel
theorem dX10_putAt_220 : decode prog_37_method_78_code 220 = .ok (.iload 4, 2) := by decide +kernel
theorem dX10_putAt_222 : decode prog_37_method_78_code 222 = .ok (.invokevirtual 631, 3) := by decide +kernel
theorem dX10_putAt_225 : decode prog_37_method_78_code 225 = .ok (.iconst 1, 1) := by decide +kernel
theorem dX10_putAt_226 : decode prog_37_method_78_code 226 = .ok (.if_icmp .ne 7, 3) := by decide +kernel
theorem dX10_putAt_229 : decode prog_37_method_78_code 229 = .ok (.iconst 1, 1) := by decide +kernel
theorem dX10_putAt_230 : decode prog_37_method_78_code 230 = .ok (.goto 4, 3) := by decide +kernel
theorem dX10_putAt_233 : decode prog_37_method_78_code 233 = .ok (.iconst 0, 1) := by decide +kernel
theorem dX10_putAt_234 : decode prog_37_method_78_code 234 = .ok (.istore 8, 2) := by decide +kernel
theorem dX10_putAt_236 : decode prog_37_method_78_code 236 = .ok (.iload 8, 2) := by decide +kernel
theorem dX10_putAt_238 : decode prog_37_method_78_code 238 = .ok (.ifCond .ne 13, 3) := by decide +kernel
theorem dX10_putAt_241 : decode prog_37_method_78_code 241 = .ok (.aload_n 0, 1) := by decide +kernel
theorem dX10_putAt_242 : decode prog_37_method_78_code 242 = .ok (.iconst 3, 1) := by decide +kernel
theorem dX10_putAt_243 : decode prog_37_method_78_code 243 = .ok (.aload_n 0, 1) := by decide +kernel
theorem dX10_putAt_244 : decode prog_37_method_78_code 244 = .ok (.getfield 507, 3) := by decide +kernel
theorem dX10_putAt_247 : decode prog_37_method_78_code 247 = .ok (.invokevirtual 510, 3) := by decide +kernel
theorem dX10_putAt_250 : decode prog_37_method_78_code 250 = .ok (.return_, 1) := by decide +kernel
theorem dX10_putAt_251 : decode prog_37_method_78_code 251 = .ok (.aload_n 0, 1) := by decide +kernel
theorem dX10_putAt_252 : decode prog_37_method_78_code 252 = .ok (.getfield 189, 3) := by decide +kernel
theorem dX10_putAt_255 : decode prog_37_method_78_code 255 = .ok (.iload 5, 2) := by decide +kernel
theorem dX10_putAt_257 : decode prog_37_method_78_code 257 = .ok (.iaload, 1) := by decide +kernel
theorem dX10_putAt_258 : decode prog_37_method_78_code 258 = .ok (.istore 9, 2) := by decide +kernel
theorem dX10_putAt_260 : decode prog_37_method_78_code 260 = .ok (.iload 9, 2) := by decide +kernel
theorem dX10_putAt_262 : decode prog_37_method_78_code 262 = .ok (.ifCond .lt 14, 3) := by decide +kernel
theorem dX10_putAt_265 : decode prog_37_method_78_code 265 = .ok (.iload 9, 2) := by decide +kernel
theorem dX10_putAt_267 : decode prog_37_method_78_code 267 = .ok (.aload_n 0, 1) := by decide +kernel
theorem dX10_putAt_268 : decode prog_37_method_78_code 268 = .ok (.iload 6, 2) := by decide +kernel
theorem dX10_putAt_270 : decode prog_37_method_78_code 270 = .ok (.invokevirtual 477, 3) := by decide +kernel
theorem dX10_putAt_273 : decode prog_37_method_78_code 273 = .ok (.if_icmp .lt 13, 3) := by decide +kernel
theorem dX10_putAt_276 : decode prog_37_method_78_code 276 = .ok (.aload_n 0, 1) := by decide +kernel
theorem dX10_putAt_277 : decode prog_37_method_78_code 277 = .ok (.iconst 5, 1) := by decide +kernel
theorem dX10_putAt_278 : decode prog_37_method_78_code 278 = .ok (.aload_n 0, 1) := by decide +kernel
theorem dX10_putAt_279 : decode prog_37_method_78_code 279 = .ok (.getfield 507, 3) := by decide +kernel
theorem dX10_putAt_282 : decode prog_37_method_78_code 282 = .ok (.invokevirtual 510, 3) := by decide +kernel
theorem dX10_putAt_285 : decode prog_37_method_78_code 285 = .ok (.return_, 1) := by decide +kernel
theorem dX10_putAt_286 : decode prog_37_method_78_code 286 = .ok (.aload_n 0, 1) := by decide +kernel
theorem dX10_putAt_287 : decode prog_37_method_78_code 287 = .ok (.getfield 186, 3) := by decide +kernel
theorem dX10_putAt_290 : decode prog_37_method_78_code 290 = .ok (.iload 4, 2) := by decide +kernel
theorem dX10_putAt_292 : decode prog_37_method_78_code 292 = .ok (.iaload, 1) := by decide +kernel
theorem dX10_putAt_293 : decode prog_37_method_78_code 293 = .ok (.istore 10, 2) := by decide +kernel
theorem dX10_putAt_295 : decode prog_37_method_78_code 295 = .ok (.aload_n 0, 1) := by decide +kernel
theorem dX10_putAt_296 : decode prog_37_method_78_code 296 = .ok (.getfield 189, 3) := by decide +kernel
theorem dX10_putAt_299 : decode prog_37_method_78_code 299 = .ok (.iload 4, 2) := by decide +kernel
theorem dX10_putAt_301 : decode prog_37_method_78_code 301 = .ok (.iaload, 1) := by decide +kernel
theorem dX10_putAt_302 : decode prog_37_method_78_code 302 = .ok (.istore 11, 2) := by decide +kernel
theorem dX10_putAt_304 : decode prog_37_method_78_code 304 = .ok (.iload_n 2, 1) := by decide +kernel
theorem dX10_putAt_305 : decode prog_37_method_78_code 305 = .ok (.ifCond .eq 125, 3) := by decide +kernel
theorem dX10_putAt_308 : decode prog_37_method_78_code 308 = .ok (.aload_n 0, 1) := by decide +kernel
theorem dX10_putAt_309 : decode prog_37_method_78_code 309 = .ok (.iload 6, 2) := by decide +kernel
theorem dX10_putAt_311 : decode prog_37_method_78_code 311 = .ok (.iload 9, 2) := by decide +kernel
theorem dX10_putAt_313 : decode prog_37_method_78_code 313 = .ok (.invokevirtual 470, 3) := by decide +kernel
theorem dX10_putAt_316 : decode prog_37_method_78_code 316 = .ok (.istore 12, 2) := by decide +kernel
theorem dX10_putAt_318 : decode prog_37_method_78_code 318 = .ok (.aload_n 0, 1) := by decide +kernel
theorem dX10_putAt_319 : decode prog_37_method_78_code 319 = .ok (.getfield 189, 3) := by decide +kernel
theorem dX10_putAt_322 : decode prog_37_method_78_code 322 = .ok (.iload 5, 2) := by decide +kernel
theorem dX10_putAt_324 : decode prog_37_method_78_code 324 = .ok (.iconst 1, 1) := by decide +kernel
theorem dX10_putAt_325 : decode prog_37_method_78_code 325 = .ok (.iadd, 1) := by decide +kernel
theorem dX10_putAt_326 : decode prog_37_method_78_code 326 = .ok (.iaload, 1) := by decide +kernel
theorem dX10_putAt_327 : decode prog_37_method_78_code 327 = .ok (.istore 13, 2) := by decide +kernel
theorem dX10_putAt_329 : decode prog_37_method_78_code 329 = .ok (.iload 13, 2) := by decide +kernel
theorem dX10_putAt_331 : decode prog_37_method_78_code 331 = .ok (.ifCond .lt 14, 3) := by decide +kernel
theorem dX10_putAt_334 : decode prog_37_method_78_code 334 = .ok (.iload 13, 2) := by decide +kernel
theorem dX10_putAt_336 : decode prog_37_method_78_code 336 = .ok (.aload_n 0, 1) := by decide +kernel
theorem dX10_putAt_337 : decode prog_37_method_78_code 337 = .ok (.iload 12, 2) := by decide +kernel
theorem dX10_putAt_339 : decode prog_37_method_78_code 339 = .ok (.invokevirtual 477, 3) := by decide +kernel
theorem dX10_putAt_342 : decode prog_37_method_78_code 342 = .ok (.if_icmp .lt 15, 3) := by decide +kernel
theorem dX10_putAt_345 : decode prog_37_method_78_code 345 = .ok (.aload_n 0, 1) := by decide +kernel
theorem dX10_putAt_346 : decode prog_37_method_78_code 346 = .ok (.iconst 5, 1) := by decide +kernel
theorem dX10_putAt_347 : decode prog_37_method_78_code 347 = .ok (.aload_n 0, 1) := by decide +kernel
theorem dX10_putAt_348 : decode prog_37_method_78_code 348 = .ok (.getfield 127, 3) := by decide +kernel
theorem dX10_putAt_351 : decode prog_37_method_78_code 351 = .ok (.iload_n 1, 1) := by decide +kernel
theorem dX10_putAt_352 : decode prog_37_method_78_code 352 = .ok (.iaload, 1) := by decide +kernel
theorem dX10_putAt_353 : decode prog_37_method_78_code 353 = .ok (.invokevirtual 510, 3) := by decide +kernel
theorem dX10_putAt_356 : decode prog_37_method_78_code 356 = .ok (.return_, 1) := by decide +kernel
theorem dX10_putAt_357 : decode prog_37_method_78_code 357 = .ok (.iconst 0, 1) := by decide +kernel
theorem dX10_putAt_358 : decode prog_37_method_78_code 358 = .ok (.istore 14, 2) := by decide +kernel
theorem dX10_putAt_360 : decode prog_37_method_78_code 360 = .ok (.iload 14, 2) := by decide +kernel
theorem dX10_putAt_362 : decode prog_37_method_78_code 362 = .ok (.aload_n 0, 1) := by decide +kernel
theorem dX10_putAt_363 : decode prog_37_method_78_code 363 = .ok (.iload 12, 2) := by decide +kernel
theorem dX10_putAt_365 : decode prog_37_method_78_code 365 = .ok (.invokevirtual 477, 3) := by decide +kernel
theorem dX10_putAt_368 : decode prog_37_method_78_code 368 = .ok (.if_icmp .ge 38, 3) := by decide +kernel
theorem dX10_putAt_371 : decode prog_37_method_78_code 371 = .ok (.aload_n 0, 1) := by decide +kernel
theorem dX10_putAt_372 : decode prog_37_method_78_code 372 = .ok (.iconst 0, 1) := by decide +kernel
theorem dX10_putAt_373 : decode prog_37_method_78_code 373 = .ok (.iload 14, 2) := by decide +kernel
theorem dX10_putAt_375 : decode prog_37_method_78_code 375 = .ok (.iload 13, 2) := by decide +kernel
theorem dX10_putAt_377 : decode prog_37_method_78_code 377 = .ok (.if_icmp .ne 8, 3) := by decide +kernel
theorem dX10_putAt_380 : decode prog_37_method_78_code 380 = .ok (.iload 11, 2) := by decide +kernel
theorem dX10_putAt_382 : decode prog_37_method_78_code 382 = .ok (.goto 15, 3) := by decide +kernel
theorem dX10_putAt_385 : decode prog_37_method_78_code 385 = .ok (.aload_n 0, 1) := by decide +kernel
theorem dX10_putAt_386 : decode prog_37_method_78_code 386 = .ok (.getfield 183, 3) := by decide +kernel
theorem dX10_putAt_389 : decode prog_37_method_78_code 389 = .ok (.iload 12, 2) := by decide +kernel
theorem dX10_putAt_391 : decode prog_37_method_78_code 391 = .ok (.iconst 2, 1) := by decide +kernel
theorem dX10_putAt_392 : decode prog_37_method_78_code 392 = .ok (.iadd, 1) := by decide +kernel
theorem dX10_putAt_393 : decode prog_37_method_78_code 393 = .ok (.iload 14, 2) := by decide +kernel
theorem dX10_putAt_395 : decode prog_37_method_78_code 395 = .ok (.iadd, 1) := by decide +kernel
theorem dX10_putAt_396 : decode prog_37_method_78_code 396 = .ok (.iaload, 1) := by decide +kernel
theorem dX10_putAt_397 : decode prog_37_method_78_code 397 = .ok (.invokevirtual 464, 3) := by decide +kernel
theorem dX10_putAt_400 : decode prog_37_method_78_code 400 = .ok (.iinc 14 1, 3) := by decide +kernel
theorem dX10_putAt_403 : decode prog_37_method_78_code 403 = .ok (.goto (-43), 3) := by decide +kernel
theorem dX10_putAt_406 : decode prog_37_method_78_code 406 = .ok (.aload_n 0, 1) := by decide +kernel
theorem dX10_putAt_407 : decode prog_37_method_78_code 407 = .ok (.iload 5, 2) := by decide +kernel
theorem dX10_putAt_409 : decode prog_37_method_78_code 409 = .ok (.invokevirtual 634, 3) := by decide +kernel
theorem dX10_putAt_412 : decode prog_37_method_78_code 412 = .ok (.aload_n 0, 1) := by decide +kernel
theorem dX10_putAt_413 : decode prog_37_method_78_code 413 = .ok (.iload 5, 2) := by decide +kernel
theorem dX10_putAt_415 : decode prog_37_method_78_code 415 = .ok (.putfield 461, 3) := by decide +kernel
theorem dX10_putAt_418 : decode prog_37_method_78_code 418 = .ok (.iconst 1, 1) := by decide +kernel
theorem dX10_putAt_419 : decode prog_37_method_78_code 419 = .ok (.istore 10, 2) := by decide +kernel
theorem dX10_putAt_421 : decode prog_37_method_78_code 421 = .ok (.aload_n 0, 1) := by decide +kernel
theorem dX10_putAt_422 : decode prog_37_method_78_code 422 = .ok (.getfield 189, 3) := by decide +kernel
theorem dX10_putAt_425 : decode prog_37_method_78_code 425 = .ok (.iload 5, 2) := by decide +kernel
theorem dX10_putAt_427 : decode prog_37_method_78_code 427 = .ok (.iaload, 1) := by decide +kernel
theorem dX10_putAt_428 : decode prog_37_method_78_code 428 = .ok (.istore 11, 2) := by decide +kernel
theorem dX10_putAt_430 : decode prog_37_method_78_code 430 = .ok (.iconst 0, 1) := by decide +kernel
theorem dX10_putAt_431 : decode prog_37_method_78_code 431 = .ok (.istore 12, 2) := by decide +kernel
theorem dX10_putAt_433 : decode prog_37_method_78_code 433 = .ok (.iload 12, 2) := by decide +kernel
theorem dX10_putAt_435 : decode prog_37_method_78_code 435 = .ok (.aload_n 0, 1) := by decide +kernel
theorem dX10_putAt_436 : decode prog_37_method_78_code 436 = .ok (.iload 6, 2) := by decide +kernel
theorem dX10_putAt_438 : decode prog_37_method_78_code 438 = .ok (.invokevirtual 477, 3) := by decide +kernel
theorem dX10_putAt_441 : decode prog_37_method_78_code 441 = .ok (.if_icmp .ge 35, 3) := by decide +kernel
theorem dX10_putAt_444 : decode prog_37_method_78_code 444 = .ok (.iload 12, 2) := by decide +kernel
theorem dX10_putAt_446 : decode prog_37_method_78_code 446 = .ok (.iload 9, 2) := by decide +kernel
theorem dX10_putAt_448 : decode prog_37_method_78_code 448 = .ok (.if_icmp .ne 14, 3) := by decide +kernel
theorem dX10_putAt_451 : decode prog_37_method_78_code 451 = .ok (.aload_n 0, 1) := by decide +kernel
theorem dX10_putAt_452 : decode prog_37_method_78_code 452 = .ok (.iload 10, 2) := by decide +kernel
theorem dX10_putAt_454 : decode prog_37_method_78_code 454 = .ok (.iload 11, 2) := by decide +kernel
theorem dX10_putAt_456 : decode prog_37_method_78_code 456 = .ok (.invokevirtual 464, 3) := by decide +kernel
theorem dX10_putAt_459 : decode prog_37_method_78_code 459 = .ok (.goto 11, 3) := by decide +kernel
theorem dX10_putAt_462 : decode prog_37_method_78_code 462 = .ok (.aload_n 0, 1) := by decide +kernel
theorem dX10_putAt_463 : decode prog_37_method_78_code 463 = .ok (.iload 6, 2) := by decide +kernel
theorem dX10_putAt_465 : decode prog_37_method_78_code 465 = .ok (.iload 12, 2) := by decide +kernel
theorem dX10_putAt_467 : decode prog_37_method_78_code 467 = .ok (.invokevirtual 610, 3) := by decide +kernel
theorem dX10_putAt_470 : decode prog_37_method_78_code 470 = .ok (.iinc 12 1, 3) := by decide +kernel
theorem dX10_putAt_473 : decode prog_37_method_78_code 473 = .ok (.goto (-40), 3) := by decide +kernel
theorem dX10_putAt_476 : decode prog_37_method_78_code 476 = .ok (.aload_n 0, 1) := by decide +kernel
theorem dX10_putAt_477 : decode prog_37_method_78_code 477 = .ok (.iload 7, 2) := by decide +kernel
theorem dX10_putAt_479 : decode prog_37_method_78_code 479 = .ok (.iload 5, 2) := by decide +kernel
theorem dX10_putAt_481 : decode prog_37_method_78_code 481 = .ok (.invokevirtual 628, 3) := by decide +kernel
theorem dX10_putAt_484 : decode prog_37_method_78_code 484 = .ok (.aload_n 0, 1) := by decide +kernel
theorem dX10_putAt_485 : decode prog_37_method_78_code 485 = .ok (.iload 5, 2) := by decide +kernel
theorem dX10_putAt_487 : decode prog_37_method_78_code 487 = .ok (.putfield 461, 3) := by decide +kernel
theorem dX10_putAt_490 : decode prog_37_method_78_code 490 = .ok (.aload_n 0, 1) := by decide +kernel
theorem dX10_putAt_491 : decode prog_37_method_78_code 491 = .ok (.getfield 498, 3) := by decide +kernel
theorem dX10_putAt_494 : decode prog_37_method_78_code 494 = .ok (.ifCond .ne 16, 3) := by decide +kernel
theorem dX10_putAt_497 : decode prog_37_method_78_code 497 = .ok (.aload_n 0, 1) := by decide +kernel
theorem dX10_putAt_498 : decode prog_37_method_78_code 498 = .ok (.iload_n 3, 1) := by decide +kernel
theorem dX10_putAt_499 : decode prog_37_method_78_code 499 = .ok (.iconst 1, 1) := by decide +kernel
theorem dX10_putAt_500 : decode prog_37_method_78_code 500 = .ok (.aload_n 0, 1) := by decide +kernel
theorem dX10_putAt_501 : decode prog_37_method_78_code 501 = .ok (.getfield 189, 3) := by decide +kernel
theorem dX10_putAt_504 : decode prog_37_method_78_code 504 = .ok (.iload 5, 2) := by decide +kernel
theorem dX10_putAt_506 : decode prog_37_method_78_code 506 = .ok (.iaload, 1) := by decide +kernel
theorem dX10_putAt_507 : decode prog_37_method_78_code 507 = .ok (.invokevirtual 549, 3) := by decide +kernel
theorem dX10_putAt_510 : decode prog_37_method_78_code 510 = .ok (.return_, 1) := by decide +kernel
theorem dX10_forNext_0 : decode prog_37_method_75_code 0 = .ok (.aload_n 0, 1) := by decide +kernel
theorem dX10_forNext_1 : decode prog_37_method_75_code 1 = .ok (.invokevirtual 573, 3) := by decide +kernel
theorem dX10_forNext_4 : decode prog_37_method_75_code 4 = .ok (.aload_n 0, 1) := by decide +kernel
theorem dX10_forNext_5 : decode prog_37_method_75_code 5 = .ok (.getfield 498, 3) := by decide +kernel
theorem dX10_forNext_8 : decode prog_37_method_75_code 8 = .ok (.ifCond .le 4, 3) := by decide +kernel
theorem dX10_forNext_11 : decode prog_37_method_75_code 11 = .ok (.return_, 1) := by decide +kernel
theorem dX10_forNext_12 : decode prog_37_method_75_code 12 = .ok (.aload_n 0, 1) := by decide +kernel
theorem dX10_forNext_13 : decode prog_37_method_75_code 13 = .ok (.getfield 534, 3) := by decide +kernel
theorem dX10_forNext_16 : decode prog_37_method_75_code 16 = .ok (.iconst 1, 1) := by decide +kernel
theorem dX10_forNext_17 : decode prog_37_method_75_code 17 = .ok (.isub, 1) := by decide +kernel
theorem dX10_forNext_18 : decode prog_37_method_75_code 18 = .ok (.istore_n 2, 1) := by decide +kernel
theorem dX10_forNext_19 : decode prog_37_method_75_code 19 = .ok (.aload_n 0, 1) := by decide +kernel
theorem dX10_forNext_20 : decode prog_37_method_75_code 20 = .ok (.getfield 237, 3) := by decide +kernel
theorem dX10_forNext_23 : decode prog_37_method_75_code 23 = .ok (.iload_n 2, 1) := by decide +kernel
theorem dX10_forNext_24 : decode prog_37_method_75_code 24 = .ok (.iaload, 1) := by decide +kernel
theorem dX10_forNext_25 : decode prog_37_method_75_code 25 = .ok (.aload_n 0, 1) := by decide +kernel
theorem dX10_forNext_26 : decode prog_37_method_75_code 26 = .ok (.getfield 240, 3) := by decide +kernel
theorem dX10_forNext_29 : decode prog_37_method_75_code 29 = .ok (.iload_n 2, 1) := by decide +kernel
theorem dX10_forNext_30 : decode prog_37_method_75_code 30 = .ok (.iaload, 1) := by decide +kernel
theorem dX10_forNext_31 : decode prog_37_method_75_code 31 = .ok (.if_icmp .ne 24, 3) := by decide +kernel
theorem dX10_forNext_34 : decode prog_37_method_75_code 34 = .ok (.aload_n 0, 1) := by decide +kernel
theorem dX10_forNext_35 : decode prog_37_method_75_code 35 = .ok (.dup, 1) := by decide +kernel
theorem dX10_forNext_36 : decode prog_37_method_75_code 36 = .ok (.getfield 534, 3) := by decide +kernel
theorem dX10_forNext_39 : decode prog_37_method_75_code 39 = .ok (.iconst 1, 1) := by decide +kernel
theorem dX10_forNext_40 : decode prog_37_method_75_code 40 = .ok (.isub, 1) := by decide +kernel
theorem dX10_forNext_41 : decode prog_37_method_75_code 41 = .ok (.putfield 534, 3) := by decide +kernel
theorem dX10_forNext_44 : decode prog_37_method_75_code 44 = .ok (.aload_n 0, 1) := by decide +kernel
theorem dX10_forNext_45 : decode prog_37_method_75_code 45 = .ok (.aload_n 0, 1) := by decide +kernel
theorem dX10_forNext_46 : decode prog_37_method_75_code 46 = .ok (.getfield 124, 3) := by decide +kernel
theorem dX10_forNext_49 : decode prog_37_method_75_code 49 = .ok (.iload_n 1, 1) := by decide +kernel
theorem dX10_forNext_50 : decode prog_37_method_75_code 50 = .ok (.iaload, 1) := by decide +kernel
theorem dX10_forNext_51 : decode prog_37_method_75_code 51 = .ok (.putfield 540, 3) := by decide +kernel
theorem dX10_forNext_54 : decode prog_37_method_75_code 54 = .ok (.return_, 1) := by decide +kernel
theorem dX10_forNext_55 : decode prog_37_method_75_code 55 = .ok (.aload_n 0, 1) := by decide +kernel
theorem dX10_forNext_56 : decode prog_37_method_75_code 56 = .ok (.getfield 234, 3) := by decide +kernel
theorem dX10_forNext_59 : decode prog_37_method_75_code 59 = .ok (.iload_n 2, 1) := by decide +kernel
theorem dX10_forNext_60 : decode prog_37_method_75_code 60 = .ok (.iaload, 1) := by decide +kernel
theorem dX10_forNext_61 : decode prog_37_method_75_code 61 = .ok (.iconst (-1), 1) := by decide +kernel
theorem dX10_forNext_62 : decode prog_37_method_75_code 62 = .ok (.if_icmp .ne 17, 3) := by decide +kernel
theorem dX10_forNext_65 : decode prog_37_method_75_code 65 = .ok (.aload_n 0, 1) := by decide +kernel
theorem dX10_forNext_66 : decode prog_37_method_75_code 66 = .ok (.iconst 0, 1) := by decide +kernel
theorem dX10_forNext_67 : decode prog_37_method_75_code 67 = .ok (.aload_n 0, 1) := by decide +kernel
theorem dX10_forNext_68 : decode prog_37_method_75_code 68 = .ok (.getfield 237, 3) := by decide +kernel
theorem dX10_forNext_71 : decode prog_37_method_75_code 71 = .ok (.iload_n 2, 1) := by decide +kernel
theorem dX10_forNext_72 : decode prog_37_method_75_code 72 = .ok (.iaload, 1) := by decide +kernel
theorem dX10_forNext_73 : decode prog_37_method_75_code 73 = .ok (.invokevirtual 464, 3) := by decide +kernel
theorem dX10_forNext_76 : decode prog_37_method_75_code 76 = .ok (.goto 19, 3) := by decide +kernel
theorem dX10_forNext_79 : decode prog_37_method_75_code 79 = .ok (.aload_n 0, 1) := by decide +kernel
theorem dX10_forNext_80 : decode prog_37_method_75_code 80 = .ok (.aload_n 0, 1) := by decide +kernel
theorem dX10_forNext_81 : decode prog_37_method_75_code 81 = .ok (.getfield 234, 3) := by decide +kernel
theorem dX10_forNext_84 : decode prog_37_method_75_code 84 = .ok (.iload_n 2, 1) := by decide +kernel
theorem dX10_forNext_85 : decode prog_37_method_75_code 85 = .ok (.iaload, 1) := by decide +kernel
theorem dX10_forNext_86 : decode prog_37_method_75_code 86 = .ok (.aload_n 0, 1) := by decide +kernel
theorem dX10_forNext_87 : decode prog_37_method_75_code 87 = .ok (.getfield 237, 3) := by decide +kernel
theorem dX10_forNext_90 : decode prog_37_method_75_code 90 = .ok (.iload_n 2, 1) := by decide +kernel
theorem dX10_forNext_91 : decode prog_37_method_75_code 91 = .ok (.iaload, 1) := by decide +kernel
theorem dX10_forNext_92 : decode prog_37_method_75_code 92 = .ok (.invokevirtual 610, 3) := by decide +kernel
theorem dX10_forNext_95 : decode prog_37_method_75_code 95 = .ok (.aload_n 0, 1) := by decide +kernel
theorem dX10_forNext_96 : decode prog_37_method_75_code 96 = .ok (.getfield 237, 3) := by decide +kernel
theorem dX10_forNext_99 : decode prog_37_method_75_code 99 = .ok (.iload_n 2, 1) := by decide +kernel
theorem dX10_forNext_100 : decode prog_37_method_75_code 100 = .ok (.dup2, 1) := by decide +kernel
theorem dX10_forNext_101 : decode prog_37_method_75_code 101 = .ok (.iaload, 1) := by decide +kernel
theorem dX10_forNext_102 : decode prog_37_method_75_code 102 = .ok (.iconst 1, 1) := by decide +kernel
theorem dX10_forNext_103 : decode prog_37_method_75_code 103 = .ok (.iadd, 1) := by decide +kernel
theorem dX10_forNext_104 : decode prog_37_method_75_code 104 = .ok (.iastore, 1) := by decide +kernel
theorem dX10_forNext_105 : decode prog_37_method_75_code 105 = .ok (.aload_n 0, 1) := by decide +kernel
theorem dX10_forNext_106 : decode prog_37_method_75_code 106 = .ok (.dup, 1) := by decide +kernel
theorem dX10_forNext_107 : decode prog_37_method_75_code 107 = .ok (.getfield 461, 3) := by decide +kernel
theorem dX10_forNext_110 : decode prog_37_method_75_code 110 = .ok (.iconst 1, 1) := by decide +kernel
theorem dX10_forNext_111 : decode prog_37_method_75_code 111 = .ok (.isub, 1) := by decide +kernel
theorem dX10_forNext_112 : decode prog_37_method_75_code 112 = .ok (.putfield 461, 3) := by decide +kernel
theorem dX10_forNext_115 : decode prog_37_method_75_code 115 = .ok (.aload_n 0, 1) := by decide +kernel
theorem dX10_forNext_116 : decode prog_37_method_75_code 116 = .ok (.aload_n 0, 1) := by decide +kernel
theorem dX10_forNext_117 : decode prog_37_method_75_code 117 = .ok (.getfield 127, 3) := by decide +kernel
theorem dX10_forNext_120 : decode prog_37_method_75_code 120 = .ok (.iload_n 1, 1) := by decide +kernel
theorem dX10_forNext_121 : decode prog_37_method_75_code 121 = .ok (.iaload, 1) := by decide +kernel
theorem dX10_forNext_122 : decode prog_37_method_75_code 122 = .ok (.aload_n 0, 1) := by decide +kernel
theorem dX10_forNext_123 : decode prog_37_method_75_code 123 = .ok (.getfield 186, 3) := by decide +kernel
theorem dX10_forNext_126 : decode prog_37_method_75_code 126 = .ok (.aload_n 0, 1) := by decide +kernel
theorem dX10_forNext_127 : decode prog_37_method_75_code 127 = .ok (.getfield 461, 3) := by decide +kernel
theorem dX10_forNext_130 : decode prog_37_method_75_code 130 = .ok (.iaload, 1) := by decide +kernel
theorem dX10_forNext_131 : decode prog_37_method_75_code 131 = .ok (.aload_n 0, 1) := by decide +kernel
theorem dX10_forNext_132 : decode prog_37_method_75_code 132 = .ok (.getfield 189, 3) := by decide +kernel
theorem dX10_forNext_135 : decode prog_37_method_75_code 135 = .ok (.aload_n 0, 1) := by decide +kernel
theorem dX10_forNext_136 : decode prog_37_method_75_code 136 = .ok (.getfield 461, 3) := by decide +kernel
theorem dX10_forNext_139 : decode prog_37_method_75_code 139 = .ok (.iaload, 1) := by decide +kernel
theorem dX10_forNext_140 : decode prog_37_method_75_code 140 = .ok (.invokevirtual 549, 3) := by decide +kernel
theorem dX10_forNext_143 : decode prog_37_method_75_code 143 = .ok (.return_, 1) := by decide +kernel
theorem dX10_ofOne_0 : decode prog_37_method_74_code 0 = .ok (.aload_n 0, 1) := by decide +kernel
theorem dX10_ofOne_1 : decode prog_37_method_74_code 1 = .ok (.getfield 121, 3) := by decide +kernel
theorem dX10_ofOne_4 : decode prog_37_method_74_code 4 = .ok (.iload_n 1, 1) := by decide +kernel
theorem dX10_ofOne_5 : decode prog_37_method_74_code 5 = .ok (.iaload, 1) := by decide +kernel
theorem dX10_ofOne_6 : decode prog_37_method_74_code 6 = .ok (.istore_n 2, 1) := by decide +kernel
theorem dX10_ofOne_7 : decode prog_37_method_74_code 7 = .ok (.iload_n 2, 1) := by decide +kernel
theorem dX10_ofOne_8 : decode prog_37_method_74_code 8 = .ok (.bipush 14, 2) := by decide +kernel
theorem dX10_ofOne_10 : decode prog_37_method_74_code 10 = .ok (.if_icmp .eq 9, 3) := by decide +kernel
theorem dX10_ofOne_13 : decode prog_37_method_74_code 13 = .ok (.iload_n 2, 1) := by decide +kernel
theorem dX10_ofOne_14 : decode prog_37_method_74_code 14 = .ok (.bipush 21, 2) := by decide +kernel
theorem dX10_ofOne_16 : decode prog_37_method_74_code 16 = .ok (.if_icmp .ne 84, 3) := by decide +kernel
theorem dX10_ofOne_19 : decode prog_37_method_74_code 19 = .ok (.aload_n 0, 1) := by decide +kernel
theorem dX10_ofOne_20 : decode prog_37_method_74_code 20 = .ok (.getfield 186, 3) := by decide +kernel
theorem dX10_ofOne_23 : decode prog_37_method_74_code 23 = .ok (.aload_n 0, 1) := by decide +kernel
theorem dX10_ofOne_24 : decode prog_37_method_74_code 24 = .ok (.getfield 461, 3) := by decide +kernel
theorem dX10_ofOne_27 : decode prog_37_method_74_code 27 = .ok (.iaload, 1) := by decide +kernel
theorem dX10_ofOne_28 : decode prog_37_method_74_code 28 = .ok (.ifCond .eq 15, 3) := by decide +kernel
theorem dX10_ofOne_31 : decode prog_37_method_74_code 31 = .ok (.aload_n 0, 1) := by decide +kernel
theorem dX10_ofOne_32 : decode prog_37_method_74_code 32 = .ok (.iconst 3, 1) := by decide +kernel
theorem dX10_ofOne_33 : decode prog_37_method_74_code 33 = .ok (.aload_n 0, 1) := by decide +kernel
theorem dX10_ofOne_34 : decode prog_37_method_74_code 34 = .ok (.getfield 507, 3) := by decide +kernel
theorem dX10_ofOne_37 : decode prog_37_method_74_code 37 = .ok (.invokevirtual 510, 3) := by decide +kernel
theorem dX10_ofOne_40 : decode prog_37_method_74_code 40 = .ok (.goto 297, 3) := by decide +kernel
theorem dX10_ofOne_43 : decode prog_37_method_74_code 43 = .ok (.iload_n 2, 1) := by decide +kernel
theorem dX10_ofOne_44 : decode prog_37_method_74_code 44 = .ok (.bipush 14, 2) := by decide +kernel
theorem dX10_ofOne_46 : decode prog_37_method_74_code 46 = .ok (.if_icmp .ne 28, 3) := by decide +kernel
theorem dX10_ofOne_49 : decode prog_37_method_74_code 49 = .ok (.aload_n 0, 1) := by decide +kernel
theorem dX10_ofOne_50 : decode prog_37_method_74_code 50 = .ok (.getfield 189, 3) := by decide +kernel
theorem dX10_ofOne_53 : decode prog_37_method_74_code 53 = .ok (.aload_n 0, 1) := by decide +kernel
theorem dX10_ofOne_54 : decode prog_37_method_74_code 54 = .ok (.getfield 461, 3) := by decide +kernel
theorem dX10_ofOne_57 : decode prog_37_method_74_code 57 = .ok (.iaload, 1) := by decide +kernel
theorem dX10_ofOne_58 : decode prog_37_method_74_code 58 = .ok (.ifCond .ne 279, 3) := by decide +kernel
theorem dX10_ofOne_61 : decode prog_37_method_74_code 61 = .ok (.aload_n 0, 1) := by decide +kernel
theorem dX10_ofOne_62 : decode prog_37_method_74_code 62 = .ok (.aload_n 0, 1) := by decide +kernel
theorem dX10_ofOne_63 : decode prog_37_method_74_code 63 = .ok (.getfield 124, 3) := by decide +kernel
theorem dX10_ofOne_66 : decode prog_37_method_74_code 66 = .ok (.iload_n 1, 1) := by decide +kernel
theorem dX10_ofOne_67 : decode prog_37_method_74_code 67 = .ok (.iaload, 1) := by decide +kernel
theorem dX10_ofOne_68 : decode prog_37_method_74_code 68 = .ok (.putfield 540, 3) := by decide +kernel
theorem dX10_ofOne_71 : decode prog_37_method_74_code 71 = .ok (.goto 266, 3) := by decide +kernel
theorem dX10_ofOne_74 : decode prog_37_method_74_code 74 = .ok (.aload_n 0, 1) := by decide +kernel
theorem dX10_ofOne_75 : decode prog_37_method_74_code 75 = .ok (.aload_n 0, 1) := by decide +kernel
theorem dX10_ofOne_76 : decode prog_37_method_74_code 76 = .ok (.getfield 189, 3) := by decide +kernel
theorem dX10_ofOne_79 : decode prog_37_method_74_code 79 = .ok (.aload_n 0, 1) := by decide +kernel
theorem dX10_ofOne_80 : decode prog_37_method_74_code 80 = .ok (.getfield 461, 3) := by decide +kernel
theorem dX10_ofOne_83 : decode prog_37_method_74_code 83 = .ok (.iaload, 1) := by decide +kernel
theorem dX10_ofOne_84 : decode prog_37_method_74_code 84 = .ok (.putfield 543, 3) := by decide +kernel
theorem dX10_ofOne_87 : decode prog_37_method_74_code 87 = .ok (.aload_n 0, 1) := by decide +kernel
theorem dX10_ofOne_88 : decode prog_37_method_74_code 88 = .ok (.bipush 9, 2) := by decide +kernel
theorem dX10_ofOne_90 : decode prog_37_method_74_code 90 = .ok (.aload_n 0, 1) := by decide +kernel
theorem dX10_ofOne_91 : decode prog_37_method_74_code 91 = .ok (.getfield 507, 3) := by decide +kernel
theorem dX10_ofOne_94 : decode prog_37_method_74_code 94 = .ok (.invokevirtual 510, 3) := by decide +kernel
theorem dX10_ofOne_97 : decode prog_37_method_74_code 97 = .ok (.goto 240, 3) := by decide +kernel
theorem dX10_ofOne_100 : decode prog_37_method_74_code 100 = .ok (.iload_n 2, 1) := by decide +kernel
theorem dX10_ofOne_101 : decode prog_37_method_74_code 101 = .ok (.bipush 17, 2) := by decide +kernel
theorem dX10_ofOne_103 : decode prog_37_method_74_code 103 = .ok (.if_icmp .ne 101, 3) := by decide +kernel
theorem dX10_ofOne_106 : decode prog_37_method_74_code 106 = .ok (.aload_n 0, 1) := by decide +kernel
theorem dX10_ofOne_107 : decode prog_37_method_74_code 107 = .ok (.getfield 186, 3) := by decide +kernel
theorem dX10_ofOne_110 : decode prog_37_method_74_code 110 = .ok (.aload_n 0, 1) := by decide +kernel
theorem dX10_ofOne_111 : decode prog_37_method_74_code 111 = .ok (.getfield 461, 3) := by decide +kernel
theorem dX10_ofOne_114 : decode prog_37_method_74_code 114 = .ok (.iaload, 1) := by decide +kernel
theorem dX10_ofOne_115 : decode prog_37_method_74_code 115 = .ok (.ifCond .ne 27, 3) := by decide +kernel
theorem dX10_ofOne_118 : decode prog_37_method_74_code 118 = .ok (.aload_n 0, 1) := by decide +kernel
theorem dX10_ofOne_119 : decode prog_37_method_74_code 119 = .ok (.getfield 189, 3) := by decide +kernel
theorem dX10_ofOne_122 : decode prog_37_method_74_code 122 = .ok (.aload_n 0, 1) := by decide +kernel
theorem dX10_ofOne_123 : decode prog_37_method_74_code 123 = .ok (.getfield 461, 3) := by decide +kernel
theorem dX10_ofOne_126 : decode prog_37_method_74_code 126 = .ok (.iaload, 1) := by decide +kernel
theorem dX10_ofOne_127 : decode prog_37_method_74_code 127 = .ok (.ifCond .ge 15, 3) := by decide +kernel
theorem dX10_ofOne_130 : decode prog_37_method_74_code 130 = .ok (.aload_n 0, 1) := by decide +kernel
theorem dX10_ofOne_131 : decode prog_37_method_74_code 131 = .ok (.iconst 1, 1) := by decide +kernel
theorem dX10_ofOne_132 : decode prog_37_method_74_code 132 = .ok (.aload_n 0, 1) := by decide +kernel
theorem dX10_ofOne_133 : decode prog_37_method_74_code 133 = .ok (.getfield 507, 3) := by decide +kernel
theorem dX10_ofOne_136 : decode prog_37_method_74_code 136 = .ok (.invokevirtual 510, 3) := by decide +kernel
theorem dX10_ofOne_139 : decode prog_37_method_74_code 139 = .ok (.goto 198, 3) := by decide +kernel
theorem dX10_ofOne_142 : decode prog_37_method_74_code 142 = .ok (.aload_n 0, 1) := by decide +kernel
theorem dX10_ofOne_143 : decode prog_37_method_74_code 143 = .ok (.getfield 186, 3) := by decide +kernel
theorem dX10_ofOne_146 : decode prog_37_method_74_code 146 = .ok (.aload_n 0, 1) := by decide +kernel
theorem dX10_ofOne_147 : decode prog_37_method_74_code 147 = .ok (.getfield 461, 3) := by decide +kernel
theorem dX10_ofOne_150 : decode prog_37_method_74_code 150 = .ok (.iaload, 1) := by decide +kernel
theorem dX10_ofOne_151 : decode prog_37_method_74_code 151 = .ok (.ifCond .ne 22, 3) := by decide +kernel
theorem dX10_ofOne_154 : decode prog_37_method_74_code 154 = .ok (.aload_n 0, 1) := by decide +kernel
theorem dX10_ofOne_155 : decode prog_37_method_74_code 155 = .ok (.iconst 1, 1) := by decide +kernel
theorem dX10_ofOne_156 : decode prog_37_method_74_code 156 = .ok (.iconst (-1), 1) := by decide +kernel
theorem dX10_ofOne_157 : decode prog_37_method_74_code 157 = .ok (.aload_n 0, 1) := by decide +kernel
theorem dX10_ofOne_158 : decode prog_37_method_74_code 158 = .ok (.getfield 189, 3) := by decide +kernel
theorem dX10_ofOne_161 : decode prog_37_method_74_code 161 = .ok (.aload_n 0, 1) := by decide +kernel
theorem dX10_ofOne_162 : decode prog_37_method_74_code 162 = .ok (.getfield 461, 3) := by decide +kernel
theorem dX10_ofOne_165 : decode prog_37_method_74_code 165 = .ok (.iaload, 1) := by decide +kernel
theorem dX10_ofOne_166 : decode prog_37_method_74_code 166 = .ok (.iconst 0, 1) := by decide +kernel
theorem dX10_ofOne_167 : decode prog_37_method_74_code 167 = .ok (.invokevirtual 594, 3) := by decide +kernel
theorem dX10_ofOne_170 : decode prog_37_method_74_code 170 = .ok (.goto 167, 3) := by decide +kernel
theorem dX10_ofOne_173 : decode prog_37_method_74_code 173 = .ok (.aload_n 0, 1) := by decide +kernel
theorem dX10_ofOne_174 : decode prog_37_method_74_code 174 = .ok (.iconst 1, 1) := by decide +kernel
theorem dX10_ofOne_175 : decode prog_37_method_74_code 175 = .ok (.aload_n 0, 1) := by decide +kernel
theorem dX10_ofOne_176 : decode prog_37_method_74_code 176 = .ok (.getfield 189, 3) := by decide +kernel
theorem dX10_ofOne_179 : decode prog_37_method_74_code 179 = .ok (.aload_n 0, 1) := by decide +kernel
theorem dX10_ofOne_180 : decode prog_37_method_74_code 180 = .ok (.getfield 461, 3) := by decide +kernel
theorem dX10_ofOne_183 : decode prog_37_method_74_code 183 = .ok (.iaload, 1) := by decide +kernel
theorem dX10_ofOne_184 : decode prog_37_method_74_code 184 = .ok (.aload_n 0, 1) := by decide +kernel
theorem dX10_ofOne_185 : decode prog_37_method_74_code 185 = .ok (.aload_n 0, 1) := by decide +kernel
theorem dX10_ofOne_186 : decode prog_37_method_74_code 186 = .ok (.getfield 189, 3) := by decide +kernel
theorem dX10_ofOne_189 : decode prog_37_method_74_code 189 = .ok (.aload_n 0, 1) := by decide +kernel
theorem dX10_ofOne_190 : decode prog_37_method_74_code 190 = .ok (.getfield 461, 3) := by decide +kernel
theorem dX10_ofOne_193 : decode prog_37_method_74_code 193 = .ok (.iaload, 1) := by decide +kernel
theorem dX10_ofOne_194 : decode prog_37_method_74_code 194 = .ok (.invokevirtual 477, 3) := by decide +kernel
theorem dX10_ofOne_197 : decode prog_37_method_74_code 197 = .ok (.iconst 0, 1) := by decide +kernel
theorem dX10_ofOne_198 : decode prog_37_method_74_code 198 = .ok (.invokevirtual 594, 3) := by decide +kernel
theorem dX10_ofOne_201 : decode prog_37_method_74_code 201 = .ok (.goto 136, 3) := by decide +kernel
theorem dX10_ofOne_204 : decode prog_37_method_74_code 204 = .ok (.iload_n 2, 1) := by decide +kernel
theorem dX10_ofOne_205 : decode prog_37_method_74_code 205 = .ok (.bipush 19, 2) := by decide +kernel
theorem dX10_ofOne_207 : decode prog_37_method_74_code 207 = .ok (.if_icmp .ne 53, 3) := by decide +kernel
theorem dX10_ofOne_210 : decode prog_37_method_74_code 210 = .ok (.aload_n 0, 1) := by decide +kernel
theorem dX10_ofOne_211 : decode prog_37_method_74_code 211 = .ok (.getfield 186, 3) := by decide +kernel
theorem dX10_ofOne_214 : decode prog_37_method_74_code 214 = .ok (.aload_n 0, 1) := by decide +kernel
theorem dX10_ofOne_215 : decode prog_37_method_74_code 215 = .ok (.getfield 461, 3) := by decide +kernel
theorem dX10_ofOne_218 : decode prog_37_method_74_code 218 = .ok (.iaload, 1) := by decide +kernel
theorem dX10_ofOne_219 : decode prog_37_method_74_code 219 = .ok (.ifCond .ne 19, 3) := by decide +kernel
theorem dX10_ofOne_222 : decode prog_37_method_74_code 222 = .ok (.aload_n 0, 1) := by decide +kernel
theorem dX10_ofOne_223 : decode prog_37_method_74_code 223 = .ok (.aload_n 0, 1) := by decide +kernel
theorem dX10_ofOne_224 : decode prog_37_method_74_code 224 = .ok (.getfield 189, 3) := by decide +kernel
theorem dX10_ofOne_227 : decode prog_37_method_74_code 227 = .ok (.aload_n 0, 1) := by decide +kernel
theorem dX10_ofOne_228 : decode prog_37_method_74_code 228 = .ok (.getfield 461, 3) := by decide +kernel
theorem dX10_ofOne_231 : decode prog_37_method_74_code 231 = .ok (.iaload, 1) := by decide +kernel
theorem dX10_ofOne_232 : decode prog_37_method_74_code 232 = .ok (.invokevirtual 601, 3) := by decide +kernel
theorem dX10_ofOne_235 : decode prog_37_method_74_code 235 = .ok (.goto 16, 3) := by decide +kernel
theorem dX10_ofOne_238 : decode prog_37_method_74_code 238 = .ok (.aload_n 0, 1) := by decide +kernel
theorem dX10_ofOne_239 : decode prog_37_method_74_code 239 = .ok (.aload_n 0, 1) := by decide +kernel
theorem dX10_ofOne_240 : decode prog_37_method_74_code 240 = .ok (.getfield 189, 3) := by decide +kernel
theorem dX10_ofOne_243 : decode prog_37_method_74_code 243 = .ok (.aload_n 0, 1) := by decide +kernel
theorem dX10_ofOne_244 : decode prog_37_method_74_code 244 = .ok (.getfield 461, 3) := by decide +kernel
theorem dX10_ofOne_247 : decode prog_37_method_74_code 247 = .ok (.iaload, 1) := by decide +kernel
theorem dX10_ofOne_248 : decode prog_37_method_74_code 248 = .ok (.invokevirtual 604, 3) := by decide +kernel
theorem dX10_ofOne_251 : decode prog_37_method_74_code 251 = .ok (.aload_n 0, 1) := by decide +kernel
theorem dX10_ofOne_252 : decode prog_37_method_74_code 252 = .ok (.bipush 10, 2) := by decide +kernel
theorem dX10_ofOne_254 : decode prog_37_method_74_code 254 = .ok (.invokevirtual 607, 3) := by decide +kernel
theorem dX10_ofOne_257 : decode prog_37_method_74_code 257 = .ok (.goto 80, 3) := by decide +kernel
theorem dX10_ofOne_260 : decode prog_37_method_74_code 260 = .ok (.aload_n 0, 1) := by decide +kernel
theorem dX10_ofOne_261 : decode prog_37_method_74_code 261 = .ok (.getfield 186, 3) := by decide +kernel
theorem dX10_ofOne_264 : decode prog_37_method_74_code 264 = .ok (.aload_n 0, 1) := by decide +kernel
theorem dX10_ofOne_265 : decode prog_37_method_74_code 265 = .ok (.getfield 461, 3) := by decide +kernel
theorem dX10_ofOne_268 : decode prog_37_method_74_code 268 = .ok (.iaload, 1) := by decide +kernel
theorem dX10_ofOne_269 : decode prog_37_method_74_code 269 = .ok (.istore_n 3, 1) := by decide +kernel
theorem dX10_ofOne_270 : decode prog_37_method_74_code 270 = .ok (.aload_n 0, 1) := by decide +kernel
theorem dX10_ofOne_271 : decode prog_37_method_74_code 271 = .ok (.getfield 189, 3) := by decide +kernel
theorem dX10_ofOne_274 : decode prog_37_method_74_code 274 = .ok (.aload_n 0, 1) := by decide +kernel
theorem dX10_ofOne_275 : decode prog_37_method_74_code 275 = .ok (.getfield 461, 3) := by decide +kernel
theorem dX10_ofOne_278 : decode prog_37_method_74_code 278 = .ok (.iaload, 1) := by decide +kernel
theorem dX10_ofOne_279 : decode prog_37_method_74_code 279 = .ok (.istore 4, 2) := by decide +kernel
theorem dX10_ofOne_281 : decode prog_37_method_74_code 281 = .ok (.aload_n 0, 1) := by decide +kernel
theorem dX10_ofOne_282 : decode prog_37_method_74_code 282 = .ok (.dup, 1) := by decide +kernel
theorem dX10_ofOne_283 : decode prog_37_method_74_code 283 = .ok (.getfield 531, 3) := by decide +kernel
theorem dX10_ofOne_286 : decode prog_37_method_74_code 286 = .ok (.iconst 1, 1) := by decide +kernel
theorem dX10_ofOne_287 : decode prog_37_method_74_code 287 = .ok (.isub, 1) := by decide +kernel
theorem dX10_ofOne_288 : decode prog_37_method_74_code 288 = .ok (.putfield 531, 3) := by decide +kernel
theorem dX10_ofOne_291 : decode prog_37_method_74_code 291 = .ok (.aload_n 0, 1) := by decide +kernel
theorem dX10_ofOne_292 : decode prog_37_method_74_code 292 = .ok (.aload_n 0, 1) := by decide +kernel
theorem dX10_ofOne_293 : decode prog_37_method_74_code 293 = .ok (.getfield 222, 3) := by decide +kernel
theorem dX10_ofOne_296 : decode prog_37_method_74_code 296 = .ok (.aload_n 0, 1) := by decide +kernel
theorem dX10_ofOne_297 : decode prog_37_method_74_code 297 = .ok (.getfield 531, 3) := by decide +kernel
theorem dX10_ofOne_300 : decode prog_37_method_74_code 300 = .ok (.iaload, 1) := by decide +kernel
theorem dX10_ofOne_301 : decode prog_37_method_74_code 301 = .ok (.putfield 534, 3) := by decide +kernel
theorem dX10_ofOne_304 : decode prog_37_method_74_code 304 = .ok (.aload_n 0, 1) := by decide +kernel
theorem dX10_ofOne_305 : decode prog_37_method_74_code 305 = .ok (.aload_n 0, 1) := by decide +kernel
theorem dX10_ofOne_306 : decode prog_37_method_74_code 306 = .ok (.getfield 216, 3) := by decide +kernel
theorem dX10_ofOne_309 : decode prog_37_method_74_code 309 = .ok (.aload_n 0, 1) := by decide +kernel
theorem dX10_ofOne_310 : decode prog_37_method_74_code 310 = .ok (.getfield 531, 3) := by decide +kernel
theorem dX10_ofOne_313 : decode prog_37_method_74_code 313 = .ok (.iaload, 1) := by decide +kernel
theorem dX10_ofOne_314 : decode prog_37_method_74_code 314 = .ok (.putfield 461, 3) := by decide +kernel
theorem dX10_ofOne_317 : decode prog_37_method_74_code 317 = .ok (.aload_n 0, 1) := by decide +kernel
theorem dX10_ofOne_318 : decode prog_37_method_74_code 318 = .ok (.aload_n 0, 1) := by decide +kernel
theorem dX10_ofOne_319 : decode prog_37_method_74_code 319 = .ok (.getfield 219, 3) := by decide +kernel
theorem dX10_ofOne_322 : decode prog_37_method_74_code 322 = .ok (.aload_n 0, 1) := by decide +kernel
theorem dX10_ofOne_323 : decode prog_37_method_74_code 323 = .ok (.getfield 531, 3) := by decide +kernel
theorem dX10_ofOne_326 : decode prog_37_method_74_code 326 = .ok (.iaload, 1) := by decide +kernel
theorem dX10_ofOne_327 : decode prog_37_method_74_code 327 = .ok (.putfield 540, 3) := by decide +kernel
theorem dX10_ofOne_330 : decode prog_37_method_74_code 330 = .ok (.aload_n 0, 1) := by decide +kernel
theorem dX10_ofOne_331 : decode prog_37_method_74_code 331 = .ok (.iload_n 3, 1) := by decide +kernel
theorem dX10_ofOne_332 : decode prog_37_method_74_code 332 = .ok (.iload 4, 2) := by decide +kernel
theorem dX10_ofOne_334 : decode prog_37_method_74_code 334 = .ok (.invokevirtual 464, 3) := by decide +kernel
theorem dX10_ofOne_337 : decode prog_37_method_74_code 337 = .ok (.return_, 1) := by decide +kernel
theorem dX10_number_0 : decode prog_37_method_109_code 0 = .ok (.iload_n 1, 1) := by decide +kernel
theorem dX10_number_1 : decode prog_37_method_109_code 1 = .ok (.i2l, 1) := by decide +kernel
theorem dX10_number_2 : decode prog_37_method_109_code 2 = .ok (.lstore_n 2, 1) := by decide +kernel
theorem dX10_number_3 : decode prog_37_method_109_code 3 = .ok (.lload_n 2, 1) := by decide +kernel
theorem dX10_number_4 : decode prog_37_method_109_code 4 = .ok (.lconst 0, 1) := by decide +kernel
theorem dX10_number_5 : decode prog_37_method_109_code 5 = .ok (.lcmp, 1) := by decide +kernel
theorem dX10_number_6 : decode prog_37_method_109_code 6 = .ok (.ifCond .ge 12, 3) := by decide +kernel
theorem dX10_number_9 : decode prog_37_method_109_code 9 = .ok (.aload_n 0, 1) := by decide +kernel
theorem dX10_number_10 : decode prog_37_method_109_code 10 = .ok (.bipush 45, 2) := by decide +kernel
theorem dX10_number_12 : decode prog_37_method_109_code 12 = .ok (.invokevirtual 607, 3) := by decide +kernel
theorem dX10_number_15 : decode prog_37_method_109_code 15 = .ok (.lload_n 2, 1) := by decide +kernel
theorem dX10_number_16 : decode prog_37_method_109_code 16 = .ok (.lneg, 1) := by decide +kernel
theorem dX10_number_17 : decode prog_37_method_109_code 17 = .ok (.lstore_n 2, 1) := by decide +kernel
theorem dX10_number_18 : decode prog_37_method_109_code 18 = .ok (.lconst 1, 1) := by decide +kernel
theorem dX10_number_19 : decode prog_37_method_109_code 19 = .ok (.lstore 4, 2) := by decide +kernel
theorem dX10_number_21 : decode prog_37_method_109_code 21 = .ok (.lload_n 2, 1) := by decide +kernel
theorem dX10_number_22 : decode prog_37_method_109_code 22 = .ok (.lload 4, 2) := by decide +kernel
theorem dX10_number_24 : decode prog_37_method_109_code 24 = .ok (.ldiv, 1) := by decide +kernel
theorem dX10_number_25 : decode prog_37_method_109_code 25 = .ok (.ldc2_w 717, 3) := by decide +kernel
theorem dX10_number_28 : decode prog_37_method_109_code 28 = .ok (.lcmp, 1) := by decide +kernel
theorem dX10_number_29 : decode prog_37_method_109_code 29 = .ok (.ifCond .le 14, 3) := by decide +kernel
theorem dX10_number_32 : decode prog_37_method_109_code 32 = .ok (.ldc2_w 290, 3) := by decide +kernel
theorem dX10_number_35 : decode prog_37_method_109_code 35 = .ok (.lload 4, 2) := by decide +kernel
theorem dX10_number_37 : decode prog_37_method_109_code 37 = .ok (.lmul, 1) := by decide +kernel
theorem dX10_number_38 : decode prog_37_method_109_code 38 = .ok (.lstore 4, 2) := by decide +kernel
theorem dX10_number_40 : decode prog_37_method_109_code 40 = .ok (.goto (-19), 3) := by decide +kernel
theorem dX10_number_43 : decode prog_37_method_109_code 43 = .ok (.lload 4, 2) := by decide +kernel
theorem dX10_number_45 : decode prog_37_method_109_code 45 = .ok (.lconst 0, 1) := by decide +kernel
theorem dX10_number_46 : decode prog_37_method_109_code 46 = .ok (.lcmp, 1) := by decide +kernel
theorem dX10_number_47 : decode prog_37_method_109_code 47 = .ok (.ifCond .le 31, 3) := by decide +kernel
theorem dX10_number_50 : decode prog_37_method_109_code 50 = .ok (.aload_n 0, 1) := by decide +kernel
theorem dX10_number_51 : decode prog_37_method_109_code 51 = .ok (.ldc2_w 292, 3) := by decide +kernel
theorem dX10_number_54 : decode prog_37_method_109_code 54 = .ok (.lload_n 2, 1) := by decide +kernel
theorem dX10_number_55 : decode prog_37_method_109_code 55 = .ok (.lload 4, 2) := by decide +kernel
theorem dX10_number_57 : decode prog_37_method_109_code 57 = .ok (.ldiv, 1) := by decide +kernel
theorem dX10_number_58 : decode prog_37_method_109_code 58 = .ok (.ldc2_w 290, 3) := by decide +kernel
theorem dX10_number_61 : decode prog_37_method_109_code 61 = .ok (.lrem, 1) := by decide +kernel
theorem dX10_number_62 : decode prog_37_method_109_code 62 = .ok (.ladd, 1) := by decide +kernel
theorem dX10_number_63 : decode prog_37_method_109_code 63 = .ok (.l2i, 1) := by decide +kernel
theorem dX10_number_64 : decode prog_37_method_109_code 64 = .ok (.invokevirtual 607, 3) := by decide +kernel
theorem dX10_number_67 : decode prog_37_method_109_code 67 = .ok (.lload 4, 2) := by decide +kernel
theorem dX10_number_69 : decode prog_37_method_109_code 69 = .ok (.ldc2_w 290, 3) := by decide +kernel
theorem dX10_number_72 : decode prog_37_method_109_code 72 = .ok (.ldiv, 1) := by decide +kernel
theorem dX10_number_73 : decode prog_37_method_109_code 73 = .ok (.lstore 4, 2) := by decide +kernel
theorem dX10_number_75 : decode prog_37_method_109_code 75 = .ok (.goto (-32), 3) := by decide +kernel
theorem dX10_number_78 : decode prog_37_method_109_code 78 = .ok (.return_, 1) := by decide +kernel
theorem dX10_says_0 : decode prog_37_method_108_code 0 = .ok (.aload_n 0, 1) := by decide +kernel
theorem dX10_says_1 : decode prog_37_method_108_code 1 = .ok (.getfield 555, 3) := by decide +kernel
theorem dX10_says_4 : decode prog_37_method_108_code 4 = .ok (.sipush 600, 3) := by decide +kernel
theorem dX10_says_7 : decode prog_37_method_108_code 7 = .ok (.if_icmp .ge 14, 3) := by decide +kernel
theorem dX10_says_10 : decode prog_37_method_108_code 10 = .ok (.aload_n 0, 1) := by decide +kernel
theorem dX10_says_11 : decode prog_37_method_108_code 11 = .ok (.getfield 249, 3) := by decide +kernel
theorem dX10_says_14 : decode prog_37_method_108_code 14 = .ok (.aload_n 0, 1) := by decide +kernel
theorem dX10_says_15 : decode prog_37_method_108_code 15 = .ok (.getfield 555, 3) := by decide +kernel
theorem dX10_says_18 : decode prog_37_method_108_code 18 = .ok (.iload_n 1, 1) := by decide +kernel
theorem dX10_says_19 : decode prog_37_method_108_code 19 = .ok (.i2b, 1) := by decide +kernel
theorem dX10_says_20 : decode prog_37_method_108_code 20 = .ok (.bastore, 1) := by decide +kernel
theorem dX10_says_21 : decode prog_37_method_108_code 21 = .ok (.aload_n 0, 1) := by decide +kernel
theorem dX10_says_22 : decode prog_37_method_108_code 22 = .ok (.dup, 1) := by decide +kernel
theorem dX10_says_23 : decode prog_37_method_108_code 23 = .ok (.getfield 555, 3) := by decide +kernel
theorem dX10_says_26 : decode prog_37_method_108_code 26 = .ok (.iconst 1, 1) := by decide +kernel
theorem dX10_says_27 : decode prog_37_method_108_code 27 = .ok (.iadd, 1) := by decide +kernel
theorem dX10_says_28 : decode prog_37_method_108_code 28 = .ok (.putfield 555, 3) := by decide +kernel
theorem dX10_says_31 : decode prog_37_method_108_code 31 = .ok (.return_, 1) := by decide +kernel
theorem dX10_form_0 : decode prog_37_method_112_code 0 = .ok (.aload_n 0, 1) := by decide +kernel
theorem dX10_form_1 : decode prog_37_method_112_code 1 = .ok (.getfield 183, 3) := by decide +kernel
theorem dX10_form_4 : decode prog_37_method_112_code 4 = .ok (.iload_n 1, 1) := by decide +kernel
theorem dX10_form_5 : decode prog_37_method_112_code 5 = .ok (.iaload, 1) := by decide +kernel
theorem dX10_form_6 : decode prog_37_method_112_code 6 = .ok (.iconst 3, 1) := by decide +kernel
theorem dX10_form_7 : decode prog_37_method_112_code 7 = .ok (.if_icmp .eq 9, 3) := by decide +kernel
theorem dX10_form_10 : decode prog_37_method_112_code 10 = .ok (.aload_n 0, 1) := by decide +kernel
theorem dX10_form_11 : decode prog_37_method_112_code 11 = .ok (.iload_n 1, 1) := by decide +kernel
theorem dX10_form_12 : decode prog_37_method_112_code 12 = .ok (.invokevirtual 722, 3) := by decide +kernel
theorem dX10_form_15 : decode prog_37_method_112_code 15 = .ok (.return_, 1) := by decide +kernel
theorem dX10_form_16 : decode prog_37_method_112_code 16 = .ok (.aload_n 0, 1) := by decide +kernel
theorem dX10_form_17 : decode prog_37_method_112_code 17 = .ok (.bipush 40, 2) := by decide +kernel
theorem dX10_form_19 : decode prog_37_method_112_code 19 = .ok (.invokevirtual 607, 3) := by decide +kernel
theorem dX10_form_22 : decode prog_37_method_112_code 22 = .ok (.aload_n 0, 1) := by decide +kernel
theorem dX10_form_23 : decode prog_37_method_112_code 23 = .ok (.iconst 0, 1) := by decide +kernel
theorem dX10_form_24 : decode prog_37_method_112_code 24 = .ok (.putfield 474, 3) := by decide +kernel
theorem dX10_form_27 : decode prog_37_method_112_code 27 = .ok (.aload_n 0, 1) := by decide +kernel
theorem dX10_form_28 : decode prog_37_method_112_code 28 = .ok (.iload_n 1, 1) := by decide +kernel
theorem dX10_form_29 : decode prog_37_method_112_code 29 = .ok (.iconst 0, 1) := by decide +kernel
theorem dX10_form_30 : decode prog_37_method_112_code 30 = .ok (.invokevirtual 489, 3) := by decide +kernel
theorem dX10_form_33 : decode prog_37_method_112_code 33 = .ok (.aload_n 0, 1) := by decide +kernel
theorem dX10_form_34 : decode prog_37_method_112_code 34 = .ok (.getfield 474, 3) := by decide +kernel
theorem dX10_form_37 : decode prog_37_method_112_code 37 = .ok (.ifCond .le 156, 3) := by decide +kernel
theorem dX10_form_40 : decode prog_37_method_112_code 40 = .ok (.aload_n 0, 1) := by decide +kernel
theorem dX10_form_41 : decode prog_37_method_112_code 41 = .ok (.getfield 192, 3) := by decide +kernel
theorem dX10_form_44 : decode prog_37_method_112_code 44 = .ok (.aload_n 0, 1) := by decide +kernel
theorem dX10_form_45 : decode prog_37_method_112_code 45 = .ok (.getfield 474, 3) := by decide +kernel
theorem dX10_form_48 : decode prog_37_method_112_code 48 = .ok (.iconst 1, 1) := by decide +kernel
theorem dX10_form_49 : decode prog_37_method_112_code 49 = .ok (.isub, 1) := by decide +kernel
theorem dX10_form_50 : decode prog_37_method_112_code 50 = .ok (.iaload, 1) := by decide +kernel
theorem dX10_form_51 : decode prog_37_method_112_code 51 = .ok (.istore_n 2, 1) := by decide +kernel
theorem dX10_form_52 : decode prog_37_method_112_code 52 = .ok (.aload_n 0, 1) := by decide +kernel
theorem dX10_form_53 : decode prog_37_method_112_code 53 = .ok (.getfield 198, 3) := by decide +kernel
theorem dX10_form_56 : decode prog_37_method_112_code 56 = .ok (.aload_n 0, 1) := by decide +kernel
theorem dX10_form_57 : decode prog_37_method_112_code 57 = .ok (.getfield 474, 3) := by decide +kernel
theorem dX10_form_60 : decode prog_37_method_112_code 60 = .ok (.iconst 1, 1) := by decide +kernel
theorem dX10_form_61 : decode prog_37_method_112_code 61 = .ok (.isub, 1) := by decide +kernel
theorem dX10_form_62 : decode prog_37_method_112_code 62 = .ok (.iaload, 1) := by decide +kernel
theorem dX10_form_63 : decode prog_37_method_112_code 63 = .ok (.istore_n 3, 1) := by decide +kernel
theorem dX10_form_64 : decode prog_37_method_112_code 64 = .ok (.iload_n 3, 1) := by decide +kernel
theorem dX10_form_65 : decode prog_37_method_112_code 65 = .ok (.aload_n 0, 1) := by decide +kernel
theorem dX10_form_66 : decode prog_37_method_112_code 66 = .ok (.iload_n 2, 1) := by decide +kernel
theorem dX10_form_67 : decode prog_37_method_112_code 67 = .ok (.invokevirtual 477, 3) := by decide +kernel
theorem dX10_form_70 : decode prog_37_method_112_code 70 = .ok (.if_icmp .ne 22, 3) := by decide +kernel
theorem dX10_form_73 : decode prog_37_method_112_code 73 = .ok (.aload_n 0, 1) := by decide +kernel
theorem dX10_form_74 : decode prog_37_method_112_code 74 = .ok (.bipush 41, 2) := by decide +kernel
theorem dX10_form_76 : decode prog_37_method_112_code 76 = .ok (.invokevirtual 607, 3) := by decide +kernel
theorem dX10_form_79 : decode prog_37_method_112_code 79 = .ok (.aload_n 0, 1) := by decide +kernel
theorem dX10_form_80 : decode prog_37_method_112_code 80 = .ok (.dup, 1) := by decide +kernel
theorem dX10_form_81 : decode prog_37_method_112_code 81 = .ok (.getfield 474, 3) := by decide +kernel
theorem dX10_form_84 : decode prog_37_method_112_code 84 = .ok (.iconst 1, 1) := by decide +kernel
theorem dX10_form_85 : decode prog_37_method_112_code 85 = .ok (.isub, 1) := by decide +kernel
theorem dX10_form_86 : decode prog_37_method_112_code 86 = .ok (.putfield 474, 3) := by decide +kernel
theorem dX10_form_89 : decode prog_37_method_112_code 89 = .ok (.goto (-56), 3) := by decide +kernel
theorem dX10_form_92 : decode prog_37_method_112_code 92 = .ok (.aload_n 0, 1) := by decide +kernel
theorem dX10_form_93 : decode prog_37_method_112_code 93 = .ok (.getfield 198, 3) := by decide +kernel
theorem dX10_form_96 : decode prog_37_method_112_code 96 = .ok (.aload_n 0, 1) := by decide +kernel
theorem dX10_form_97 : decode prog_37_method_112_code 97 = .ok (.getfield 474, 3) := by decide +kernel
theorem dX10_form_100 : decode prog_37_method_112_code 100 = .ok (.iconst 1, 1) := by decide +kernel
theorem dX10_form_101 : decode prog_37_method_112_code 101 = .ok (.isub, 1) := by decide +kernel
theorem dX10_form_102 : decode prog_37_method_112_code 102 = .ok (.dup2, 1) := by decide +kernel
theorem dX10_form_103 : decode prog_37_method_112_code 103 = .ok (.iaload, 1) := by decide +kernel
theorem dX10_form_104 : decode prog_37_method_112_code 104 = .ok (.iconst 1, 1) := by decide +kernel
theorem dX10_form_105 : decode prog_37_method_112_code 105 = .ok (.iadd, 1) := by decide +kernel
theorem dX10_form_106 : decode prog_37_method_112_code 106 = .ok (.iastore, 1) := by decide +kernel
theorem dX10_form_107 : decode prog_37_method_112_code 107 = .ok (.iload_n 3, 1) := by decide +kernel
theorem dX10_form_108 : decode prog_37_method_112_code 108 = .ok (.ifCond .le 9, 3) := by decide +kernel
theorem dX10_form_111 : decode prog_37_method_112_code 111 = .ok (.aload_n 0, 1) := by decide +kernel
theorem dX10_form_112 : decode prog_37_method_112_code 112 = .ok (.bipush 59, 2) := by decide +kernel
theorem dX10_form_114 : decode prog_37_method_112_code 114 = .ok (.invokevirtual 607, 3) := by decide +kernel
theorem dX10_form_117 : decode prog_37_method_112_code 117 = .ok (.aload_n 0, 1) := by decide +kernel
theorem dX10_form_118 : decode prog_37_method_112_code 118 = .ok (.iload_n 2, 1) := by decide +kernel
theorem dX10_form_119 : decode prog_37_method_112_code 119 = .ok (.iload_n 3, 1) := by decide +kernel
theorem dX10_form_120 : decode prog_37_method_112_code 120 = .ok (.invokevirtual 467, 3) := by decide +kernel
theorem dX10_form_123 : decode prog_37_method_112_code 123 = .ok (.ifCond .eq 22, 3) := by decide +kernel
theorem dX10_form_126 : decode prog_37_method_112_code 126 = .ok (.aload_n 0, 1) := by decide +kernel
theorem dX10_form_127 : decode prog_37_method_112_code 127 = .ok (.aload_n 0, 1) := by decide +kernel
theorem dX10_form_128 : decode prog_37_method_112_code 128 = .ok (.getfield 183, 3) := by decide +kernel
theorem dX10_form_131 : decode prog_37_method_112_code 131 = .ok (.iload_n 2, 1) := by decide +kernel
theorem dX10_form_132 : decode prog_37_method_112_code 132 = .ok (.iconst 3, 1) := by decide +kernel
theorem dX10_form_133 : decode prog_37_method_112_code 133 = .ok (.iadd, 1) := by decide +kernel
theorem dX10_form_134 : decode prog_37_method_112_code 134 = .ok (.iconst 2, 1) := by decide +kernel
theorem dX10_form_135 : decode prog_37_method_112_code 135 = .ok (.iload_n 3, 1) := by decide +kernel
theorem dX10_form_136 : decode prog_37_method_112_code 136 = .ok (.imul, 1) := by decide +kernel
theorem dX10_form_137 : decode prog_37_method_112_code 137 = .ok (.iadd, 1) := by decide +kernel
theorem dX10_form_138 : decode prog_37_method_112_code 138 = .ok (.iaload, 1) := by decide +kernel
theorem dX10_form_139 : decode prog_37_method_112_code 139 = .ok (.invokevirtual 601, 3) := by decide +kernel
theorem dX10_form_142 : decode prog_37_method_112_code 142 = .ok (.goto 48, 3) := by decide +kernel
theorem dX10_form_145 : decode prog_37_method_112_code 145 = .ok (.aload_n 0, 1) := by decide +kernel
theorem dX10_form_146 : decode prog_37_method_112_code 146 = .ok (.getfield 183, 3) := by decide +kernel
theorem dX10_form_149 : decode prog_37_method_112_code 149 = .ok (.aload_n 0, 1) := by decide +kernel
theorem dX10_form_150 : decode prog_37_method_112_code 150 = .ok (.iload_n 2, 1) := by decide +kernel
theorem dX10_form_151 : decode prog_37_method_112_code 151 = .ok (.iload_n 3, 1) := by decide +kernel
theorem dX10_form_152 : decode prog_37_method_112_code 152 = .ok (.invokevirtual 470, 3) := by decide +kernel
theorem dX10_form_155 : decode prog_37_method_112_code 155 = .ok (.iaload, 1) := by decide +kernel
theorem dX10_form_156 : decode prog_37_method_112_code 156 = .ok (.iconst 3, 1) := by decide +kernel
theorem dX10_form_157 : decode prog_37_method_112_code 157 = .ok (.if_icmp .ne 23, 3) := by decide +kernel
theorem dX10_form_160 : decode prog_37_method_112_code 160 = .ok (.aload_n 0, 1) := by decide +kernel
theorem dX10_form_161 : decode prog_37_method_112_code 161 = .ok (.bipush 40, 2) := by decide +kernel
theorem dX10_form_163 : decode prog_37_method_112_code 163 = .ok (.invokevirtual 607, 3) := by decide +kernel
theorem dX10_form_166 : decode prog_37_method_112_code 166 = .ok (.aload_n 0, 1) := by decide +kernel
theorem dX10_form_167 : decode prog_37_method_112_code 167 = .ok (.aload_n 0, 1) := by decide +kernel
theorem dX10_form_168 : decode prog_37_method_112_code 168 = .ok (.iload_n 2, 1) := by decide +kernel
theorem dX10_form_169 : decode prog_37_method_112_code 169 = .ok (.iload_n 3, 1) := by decide +kernel
theorem dX10_form_170 : decode prog_37_method_112_code 170 = .ok (.invokevirtual 470, 3) := by decide +kernel
theorem dX10_form_173 : decode prog_37_method_112_code 173 = .ok (.iconst 0, 1) := by decide +kernel
theorem dX10_form_174 : decode prog_37_method_112_code 174 = .ok (.invokevirtual 489, 3) := by decide +kernel
theorem dX10_form_177 : decode prog_37_method_112_code 177 = .ok (.goto 13, 3) := by decide +kernel
theorem dX10_form_180 : decode prog_37_method_112_code 180 = .ok (.aload_n 0, 1) := by decide +kernel
theorem dX10_form_181 : decode prog_37_method_112_code 181 = .ok (.aload_n 0, 1) := by decide +kernel
theorem dX10_form_182 : decode prog_37_method_112_code 182 = .ok (.iload_n 2, 1) := by decide +kernel
theorem dX10_form_183 : decode prog_37_method_112_code 183 = .ok (.iload_n 3, 1) := by decide +kernel
theorem dX10_form_184 : decode prog_37_method_112_code 184 = .ok (.invokevirtual 470, 3) := by decide +kernel
theorem dX10_form_187 : decode prog_37_method_112_code 187 = .ok (.invokevirtual 722, 3) := by decide +kernel
theorem dX10_form_190 : decode prog_37_method_112_code 190 = .ok (.goto (-157), 3) := by decide +kernel
theorem dX10_form_193 : decode prog_37_method_112_code 193 = .ok (.return_, 1) := by decide +kernel
theorem dX10_formOfPlain_0 : decode prog_37_method_111_code 0 = .ok (.aload_n 0, 1) := by decide +kernel
theorem dX10_formOfPlain_1 : decode prog_37_method_111_code 1 = .ok (.getfield 183, 3) := by decide +kernel
theorem dX10_formOfPlain_4 : decode prog_37_method_111_code 4 = .ok (.iload_n 1, 1) := by decide +kernel
theorem dX10_formOfPlain_5 : decode prog_37_method_111_code 5 = .ok (.iaload, 1) := by decide +kernel
theorem dX10_formOfPlain_6 : decode prog_37_method_111_code 6 = .ok (.iconst 1, 1) := by decide +kernel
theorem dX10_formOfPlain_7 : decode prog_37_method_111_code 7 = .ok (.if_icmp .ne 9, 3) := by decide +kernel
theorem dX10_formOfPlain_10 : decode prog_37_method_111_code 10 = .ok (.aload_n 0, 1) := by decide +kernel
theorem dX10_formOfPlain_11 : decode prog_37_method_111_code 11 = .ok (.iload_n 1, 1) := by decide +kernel
theorem dX10_formOfPlain_12 : decode prog_37_method_111_code 12 = .ok (.invokevirtual 719, 3) := by decide +kernel
theorem dX10_formOfPlain_15 : decode prog_37_method_111_code 15 = .ok (.return_, 1) := by decide +kernel
theorem dX10_formOfPlain_16 : decode prog_37_method_111_code 16 = .ok (.aload_n 0, 1) := by decide +kernel
theorem dX10_formOfPlain_17 : decode prog_37_method_111_code 17 = .ok (.bipush 123, 2) := by decide +kernel
theorem dX10_formOfPlain_19 : decode prog_37_method_111_code 19 = .ok (.invokevirtual 607, 3) := by decide +kernel
theorem dX10_formOfPlain_22 : decode prog_37_method_111_code 22 = .ok (.iconst 0, 1) := by decide +kernel
theorem dX10_formOfPlain_23 : decode prog_37_method_111_code 23 = .ok (.istore_n 2, 1) := by decide +kernel
theorem dX10_formOfPlain_24 : decode prog_37_method_111_code 24 = .ok (.iload_n 2, 1) := by decide +kernel
theorem dX10_formOfPlain_25 : decode prog_37_method_111_code 25 = .ok (.aload_n 0, 1) := by decide +kernel
theorem dX10_formOfPlain_26 : decode prog_37_method_111_code 26 = .ok (.iload_n 1, 1) := by decide +kernel
theorem dX10_formOfPlain_27 : decode prog_37_method_111_code 27 = .ok (.invokevirtual 477, 3) := by decide +kernel
theorem dX10_formOfPlain_30 : decode prog_37_method_111_code 30 = .ok (.if_icmp .ge 19, 3) := by decide +kernel
theorem dX10_formOfPlain_33 : decode prog_37_method_111_code 33 = .ok (.aload_n 0, 1) := by decide +kernel
theorem dX10_formOfPlain_34 : decode prog_37_method_111_code 34 = .ok (.aload_n 0, 1) := by decide +kernel
theorem dX10_formOfPlain_35 : decode prog_37_method_111_code 35 = .ok (.iload_n 1, 1) := by decide +kernel
theorem dX10_formOfPlain_36 : decode prog_37_method_111_code 36 = .ok (.iload_n 2, 1) := by decide +kernel
theorem dX10_formOfPlain_37 : decode prog_37_method_111_code 37 = .ok (.invokevirtual 470, 3) := by decide +kernel
theorem dX10_formOfPlain_40 : decode prog_37_method_111_code 40 = .ok (.invokevirtual 719, 3) := by decide +kernel
theorem dX10_formOfPlain_43 : decode prog_37_method_111_code 43 = .ok (.iinc 2 1, 3) := by decide +kernel
theorem dX10_formOfPlain_46 : decode prog_37_method_111_code 46 = .ok (.goto (-22), 3) := by decide +kernel
theorem dX10_formOfPlain_49 : decode prog_37_method_111_code 49 = .ok (.aload_n 0, 1) := by decide +kernel
theorem dX10_formOfPlain_50 : decode prog_37_method_111_code 50 = .ok (.bipush 125, 2) := by decide +kernel
theorem dX10_formOfPlain_52 : decode prog_37_method_111_code 52 = .ok (.invokevirtual 607, 3) := by decide +kernel
theorem dX10_formOfPlain_55 : decode prog_37_method_111_code 55 = .ok (.return_, 1) := by decide +kernel
theorem dX10_formOfRow_0 : decode prog_37_method_110_code 0 = .ok (.aload_n 0, 1) := by decide +kernel
theorem dX10_formOfRow_1 : decode prog_37_method_110_code 1 = .ok (.bipush 91, 2) := by decide +kernel
theorem dX10_formOfRow_3 : decode prog_37_method_110_code 3 = .ok (.invokevirtual 607, 3) := by decide +kernel
theorem dX10_formOfRow_6 : decode prog_37_method_110_code 6 = .ok (.iconst 0, 1) := by decide +kernel
theorem dX10_formOfRow_7 : decode prog_37_method_110_code 7 = .ok (.istore_n 2, 1) := by decide +kernel
theorem dX10_formOfRow_8 : decode prog_37_method_110_code 8 = .ok (.iload_n 2, 1) := by decide +kernel
theorem dX10_formOfRow_9 : decode prog_37_method_110_code 9 = .ok (.aload_n 0, 1) := by decide +kernel
theorem dX10_formOfRow_10 : decode prog_37_method_110_code 10 = .ok (.iload_n 1, 1) := by decide +kernel
theorem dX10_formOfRow_11 : decode prog_37_method_110_code 11 = .ok (.invokevirtual 477, 3) := by decide +kernel
theorem dX10_formOfRow_14 : decode prog_37_method_110_code 14 = .ok (.if_icmp .ge 33, 3) := by decide +kernel
theorem dX10_formOfRow_17 : decode prog_37_method_110_code 17 = .ok (.iload_n 2, 1) := by decide +kernel
theorem dX10_formOfRow_18 : decode prog_37_method_110_code 18 = .ok (.ifCond .le 9, 3) := by decide +kernel
theorem dX10_formOfRow_21 : decode prog_37_method_110_code 21 = .ok (.aload_n 0, 1) := by decide +kernel
theorem dX10_formOfRow_22 : decode prog_37_method_110_code 22 = .ok (.bipush 32, 2) := by decide +kernel
theorem dX10_formOfRow_24 : decode prog_37_method_110_code 24 = .ok (.invokevirtual 607, 3) := by decide +kernel
theorem dX10_formOfRow_27 : decode prog_37_method_110_code 27 = .ok (.aload_n 0, 1) := by decide +kernel
theorem dX10_formOfRow_28 : decode prog_37_method_110_code 28 = .ok (.aload_n 0, 1) := by decide +kernel
theorem dX10_formOfRow_29 : decode prog_37_method_110_code 29 = .ok (.getfield 183, 3) := by decide +kernel
theorem dX10_formOfRow_32 : decode prog_37_method_110_code 32 = .ok (.iload_n 1, 1) := by decide +kernel
theorem dX10_formOfRow_33 : decode prog_37_method_110_code 33 = .ok (.iconst 2, 1) := by decide +kernel
theorem dX10_formOfRow_34 : decode prog_37_method_110_code 34 = .ok (.iadd, 1) := by decide +kernel
theorem dX10_formOfRow_35 : decode prog_37_method_110_code 35 = .ok (.iload_n 2, 1) := by decide +kernel
theorem dX10_formOfRow_36 : decode prog_37_method_110_code 36 = .ok (.iadd, 1) := by decide +kernel
theorem dX10_formOfRow_37 : decode prog_37_method_110_code 37 = .ok (.iaload, 1) := by decide +kernel
theorem dX10_formOfRow_38 : decode prog_37_method_110_code 38 = .ok (.invokevirtual 601, 3) := by decide +kernel
theorem dX10_formOfRow_41 : decode prog_37_method_110_code 41 = .ok (.iinc 2 1, 3) := by decide +kernel
theorem dX10_formOfRow_44 : decode prog_37_method_110_code 44 = .ok (.goto (-36), 3) := by decide +kernel
theorem dX10_formOfRow_47 : decode prog_37_method_110_code 47 = .ok (.aload_n 0, 1) := by decide +kernel
theorem dX10_formOfRow_48 : decode prog_37_method_110_code 48 = .ok (.bipush 93, 2) := by decide +kernel
theorem dX10_formOfRow_50 : decode prog_37_method_110_code 50 = .ok (.invokevirtual 607, 3) := by decide +kernel
theorem dX10_formOfRow_53 : decode prog_37_method_110_code 53 = .ok (.return_, 1) := by decide +kernel
theorem dX10_isTaken_0 : decode prog_37_method_71_code 0 = .ok (.aload_n 0, 1) := by decide +kernel
theorem dX10_isTaken_1 : decode prog_37_method_71_code 1 = .ok (.getfield 498, 3) := by decide +kernel
theorem dX10_isTaken_4 : decode prog_37_method_71_code 4 = .ok (.bipush 9, 2) := by decide +kernel
theorem dX10_isTaken_6 : decode prog_37_method_71_code 6 = .ok (.if_icmp .le 5, 3) := by decide +kernel
theorem dX10_isTaken_9 : decode prog_37_method_71_code 9 = .ok (.iconst 0, 1) := by decide +kernel
theorem dX10_isTaken_10 : decode prog_37_method_71_code 10 = .ok (.ireturn, 1) := by decide +kernel
theorem dX10_isTaken_11 : decode prog_37_method_71_code 11 = .ok (.aload_n 0, 1) := by decide +kernel
theorem dX10_isTaken_12 : decode prog_37_method_71_code 12 = .ok (.getfield 534, 3) := by decide +kernel
theorem dX10_isTaken_15 : decode prog_37_method_71_code 15 = .ok (.iconst 1, 1) := by decide +kernel
theorem dX10_isTaken_16 : decode prog_37_method_71_code 16 = .ok (.isub, 1) := by decide +kernel
theorem dX10_isTaken_17 : decode prog_37_method_71_code 17 = .ok (.istore_n 1, 1) := by decide +kernel
theorem dX10_isTaken_18 : decode prog_37_method_71_code 18 = .ok (.iload_n 1, 1) := by decide +kernel
theorem dX10_isTaken_19 : decode prog_37_method_71_code 19 = .ok (.ifCond .lt 19, 3) := by decide +kernel
theorem dX10_isTaken_22 : decode prog_37_method_71_code 22 = .ok (.aload_n 0, 1) := by decide +kernel
theorem dX10_isTaken_23 : decode prog_37_method_71_code 23 = .ok (.getfield 231, 3) := by decide +kernel
theorem dX10_isTaken_26 : decode prog_37_method_71_code 26 = .ok (.iload_n 1, 1) := by decide +kernel
theorem dX10_isTaken_27 : decode prog_37_method_71_code 27 = .ok (.iaload, 1) := by decide +kernel
theorem dX10_isTaken_28 : decode prog_37_method_71_code 28 = .ok (.iconst 2, 1) := by decide +kernel
theorem dX10_isTaken_29 : decode prog_37_method_71_code 29 = .ok (.if_icmp .eq 9, 3) := by decide +kernel
theorem dX10_isTaken_32 : decode prog_37_method_71_code 32 = .ok (.iinc 1 (-1), 3) := by decide +kernel
theorem dX10_isTaken_35 : decode prog_37_method_71_code 35 = .ok (.goto (-17), 3) := by decide +kernel
theorem dX10_isTaken_38 : decode prog_37_method_71_code 38 = .ok (.iload_n 1, 1) := by decide +kernel
theorem dX10_isTaken_39 : decode prog_37_method_71_code 39 = .ok (.ifCond .ge 5, 3) := by decide +kernel
theorem dX10_isTaken_42 : decode prog_37_method_71_code 42 = .ok (.iconst 0, 1) := by decide +kernel
theorem dX10_isTaken_43 : decode prog_37_method_71_code 43 = .ok (.ireturn, 1) := by decide +kernel
theorem dX10_isTaken_44 : decode prog_37_method_71_code 44 = .ok (.aload_n 0, 1) := by decide +kernel
theorem dX10_isTaken_45 : decode prog_37_method_71_code 45 = .ok (.getfield 498, 3) := by decide +kernel
theorem dX10_isTaken_48 : decode prog_37_method_71_code 48 = .ok (.bipush 9, 2) := by decide +kernel
theorem dX10_isTaken_50 : decode prog_37_method_71_code 50 = .ok (.if_icmp .ne 10, 3) := by decide +kernel
theorem dX10_isTaken_53 : decode prog_37_method_71_code 53 = .ok (.aload_n 0, 1) := by decide +kernel
theorem dX10_isTaken_54 : decode prog_37_method_71_code 54 = .ok (.getfield 543, 3) := by decide +kernel
theorem dX10_isTaken_57 : decode prog_37_method_71_code 57 = .ok (.goto 7, 3) := by decide +kernel
theorem dX10_isTaken_60 : decode prog_37_method_71_code 60 = .ok (.aload_n 0, 1) := by decide +kernel
theorem dX10_isTaken_61 : decode prog_37_method_71_code 61 = .ok (.getfield 498, 3) := by decide +kernel
theorem dX10_isTaken_64 : decode prog_37_method_71_code 64 = .ok (.istore_n 2, 1) := by decide +kernel
theorem dX10_isTaken_65 : decode prog_37_method_71_code 65 = .ok (.aload_n 0, 1) := by decide +kernel
theorem dX10_isTaken_66 : decode prog_37_method_71_code 66 = .ok (.iload_n 1, 1) := by decide +kernel
theorem dX10_isTaken_67 : decode prog_37_method_71_code 67 = .ok (.putfield 534, 3) := by decide +kernel
theorem dX10_isTaken_70 : decode prog_37_method_71_code 70 = .ok (.aload_n 0, 1) := by decide +kernel
theorem dX10_isTaken_71 : decode prog_37_method_71_code 71 = .ok (.aload_n 0, 1) := by decide +kernel
theorem dX10_isTaken_72 : decode prog_37_method_71_code 72 = .ok (.getfield 246, 3) := by decide +kernel
theorem dX10_isTaken_75 : decode prog_37_method_71_code 75 = .ok (.iload_n 1, 1) := by decide +kernel
theorem dX10_isTaken_76 : decode prog_37_method_71_code 76 = .ok (.iaload, 1) := by decide +kernel
theorem dX10_isTaken_77 : decode prog_37_method_71_code 77 = .ok (.putfield 531, 3) := by decide +kernel
theorem dX10_isTaken_80 : decode prog_37_method_71_code 80 = .ok (.aload_n 0, 1) := by decide +kernel
theorem dX10_isTaken_81 : decode prog_37_method_71_code 81 = .ok (.aload_n 0, 1) := by decide +kernel
theorem dX10_isTaken_82 : decode prog_37_method_71_code 82 = .ok (.getfield 243, 3) := by decide +kernel
theorem dX10_isTaken_85 : decode prog_37_method_71_code 85 = .ok (.iload_n 1, 1) := by decide +kernel
theorem dX10_isTaken_86 : decode prog_37_method_71_code 86 = .ok (.iaload, 1) := by decide +kernel
theorem dX10_isTaken_87 : decode prog_37_method_71_code 87 = .ok (.putfield 461, 3) := by decide +kernel
theorem dX10_isTaken_90 : decode prog_37_method_71_code 90 = .ok (.aload_n 0, 1) := by decide +kernel
theorem dX10_isTaken_91 : decode prog_37_method_71_code 91 = .ok (.aload_n 0, 1) := by decide +kernel
theorem dX10_isTaken_92 : decode prog_37_method_71_code 92 = .ok (.getfield 234, 3) := by decide +kernel
theorem dX10_isTaken_95 : decode prog_37_method_71_code 95 = .ok (.iload_n 1, 1) := by decide +kernel
theorem dX10_isTaken_96 : decode prog_37_method_71_code 96 = .ok (.iaload, 1) := by decide +kernel
theorem dX10_isTaken_97 : decode prog_37_method_71_code 97 = .ok (.putfield 540, 3) := by decide +kernel
theorem dX10_isTaken_100 : decode prog_37_method_71_code 100 = .ok (.aload_n 0, 1) := by decide +kernel
theorem dX10_isTaken_101 : decode prog_37_method_71_code 101 = .ok (.dup, 1) := by decide +kernel
theorem dX10_isTaken_102 : decode prog_37_method_71_code 102 = .ok (.getfield 546, 3) := by decide +kernel
theorem dX10_isTaken_105 : decode prog_37_method_71_code 105 = .ok (.iconst 1, 1) := by decide +kernel
theorem dX10_isTaken_106 : decode prog_37_method_71_code 106 = .ok (.iadd, 1) := by decide +kernel
theorem dX10_isTaken_107 : decode prog_37_method_71_code 107 = .ok (.putfield 546, 3) := by decide +kernel
theorem dX10_isTaken_110 : decode prog_37_method_71_code 110 = .ok (.aload_n 0, 1) := by decide +kernel
theorem dX10_isTaken_111 : decode prog_37_method_71_code 111 = .ok (.iconst 0, 1) := by decide +kernel
theorem dX10_isTaken_112 : decode prog_37_method_71_code 112 = .ok (.putfield 498, 3) := by decide +kernel
theorem dX10_isTaken_115 : decode prog_37_method_71_code 115 = .ok (.aload_n 0, 1) := by decide +kernel
theorem dX10_isTaken_116 : decode prog_37_method_71_code 116 = .ok (.iconst (-1), 1) := by decide +kernel
theorem dX10_isTaken_117 : decode prog_37_method_71_code 117 = .ok (.putfield 207, 3) := by decide +kernel
theorem dX10_isTaken_120 : decode prog_37_method_71_code 120 = .ok (.aload_n 0, 1) := by decide +kernel
theorem dX10_isTaken_121 : decode prog_37_method_71_code 121 = .ok (.dup, 1) := by decide +kernel
theorem dX10_isTaken_122 : decode prog_37_method_71_code 122 = .ok (.getfield 513, 3) := by decide +kernel
theorem dX10_isTaken_125 : decode prog_37_method_71_code 125 = .ok (.sipush 300, 3) := by decide +kernel
theorem dX10_isTaken_128 : decode prog_37_method_71_code 128 = .ok (.iadd, 1) := by decide +kernel
theorem dX10_isTaken_129 : decode prog_37_method_71_code 129 = .ok (.putfield 513, 3) := by decide +kernel
theorem dX10_isTaken_132 : decode prog_37_method_71_code 132 = .ok (.aload_n 0, 1) := by decide +kernel
theorem dX10_isTaken_133 : decode prog_37_method_71_code 133 = .ok (.aload_n 0, 1) := by decide +kernel
theorem dX10_isTaken_134 : decode prog_37_method_71_code 134 = .ok (.getfield 237, 3) := by decide +kernel
theorem dX10_isTaken_137 : decode prog_37_method_71_code 137 = .ok (.iload_n 1, 1) := by decide +kernel
theorem dX10_isTaken_138 : decode prog_37_method_71_code 138 = .ok (.iaload, 1) := by decide +kernel
theorem dX10_isTaken_139 : decode prog_37_method_71_code 139 = .ok (.iconst 0, 1) := by decide +kernel
theorem dX10_isTaken_140 : decode prog_37_method_71_code 140 = .ok (.iload_n 2, 1) := by decide +kernel
theorem dX10_isTaken_141 : decode prog_37_method_71_code 141 = .ok (.invokevirtual 549, 3) := by decide +kernel
theorem dX10_isTaken_144 : decode prog_37_method_71_code 144 = .ok (.aload_n 0, 1) := by decide +kernel
theorem dX10_isTaken_145 : decode prog_37_method_71_code 145 = .ok (.getfield 513, 3) := by decide +kernel
theorem dX10_isTaken_148 : decode prog_37_method_71_code 148 = .ok (.sipush 3000, 3) := by decide +kernel
theorem dX10_isTaken_151 : decode prog_37_method_71_code 151 = .ok (.if_icmp .le 15, 3) := by decide +kernel
theorem dX10_isTaken_154 : decode prog_37_method_71_code 154 = .ok (.aload_n 0, 1) := by decide +kernel
theorem dX10_isTaken_155 : decode prog_37_method_71_code 155 = .ok (.bipush 11, 2) := by decide +kernel
theorem dX10_isTaken_157 : decode prog_37_method_71_code 157 = .ok (.aload_n 0, 1) := by decide +kernel
theorem dX10_isTaken_158 : decode prog_37_method_71_code 158 = .ok (.getfield 240, 3) := by decide +kernel
theorem dX10_isTaken_161 : decode prog_37_method_71_code 161 = .ok (.iload_n 1, 1) := by decide +kernel
theorem dX10_isTaken_162 : decode prog_37_method_71_code 162 = .ok (.iaload, 1) := by decide +kernel
theorem dX10_isTaken_163 : decode prog_37_method_71_code 163 = .ok (.invokevirtual 510, 3) := by decide +kernel
theorem dX10_isTaken_166 : decode prog_37_method_71_code 166 = .ok (.aload_n 0, 1) := by decide +kernel
theorem dX10_isTaken_167 : decode prog_37_method_71_code 167 = .ok (.getfield 498, 3) := by decide +kernel
theorem dX10_isTaken_170 : decode prog_37_method_71_code 170 = .ok (.ifCond .ne 7, 3) := by decide +kernel
theorem dX10_isTaken_173 : decode prog_37_method_71_code 173 = .ok (.iconst 1, 1) := by decide +kernel
theorem dX10_isTaken_174 : decode prog_37_method_71_code 174 = .ok (.goto 4, 3) := by decide +kernel
theorem dX10_isTaken_177 : decode prog_37_method_71_code 177 = .ok (.iconst 0, 1) := by decide +kernel
theorem dX10_isTaken_178 : decode prog_37_method_71_code 178 = .ok (.ireturn, 1) := by decide +kernel
theorem dX10_lay_0 : decode prog_37_method_58_code 0 = .ok (.iload_n 1, 1) := by decide +kernel
theorem dX10_lay_1 : decode prog_37_method_58_code 1 = .ok (.iconst 2, 1) := by decide +kernel
theorem dX10_lay_2 : decode prog_37_method_58_code 2 = .ok (.if_icmp .ne 11, 3) := by decide +kernel
theorem dX10_lay_5 : decode prog_37_method_58_code 5 = .ok (.aload_n 0, 1) := by decide +kernel
theorem dX10_lay_6 : decode prog_37_method_58_code 6 = .ok (.getfield 183, 3) := by decide +kernel
theorem dX10_lay_9 : decode prog_37_method_58_code 9 = .ok (.iload_n 3, 1) := by decide +kernel
theorem dX10_lay_10 : decode prog_37_method_58_code 10 = .ok (.iconst (-1), 1) := by decide +kernel
theorem dX10_lay_11 : decode prog_37_method_58_code 11 = .ok (.iastore, 1) := by decide +kernel
theorem dX10_lay_12 : decode prog_37_method_58_code 12 = .ok (.return_, 1) := by decide +kernel
theorem dX10_lay_13 : decode prog_37_method_58_code 13 = .ok (.iload_n 1, 1) := by decide +kernel
theorem dX10_lay_14 : decode prog_37_method_58_code 14 = .ok (.ifCond .ne 20, 3) := by decide +kernel
theorem dX10_lay_17 : decode prog_37_method_58_code 17 = .ok (.aload_n 0, 1) := by decide +kernel
theorem dX10_lay_18 : decode prog_37_method_58_code 18 = .ok (.getfield 183, 3) := by decide +kernel
theorem dX10_lay_21 : decode prog_37_method_58_code 21 = .ok (.iload_n 3, 1) := by decide +kernel
theorem dX10_lay_22 : decode prog_37_method_58_code 22 = .ok (.iconst 0, 1) := by decide +kernel
theorem dX10_lay_23 : decode prog_37_method_58_code 23 = .ok (.iastore, 1) := by decide +kernel
theorem dX10_lay_24 : decode prog_37_method_58_code 24 = .ok (.aload_n 0, 1) := by decide +kernel
theorem dX10_lay_25 : decode prog_37_method_58_code 25 = .ok (.getfield 183, 3) := by decide +kernel
theorem dX10_lay_28 : decode prog_37_method_58_code 28 = .ok (.iload_n 3, 1) := by decide +kernel
theorem dX10_lay_29 : decode prog_37_method_58_code 29 = .ok (.iconst 1, 1) := by decide +kernel
theorem dX10_lay_30 : decode prog_37_method_58_code 30 = .ok (.iadd, 1) := by decide +kernel
theorem dX10_lay_31 : decode prog_37_method_58_code 31 = .ok (.iload_n 2, 1) := by decide +kernel
theorem dX10_lay_32 : decode prog_37_method_58_code 32 = .ok (.iastore, 1) := by decide +kernel
theorem dX10_lay_33 : decode prog_37_method_58_code 33 = .ok (.return_, 1) := by decide +kernel
theorem dX10_lay_34 : decode prog_37_method_58_code 34 = .ok (.iconst 1, 1) := by decide +kernel
theorem dX10_lay_35 : decode prog_37_method_58_code 35 = .ok (.istore 4, 2) := by decide +kernel
theorem dX10_lay_37 : decode prog_37_method_58_code 37 = .ok (.iload_n 3, 1) := by decide +kernel
theorem dX10_lay_38 : decode prog_37_method_58_code 38 = .ok (.aload_n 0, 1) := by decide +kernel
theorem dX10_lay_39 : decode prog_37_method_58_code 39 = .ok (.iload_n 2, 1) := by decide +kernel
theorem dX10_lay_40 : decode prog_37_method_58_code 40 = .ok (.invokevirtual 492, 3) := by decide +kernel
theorem dX10_lay_43 : decode prog_37_method_58_code 43 = .ok (.iadd, 1) := by decide +kernel
theorem dX10_lay_44 : decode prog_37_method_58_code 44 = .ok (.istore 5, 2) := by decide +kernel
theorem dX10_lay_46 : decode prog_37_method_58_code 46 = .ok (.aload_n 0, 1) := by decide +kernel
theorem dX10_lay_47 : decode prog_37_method_58_code 47 = .ok (.getfield 201, 3) := by decide +kernel
theorem dX10_lay_50 : decode prog_37_method_58_code 50 = .ok (.iconst 0, 1) := by decide +kernel
theorem dX10_lay_51 : decode prog_37_method_58_code 51 = .ok (.iload_n 2, 1) := by decide +kernel
theorem dX10_lay_52 : decode prog_37_method_58_code 52 = .ok (.iastore, 1) := by decide +kernel
theorem dX10_lay_53 : decode prog_37_method_58_code 53 = .ok (.aload_n 0, 1) := by decide +kernel
theorem dX10_lay_54 : decode prog_37_method_58_code 54 = .ok (.getfield 204, 3) := by decide +kernel
theorem dX10_lay_57 : decode prog_37_method_58_code 57 = .ok (.iconst 0, 1) := by decide +kernel
theorem dX10_lay_58 : decode prog_37_method_58_code 58 = .ok (.iload_n 3, 1) := by decide +kernel
theorem dX10_lay_59 : decode prog_37_method_58_code 59 = .ok (.iastore, 1) := by decide +kernel
theorem dX10_lay_60 : decode prog_37_method_58_code 60 = .ok (.iconst 0, 1) := by decide +kernel
theorem dX10_lay_61 : decode prog_37_method_58_code 61 = .ok (.istore 6, 2) := by decide +kernel
theorem dX10_lay_63 : decode prog_37_method_58_code 63 = .ok (.iload 6, 2) := by decide +kernel
theorem dX10_lay_65 : decode prog_37_method_58_code 65 = .ok (.iload 4, 2) := by decide +kernel
theorem dX10_lay_67 : decode prog_37_method_58_code 67 = .ok (.if_icmp .ge 206, 3) := by decide +kernel
theorem dX10_lay_70 : decode prog_37_method_58_code 70 = .ok (.aload_n 0, 1) := by decide +kernel
theorem dX10_lay_71 : decode prog_37_method_58_code 71 = .ok (.getfield 201, 3) := by decide +kernel
theorem dX10_lay_74 : decode prog_37_method_58_code 74 = .ok (.iload 6, 2) := by decide +kernel
theorem dX10_lay_76 : decode prog_37_method_58_code 76 = .ok (.iaload, 1) := by decide +kernel
theorem dX10_lay_77 : decode prog_37_method_58_code 77 = .ok (.istore 7, 2) := by decide +kernel
theorem dX10_lay_79 : decode prog_37_method_58_code 79 = .ok (.aload_n 0, 1) := by decide +kernel
theorem dX10_lay_80 : decode prog_37_method_58_code 80 = .ok (.getfield 204, 3) := by decide +kernel
theorem dX10_lay_83 : decode prog_37_method_58_code 83 = .ok (.iload 6, 2) := by decide +kernel
theorem dX10_lay_85 : decode prog_37_method_58_code 85 = .ok (.iaload, 1) := by decide +kernel
theorem dX10_lay_86 : decode prog_37_method_58_code 86 = .ok (.istore 8, 2) := by decide +kernel
theorem dX10_lay_88 : decode prog_37_method_58_code 88 = .ok (.aload_n 0, 1) := by decide +kernel
theorem dX10_lay_89 : decode prog_37_method_58_code 89 = .ok (.iload 7, 2) := by decide +kernel
theorem dX10_lay_91 : decode prog_37_method_58_code 91 = .ok (.invokevirtual 492, 3) := by decide +kernel
theorem dX10_lay_94 : decode prog_37_method_58_code 94 = .ok (.istore 9, 2) := by decide +kernel
theorem dX10_lay_96 : decode prog_37_method_58_code 96 = .ok (.iconst 0, 1) := by decide +kernel
theorem dX10_lay_97 : decode prog_37_method_58_code 97 = .ok (.istore 10, 2) := by decide +kernel
theorem dX10_lay_99 : decode prog_37_method_58_code 99 = .ok (.iload 10, 2) := by decide +kernel
theorem dX10_lay_101 : decode prog_37_method_58_code 101 = .ok (.iload 9, 2) := by decide +kernel
theorem dX10_lay_103 : decode prog_37_method_58_code 103 = .ok (.if_icmp .ge 29, 3) := by decide +kernel
theorem dX10_lay_106 : decode prog_37_method_58_code 106 = .ok (.aload_n 0, 1) := by decide +kernel
theorem dX10_lay_107 : decode prog_37_method_58_code 107 = .ok (.getfield 183, 3) := by decide +kernel
theorem dX10_lay_110 : decode prog_37_method_58_code 110 = .ok (.iload 8, 2) := by decide +kernel
theorem dX10_lay_112 : decode prog_37_method_58_code 112 = .ok (.iload 10, 2) := by decide +kernel
theorem dX10_lay_114 : decode prog_37_method_58_code 114 = .ok (.iadd, 1) := by decide +kernel
theorem dX10_lay_115 : decode prog_37_method_58_code 115 = .ok (.aload_n 0, 1) := by decide +kernel
theorem dX10_lay_116 : decode prog_37_method_58_code 116 = .ok (.getfield 183, 3) := by decide +kernel
theorem dX10_lay_119 : decode prog_37_method_58_code 119 = .ok (.iload 7, 2) := by decide +kernel
theorem dX10_lay_121 : decode prog_37_method_58_code 121 = .ok (.iload 10, 2) := by decide +kernel
theorem dX10_lay_123 : decode prog_37_method_58_code 123 = .ok (.iadd, 1) := by decide +kernel
theorem dX10_lay_124 : decode prog_37_method_58_code 124 = .ok (.iaload, 1) := by decide +kernel
theorem dX10_lay_125 : decode prog_37_method_58_code 125 = .ok (.iastore, 1) := by decide +kernel
theorem dX10_lay_126 : decode prog_37_method_58_code 126 = .ok (.iinc 10 1, 3) := by decide +kernel
theorem dX10_lay_129 : decode prog_37_method_58_code 129 = .ok (.goto (-30), 3) := by decide +kernel
theorem dX10_lay_132 : decode prog_37_method_58_code 132 = .ok (.iconst 0, 1) := by decide +kernel
theorem dX10_lay_133 : decode prog_37_method_58_code 133 = .ok (.istore 10, 2) := by decide +kernel
theorem dX10_lay_135 : decode prog_37_method_58_code 135 = .ok (.iload 10, 2) := by decide +kernel
theorem dX10_lay_137 : decode prog_37_method_58_code 137 = .ok (.aload_n 0, 1) := by decide +kernel
theorem dX10_lay_138 : decode prog_37_method_58_code 138 = .ok (.iload 7, 2) := by decide +kernel
theorem dX10_lay_140 : decode prog_37_method_58_code 140 = .ok (.invokevirtual 477, 3) := by decide +kernel
theorem dX10_lay_143 : decode prog_37_method_58_code 143 = .ok (.if_icmp .ge 124, 3) := by decide +kernel
theorem dX10_lay_146 : decode prog_37_method_58_code 146 = .ok (.aload_n 0, 1) := by decide +kernel
theorem dX10_lay_147 : decode prog_37_method_58_code 147 = .ok (.getfield 183, 3) := by decide +kernel
theorem dX10_lay_150 : decode prog_37_method_58_code 150 = .ok (.iload 7, 2) := by decide +kernel
theorem dX10_lay_152 : decode prog_37_method_58_code 152 = .ok (.iaload, 1) := by decide +kernel
theorem dX10_lay_153 : decode prog_37_method_58_code 153 = .ok (.iconst 1, 1) := by decide +kernel
theorem dX10_lay_154 : decode prog_37_method_58_code 154 = .ok (.if_icmp .eq 113, 3) := by decide +kernel
theorem dX10_lay_157 : decode prog_37_method_58_code 157 = .ok (.aload_n 0, 1) := by decide +kernel
theorem dX10_lay_158 : decode prog_37_method_58_code 158 = .ok (.getfield 183, 3) := by decide +kernel
theorem dX10_lay_161 : decode prog_37_method_58_code 161 = .ok (.iload 7, 2) := by decide +kernel
theorem dX10_lay_163 : decode prog_37_method_58_code 163 = .ok (.iaload, 1) := by decide +kernel
theorem dX10_lay_164 : decode prog_37_method_58_code 164 = .ok (.iconst 3, 1) := by decide +kernel
theorem dX10_lay_165 : decode prog_37_method_58_code 165 = .ok (.if_icmp .ne 17, 3) := by decide +kernel
theorem dX10_lay_168 : decode prog_37_method_58_code 168 = .ok (.aload_n 0, 1) := by decide +kernel
theorem dX10_lay_169 : decode prog_37_method_58_code 169 = .ok (.iload 7, 2) := by decide +kernel
theorem dX10_lay_171 : decode prog_37_method_58_code 171 = .ok (.iload 10, 2) := by decide +kernel
theorem dX10_lay_173 : decode prog_37_method_58_code 173 = .ok (.invokevirtual 467, 3) := by decide +kernel
theorem dX10_lay_176 : decode prog_37_method_58_code 176 = .ok (.ifCond .eq 6, 3) := by decide +kernel
theorem dX10_lay_179 : decode prog_37_method_58_code 179 = .ok (.goto 82, 3) := by decide +kernel
theorem dX10_lay_182 : decode prog_37_method_58_code 182 = .ok (.aload_n 0, 1) := by decide +kernel
theorem dX10_lay_183 : decode prog_37_method_58_code 183 = .ok (.iload 7, 2) := by decide +kernel
theorem dX10_lay_185 : decode prog_37_method_58_code 185 = .ok (.iload 10, 2) := by decide +kernel
theorem dX10_lay_187 : decode prog_37_method_58_code 187 = .ok (.invokevirtual 470, 3) := by decide +kernel
theorem dX10_lay_190 : decode prog_37_method_58_code 190 = .ok (.istore 11, 2) := by decide +kernel
theorem dX10_lay_192 : decode prog_37_method_58_code 192 = .ok (.aload_n 0, 1) := by decide +kernel
theorem dX10_lay_193 : decode prog_37_method_58_code 193 = .ok (.getfield 201, 3) := by decide +kernel
theorem dX10_lay_196 : decode prog_37_method_58_code 196 = .ok (.iload 4, 2) := by decide +kernel
theorem dX10_lay_198 : decode prog_37_method_58_code 198 = .ok (.iload 11, 2) := by decide +kernel
theorem dX10_lay_200 : decode prog_37_method_58_code 200 = .ok (.iastore, 1) := by decide +kernel
theorem dX10_lay_201 : decode prog_37_method_58_code 201 = .ok (.aload_n 0, 1) := by decide +kernel
theorem dX10_lay_202 : decode prog_37_method_58_code 202 = .ok (.getfield 204, 3) := by decide +kernel
theorem dX10_lay_205 : decode prog_37_method_58_code 205 = .ok (.iload 4, 2) := by decide +kernel
theorem dX10_lay_207 : decode prog_37_method_58_code 207 = .ok (.iload 5, 2) := by decide +kernel
theorem dX10_lay_209 : decode prog_37_method_58_code 209 = .ok (.iastore, 1) := by decide +kernel
theorem dX10_lay_210 : decode prog_37_method_58_code 210 = .ok (.iinc 4 1, 3) := by decide +kernel
theorem dX10_lay_213 : decode prog_37_method_58_code 213 = .ok (.aload_n 0, 1) := by decide +kernel
theorem dX10_lay_214 : decode prog_37_method_58_code 214 = .ok (.getfield 183, 3) := by decide +kernel
theorem dX10_lay_217 : decode prog_37_method_58_code 217 = .ok (.iload 8, 2) := by decide +kernel
theorem dX10_lay_219 : decode prog_37_method_58_code 219 = .ok (.aload_n 0, 1) := by decide +kernel
theorem dX10_lay_220 : decode prog_37_method_58_code 220 = .ok (.getfield 183, 3) := by decide +kernel
theorem dX10_lay_223 : decode prog_37_method_58_code 223 = .ok (.iload 7, 2) := by decide +kernel
theorem dX10_lay_225 : decode prog_37_method_58_code 225 = .ok (.iaload, 1) := by decide +kernel
theorem dX10_lay_226 : decode prog_37_method_58_code 226 = .ok (.iconst 2, 1) := by decide +kernel
theorem dX10_lay_227 : decode prog_37_method_58_code 227 = .ok (.if_icmp .ne 10, 3) := by decide +kernel
theorem dX10_lay_230 : decode prog_37_method_58_code 230 = .ok (.iconst 2, 1) := by decide +kernel
theorem dX10_lay_231 : decode prog_37_method_58_code 231 = .ok (.iload 10, 2) := by decide +kernel
theorem dX10_lay_233 : decode prog_37_method_58_code 233 = .ok (.iadd, 1) := by decide +kernel
theorem dX10_lay_234 : decode prog_37_method_58_code 234 = .ok (.goto 9, 3) := by decide +kernel
theorem dX10_lay_237 : decode prog_37_method_58_code 237 = .ok (.iconst 3, 1) := by decide +kernel
theorem dX10_lay_238 : decode prog_37_method_58_code 238 = .ok (.iconst 2, 1) := by decide +kernel
theorem dX10_lay_239 : decode prog_37_method_58_code 239 = .ok (.iload 10, 2) := by decide +kernel
theorem dX10_lay_241 : decode prog_37_method_58_code 241 = .ok (.imul, 1) := by decide +kernel
theorem dX10_lay_242 : decode prog_37_method_58_code 242 = .ok (.iadd, 1) := by decide +kernel
theorem dX10_lay_243 : decode prog_37_method_58_code 243 = .ok (.iadd, 1) := by decide +kernel
theorem dX10_lay_244 : decode prog_37_method_58_code 244 = .ok (.iload 5, 2) := by decide +kernel
theorem dX10_lay_246 : decode prog_37_method_58_code 246 = .ok (.iload 8, 2) := by decide +kernel
theorem dX10_lay_248 : decode prog_37_method_58_code 248 = .ok (.isub, 1) := by decide +kernel
theorem dX10_lay_249 : decode prog_37_method_58_code 249 = .ok (.iastore, 1) := by decide +kernel
theorem dX10_lay_250 : decode prog_37_method_58_code 250 = .ok (.iload 5, 2) := by decide +kernel
theorem dX10_lay_252 : decode prog_37_method_58_code 252 = .ok (.aload_n 0, 1) := by decide +kernel
theorem dX10_lay_253 : decode prog_37_method_58_code 253 = .ok (.iload 11, 2) := by decide +kernel
theorem dX10_lay_255 : decode prog_37_method_58_code 255 = .ok (.invokevirtual 492, 3) := by decide +kernel
theorem dX10_lay_258 : decode prog_37_method_58_code 258 = .ok (.iadd, 1) := by decide +kernel
theorem dX10_lay_259 : decode prog_37_method_58_code 259 = .ok (.istore 5, 2) := by decide +kernel
theorem dX10_lay_261 : decode prog_37_method_58_code 261 = .ok (.iinc 10 1, 3) := by decide +kernel
theorem dX10_lay_264 : decode prog_37_method_58_code 264 = .ok (.goto (-129), 3) := by decide +kernel
theorem dX10_lay_267 : decode prog_37_method_58_code 267 = .ok (.iinc 6 1, 3) := by decide +kernel
theorem dX10_lay_270 : decode prog_37_method_58_code 270 = .ok (.goto (-207), 3) := by decide +kernel
theorem dX10_lay_273 : decode prog_37_method_58_code 273 = .ok (.return_, 1) := by decide +kernel
theorem dX10_numbersOf_0 : decode prog_37_method_57_code 0 = .ok (.iconst 2, 1) := by decide +kernel
theorem dX10_numbersOf_1 : decode prog_37_method_57_code 1 = .ok (.aload_n 0, 1) := by decide +kernel
theorem dX10_numbersOf_2 : decode prog_37_method_57_code 2 = .ok (.getfield 183, 3) := by decide +kernel
theorem dX10_numbersOf_5 : decode prog_37_method_57_code 5 = .ok (.iload_n 1, 1) := by decide +kernel
theorem dX10_numbersOf_6 : decode prog_37_method_57_code 6 = .ok (.iaload, 1) := by decide +kernel
theorem dX10_numbersOf_7 : decode prog_37_method_57_code 7 = .ok (.iconst 3, 1) := by decide +kernel
theorem dX10_numbersOf_8 : decode prog_37_method_57_code 8 = .ok (.if_icmp .ne 13, 3) := by decide +kernel
theorem dX10_numbersOf_11 : decode prog_37_method_57_code 11 = .ok (.iconst 2, 1) := by decide +kernel
theorem dX10_numbersOf_12 : decode prog_37_method_57_code 12 = .ok (.aload_n 0, 1) := by decide +kernel
theorem dX10_numbersOf_13 : decode prog_37_method_57_code 13 = .ok (.iload_n 1, 1) := by decide +kernel
theorem dX10_numbersOf_14 : decode prog_37_method_57_code 14 = .ok (.invokevirtual 477, 3) := by decide +kernel
theorem dX10_numbersOf_17 : decode prog_37_method_57_code 17 = .ok (.imul, 1) := by decide +kernel
theorem dX10_numbersOf_18 : decode prog_37_method_57_code 18 = .ok (.goto 8, 3) := by decide +kernel
theorem dX10_numbersOf_21 : decode prog_37_method_57_code 21 = .ok (.aload_n 0, 1) := by decide +kernel
theorem dX10_numbersOf_22 : decode prog_37_method_57_code 22 = .ok (.iload_n 1, 1) := by decide +kernel
theorem dX10_numbersOf_23 : decode prog_37_method_57_code 23 = .ok (.invokevirtual 477, 3) := by decide +kernel
theorem dX10_numbersOf_26 : decode prog_37_method_57_code 26 = .ok (.iadd, 1) := by decide +kernel
theorem dX10_numbersOf_27 : decode prog_37_method_57_code 27 = .ok (.ireturn, 1) := by decide +kernel
theorem dX10_copy_0 : decode prog_37_method_59_code 0 = .ok (.aload_n 0, 1) := by decide +kernel
theorem dX10_copy_1 : decode prog_37_method_59_code 1 = .ok (.aload_n 0, 1) := by decide +kernel
theorem dX10_copy_2 : decode prog_37_method_59_code 2 = .ok (.getfield 183, 3) := by decide +kernel
theorem dX10_copy_5 : decode prog_37_method_59_code 5 = .ok (.iload_n 1, 1) := by decide +kernel
theorem dX10_copy_6 : decode prog_37_method_59_code 6 = .ok (.iaload, 1) := by decide +kernel
theorem dX10_copy_7 : decode prog_37_method_59_code 7 = .ok (.iconst (-1), 1) := by decide +kernel
theorem dX10_copy_8 : decode prog_37_method_59_code 8 = .ok (.if_icmp .ne 7, 3) := by decide +kernel
theorem dX10_copy_11 : decode prog_37_method_59_code 11 = .ok (.iconst 2, 1) := by decide +kernel
theorem dX10_copy_12 : decode prog_37_method_59_code 12 = .ok (.goto 17, 3) := by decide +kernel
theorem dX10_copy_15 : decode prog_37_method_59_code 15 = .ok (.aload_n 0, 1) := by decide +kernel
theorem dX10_copy_16 : decode prog_37_method_59_code 16 = .ok (.getfield 183, 3) := by decide +kernel
theorem dX10_copy_19 : decode prog_37_method_59_code 19 = .ok (.iload_n 1, 1) := by decide +kernel
theorem dX10_copy_20 : decode prog_37_method_59_code 20 = .ok (.iaload, 1) := by decide +kernel
theorem dX10_copy_21 : decode prog_37_method_59_code 21 = .ok (.ifCond .ne 7, 3) := by decide +kernel
theorem dX10_copy_24 : decode prog_37_method_59_code 24 = .ok (.iconst 0, 1) := by decide +kernel
theorem dX10_copy_25 : decode prog_37_method_59_code 25 = .ok (.goto 4, 3) := by decide +kernel
theorem dX10_copy_28 : decode prog_37_method_59_code 28 = .ok (.iconst 1, 1) := by decide +kernel
theorem dX10_copy_29 : decode prog_37_method_59_code 29 = .ok (.aload_n 0, 1) := by decide +kernel
theorem dX10_copy_30 : decode prog_37_method_59_code 30 = .ok (.getfield 183, 3) := by decide +kernel
theorem dX10_copy_33 : decode prog_37_method_59_code 33 = .ok (.iload_n 1, 1) := by decide +kernel
theorem dX10_copy_34 : decode prog_37_method_59_code 34 = .ok (.iaload, 1) := by decide +kernel
theorem dX10_copy_35 : decode prog_37_method_59_code 35 = .ok (.ifCond .ne 14, 3) := by decide +kernel
theorem dX10_copy_38 : decode prog_37_method_59_code 38 = .ok (.aload_n 0, 1) := by decide +kernel
theorem dX10_copy_39 : decode prog_37_method_59_code 39 = .ok (.getfield 183, 3) := by decide +kernel
theorem dX10_copy_42 : decode prog_37_method_59_code 42 = .ok (.iload_n 1, 1) := by decide +kernel
theorem dX10_copy_43 : decode prog_37_method_59_code 43 = .ok (.iconst 1, 1) := by decide +kernel
theorem dX10_copy_44 : decode prog_37_method_59_code 44 = .ok (.iadd, 1) := by decide +kernel
theorem dX10_copy_45 : decode prog_37_method_59_code 45 = .ok (.iaload, 1) := by decide +kernel
theorem dX10_copy_46 : decode prog_37_method_59_code 46 = .ok (.goto 4, 3) := by decide +kernel
theorem dX10_copy_49 : decode prog_37_method_59_code 49 = .ok (.iload_n 1, 1) := by decide +kernel
theorem dX10_copy_50 : decode prog_37_method_59_code 50 = .ok (.iload_n 2, 1) := by decide +kernel
theorem dX10_copy_51 : decode prog_37_method_59_code 51 = .ok (.invokevirtual 495, 3) := by decide +kernel
theorem dX10_copy_54 : decode prog_37_method_59_code 54 = .ok (.return_, 1) := by decide +kernel
theorem dX10_trouble_2_0 : decode prog_37_method_113_code 0 = .ok (.aload_n 0, 1) := by decide +kernel
theorem dX10_trouble_2_1 : decode prog_37_method_113_code 1 = .ok (.getfield 552, 3) := by decide +kernel
theorem dX10_trouble_2_4 : decode prog_37_method_113_code 4 = .ok (.ifCond .ne 5, 3) := by decide +kernel
theorem dX10_trouble_2_7 : decode prog_37_method_113_code 7 = .ok (.iconst (-1), 1) := by decide +kernel
theorem dX10_trouble_2_8 : decode prog_37_method_113_code 8 = .ok (.ireturn, 1) := by decide +kernel
theorem dX10_trouble_2_9 : decode prog_37_method_113_code 9 = .ok (.iload_n 1, 1) := by decide +kernel
theorem dX10_trouble_2_10 : decode prog_37_method_113_code 10 = .ok (.tableswitch 90 0 6 #[42, 47, 52, 70, 75, 80, 85], 42) := by decide +kernel
theorem dX10_trouble_2_52 : decode prog_37_method_113_code 52 = .ok (.aload_n 0, 1) := by decide +kernel
theorem dX10_trouble_2_53 : decode prog_37_method_113_code 53 = .ok (.getfield 498, 3) := by decide +kernel
theorem dX10_trouble_2_56 : decode prog_37_method_113_code 56 = .ok (.ireturn, 1) := by decide +kernel
theorem dX10_trouble_2_57 : decode prog_37_method_113_code 57 = .ok (.aload_n 0, 1) := by decide +kernel
theorem dX10_trouble_2_58 : decode prog_37_method_113_code 58 = .ok (.getfield 207, 3) := by decide +kernel
theorem dX10_trouble_2_61 : decode prog_37_method_113_code 61 = .ok (.ireturn, 1) := by decide +kernel
theorem dX10_trouble_2_62 : decode prog_37_method_113_code 62 = .ok (.aload_n 0, 1) := by decide +kernel
theorem dX10_trouble_2_63 : decode prog_37_method_113_code 63 = .ok (.getfield 498, 3) := by decide +kernel
theorem dX10_trouble_2_66 : decode prog_37_method_113_code 66 = .ok (.bipush 9, 2) := by decide +kernel
theorem dX10_trouble_2_68 : decode prog_37_method_113_code 68 = .ok (.if_icmp .ne 10, 3) := by decide +kernel
theorem dX10_trouble_2_71 : decode prog_37_method_113_code 71 = .ok (.aload_n 0, 1) := by decide +kernel
theorem dX10_trouble_2_72 : decode prog_37_method_113_code 72 = .ok (.getfield 543, 3) := by decide +kernel
theorem dX10_trouble_2_75 : decode prog_37_method_113_code 75 = .ok (.goto 4, 3) := by decide +kernel
theorem dX10_trouble_2_78 : decode prog_37_method_113_code 78 = .ok (.iconst 0, 1) := by decide +kernel
theorem dX10_trouble_2_79 : decode prog_37_method_113_code 79 = .ok (.ireturn, 1) := by decide +kernel
theorem dX10_trouble_2_80 : decode prog_37_method_113_code 80 = .ok (.aload_n 0, 1) := by decide +kernel
theorem dX10_trouble_2_81 : decode prog_37_method_113_code 81 = .ok (.getfield 501, 3) := by decide +kernel
theorem dX10_trouble_2_84 : decode prog_37_method_113_code 84 = .ok (.ireturn, 1) := by decide +kernel
theorem dX10_trouble_2_85 : decode prog_37_method_113_code 85 = .ok (.aload_n 0, 1) := by decide +kernel
theorem dX10_trouble_2_86 : decode prog_37_method_113_code 86 = .ok (.getfield 513, 3) := by decide +kernel
theorem dX10_trouble_2_89 : decode prog_37_method_113_code 89 = .ok (.ireturn, 1) := by decide +kernel
theorem dX10_trouble_2_90 : decode prog_37_method_113_code 90 = .ok (.aload_n 0, 1) := by decide +kernel
theorem dX10_trouble_2_91 : decode prog_37_method_113_code 91 = .ok (.getfield 537, 3) := by decide +kernel
theorem dX10_trouble_2_94 : decode prog_37_method_113_code 94 = .ok (.ireturn, 1) := by decide +kernel
theorem dX10_trouble_2_95 : decode prog_37_method_113_code 95 = .ok (.aload_n 0, 1) := by decide +kernel
theorem dX10_trouble_2_96 : decode prog_37_method_113_code 96 = .ok (.getfield 546, 3) := by decide +kernel
theorem dX10_trouble_2_99 : decode prog_37_method_113_code 99 = .ok (.ireturn, 1) := by decide +kernel
theorem dX10_trouble_2_100 : decode prog_37_method_113_code 100 = .ok (.iconst (-1), 1) := by decide +kernel
theorem dX10_trouble_2_101 : decode prog_37_method_113_code 101 = .ok (.ireturn, 1) := by decide +kernel
theorem dX10_out_0 : decode prog_37_method_114_code 0 = .ok (.iload_n 1, 1) := by decide +kernel
theorem dX10_out_1 : decode prog_37_method_114_code 1 = .ok (.ifCond .lt 18, 3) := by decide +kernel
theorem dX10_out_4 : decode prog_37_method_114_code 4 = .ok (.iload_n 1, 1) := by decide +kernel
theorem dX10_out_5 : decode prog_37_method_114_code 5 = .ok (.aload_n 0, 1) := by decide +kernel
theorem dX10_out_6 : decode prog_37_method_114_code 6 = .ok (.getfield 555, 3) := by decide +kernel
theorem dX10_out_9 : decode prog_37_method_114_code 9 = .ok (.if_icmp .ge 10, 3) := by decide +kernel
theorem dX10_out_12 : decode prog_37_method_114_code 12 = .ok (.iload_n 1, 1) := by decide +kernel
theorem dX10_out_13 : decode prog_37_method_114_code 13 = .ok (.sipush 600, 3) := by decide +kernel
theorem dX10_out_16 : decode prog_37_method_114_code 16 = .ok (.if_icmp .lt 7, 3) := by decide +kernel
theorem dX10_out_19 : decode prog_37_method_114_code 19 = .ok (.iconst (-1), 1) := by decide +kernel
theorem dX10_out_20 : decode prog_37_method_114_code 20 = .ok (.goto 9, 3) := by decide +kernel
theorem dX10_out_23 : decode prog_37_method_114_code 23 = .ok (.aload_n 0, 1) := by decide +kernel
theorem dX10_out_24 : decode prog_37_method_114_code 24 = .ok (.getfield 249, 3) := by decide +kernel
theorem dX10_out_27 : decode prog_37_method_114_code 27 = .ok (.iload_n 1, 1) := by decide +kernel
theorem dX10_out_28 : decode prog_37_method_114_code 28 = .ok (.baload, 1) := by decide +kernel
theorem dX10_out_29 : decode prog_37_method_114_code 29 = .ok (.ireturn, 1) := by decide +kernel
theorem dX10_outs_0 : decode prog_37_method_115_code 0 = .ok (.aload_n 0, 1) := by decide +kernel
theorem dX10_outs_1 : decode prog_37_method_115_code 1 = .ok (.getfield 555, 3) := by decide +kernel
theorem dX10_outs_4 : decode prog_37_method_115_code 4 = .ok (.ireturn, 1) := by decide +kernel
theorem dX10_show_0 : decode prog_37_method_117_code 0 = .ok (.iload_n 1, 1) := by decide +kernel
theorem dX10_show_1 : decode prog_37_method_117_code 1 = .ok (.invokestatic 725, 3) := by decide +kernel
theorem dX10_show_4 : decode prog_37_method_117_code 4 = .ok (.ifCond .eq 17, 3) := by decide +kernel
theorem dX10_show_7 : decode prog_37_method_117_code 7 = .ok (.aload_n 0, 1) := by decide +kernel
theorem dX10_show_8 : decode prog_37_method_117_code 8 = .ok (.getfield 183, 3) := by decide +kernel
theorem dX10_show_11 : decode prog_37_method_117_code 11 = .ok (.sipush 2410, 3) := by decide +kernel
theorem dX10_show_14 : decode prog_37_method_117_code 14 = .ok (.iload_n 1, 1) := by decide +kernel
theorem dX10_show_15 : decode prog_37_method_117_code 15 = .ok (.imul, 1) := by decide +kernel
theorem dX10_show_16 : decode prog_37_method_117_code 16 = .ok (.iaload, 1) := by decide +kernel
theorem dX10_show_17 : decode prog_37_method_117_code 17 = .ok (.iconst (-1), 1) := by decide +kernel
theorem dX10_show_18 : decode prog_37_method_117_code 18 = .ok (.if_icmp .ne 5, 3) := by decide +kernel
theorem dX10_show_21 : decode prog_37_method_117_code 21 = .ok (.iconst (-1), 1) := by decide +kernel
theorem dX10_show_22 : decode prog_37_method_117_code 22 = .ok (.ireturn, 1) := by decide +kernel
theorem dX10_show_23 : decode prog_37_method_117_code 23 = .ok (.aload_n 0, 1) := by decide +kernel
theorem dX10_show_24 : decode prog_37_method_117_code 24 = .ok (.iconst 0, 1) := by decide +kernel
theorem dX10_show_25 : decode prog_37_method_117_code 25 = .ok (.putfield 555, 3) := by decide +kernel
theorem dX10_show_28 : decode prog_37_method_117_code 28 = .ok (.aload_n 0, 1) := by decide +kernel
theorem dX10_show_29 : decode prog_37_method_117_code 29 = .ok (.getfield 183, 3) := by decide +kernel
theorem dX10_show_32 : decode prog_37_method_117_code 32 = .ok (.sipush 2410, 3) := by decide +kernel
theorem dX10_show_35 : decode prog_37_method_117_code 35 = .ok (.iload_n 1, 1) := by decide +kernel
theorem dX10_show_36 : decode prog_37_method_117_code 36 = .ok (.imul, 1) := by decide +kernel
theorem dX10_show_37 : decode prog_37_method_117_code 37 = .ok (.iaload, 1) := by decide +kernel
theorem dX10_show_38 : decode prog_37_method_117_code 38 = .ok (.ifCond .ne 22, 3) := by decide +kernel
theorem dX10_show_41 : decode prog_37_method_117_code 41 = .ok (.aload_n 0, 1) := by decide +kernel
theorem dX10_show_42 : decode prog_37_method_117_code 42 = .ok (.aload_n 0, 1) := by decide +kernel
theorem dX10_show_43 : decode prog_37_method_117_code 43 = .ok (.getfield 183, 3) := by decide +kernel
theorem dX10_show_46 : decode prog_37_method_117_code 46 = .ok (.sipush 2410, 3) := by decide +kernel
theorem dX10_show_49 : decode prog_37_method_117_code 49 = .ok (.iload_n 1, 1) := by decide +kernel
theorem dX10_show_50 : decode prog_37_method_117_code 50 = .ok (.imul, 1) := by decide +kernel
theorem dX10_show_51 : decode prog_37_method_117_code 51 = .ok (.iconst 1, 1) := by decide +kernel
theorem dX10_show_52 : decode prog_37_method_117_code 52 = .ok (.iadd, 1) := by decide +kernel
theorem dX10_show_53 : decode prog_37_method_117_code 53 = .ok (.iaload, 1) := by decide +kernel
theorem dX10_show_54 : decode prog_37_method_117_code 54 = .ok (.invokevirtual 601, 3) := by decide +kernel
theorem dX10_show_57 : decode prog_37_method_117_code 57 = .ok (.goto 12, 3) := by decide +kernel
theorem dX10_show_60 : decode prog_37_method_117_code 60 = .ok (.aload_n 0, 1) := by decide +kernel
theorem dX10_show_61 : decode prog_37_method_117_code 61 = .ok (.sipush 2410, 3) := by decide +kernel
theorem dX10_show_64 : decode prog_37_method_117_code 64 = .ok (.iload_n 1, 1) := by decide +kernel
theorem dX10_show_65 : decode prog_37_method_117_code 65 = .ok (.imul, 1) := by decide +kernel
theorem dX10_show_66 : decode prog_37_method_117_code 66 = .ok (.invokevirtual 604, 3) := by decide +kernel
theorem dX10_show_69 : decode prog_37_method_117_code 69 = .ok (.aload_n 0, 1) := by decide +kernel
theorem dX10_show_70 : decode prog_37_method_117_code 70 = .ok (.getfield 555, 3) := by decide +kernel
theorem dX10_show_73 : decode prog_37_method_117_code 73 = .ok (.ireturn, 1) := by decide +kernel
theorem dX10_isShelfAt_0 : decode prog_37_method_116_code 0 = .ok (.iload_n 0, 1) := by decide +kernel
theorem dX10_isShelfAt_1 : decode prog_37_method_116_code 1 = .ok (.ifCond .lt 13, 3) := by decide +kernel
theorem dX10_isShelfAt_4 : decode prog_37_method_116_code 4 = .ok (.iload_n 0, 1) := by decide +kernel
theorem dX10_isShelfAt_5 : decode prog_37_method_116_code 5 = .ok (.bipush 8, 2) := by decide +kernel
theorem dX10_isShelfAt_7 : decode prog_37_method_116_code 7 = .ok (.if_icmp .ge 7, 3) := by decide +kernel
theorem dX10_isShelfAt_10 : decode prog_37_method_116_code 10 = .ok (.iconst 1, 1) := by decide +kernel
theorem dX10_isShelfAt_11 : decode prog_37_method_116_code 11 = .ok (.goto 4, 3) := by decide +kernel
theorem dX10_isShelfAt_14 : decode prog_37_method_116_code 14 = .ok (.iconst 0, 1) := by decide +kernel
theorem dX10_isShelfAt_15 : decode prog_37_method_116_code 15 = .ok (.ireturn, 1) := by decide +kernel
theorem dX10_set_0 : decode prog_37_method_118_code 0 = .ok (.iload_n 1, 1) := by decide +kernel
theorem dX10_set_1 : decode prog_37_method_118_code 1 = .ok (.invokestatic 725, 3) := by decide +kernel
theorem dX10_set_4 : decode prog_37_method_118_code 4 = .ok (.ifCond .ne 5, 3) := by decide +kernel
theorem dX10_set_7 : decode prog_37_method_118_code 7 = .ok (.iconst 0, 1) := by decide +kernel
theorem dX10_set_8 : decode prog_37_method_118_code 8 = .ok (.ireturn, 1) := by decide +kernel
theorem dX10_set_9 : decode prog_37_method_118_code 9 = .ok (.aload_n 0, 1) := by decide +kernel
theorem dX10_set_10 : decode prog_37_method_118_code 10 = .ok (.iconst 0, 1) := by decide +kernel
theorem dX10_set_11 : decode prog_37_method_118_code 11 = .ok (.iload_n 2, 1) := by decide +kernel
theorem dX10_set_12 : decode prog_37_method_118_code 12 = .ok (.sipush 2410, 3) := by decide +kernel
theorem dX10_set_15 : decode prog_37_method_118_code 15 = .ok (.iload_n 1, 1) := by decide +kernel
theorem dX10_set_16 : decode prog_37_method_118_code 16 = .ok (.imul, 1) := by decide +kernel
theorem dX10_set_17 : decode prog_37_method_118_code 17 = .ok (.invokevirtual 495, 3) := by decide +kernel
theorem dX10_set_20 : decode prog_37_method_118_code 20 = .ok (.iconst 1, 1) := by decide +kernel
theorem dX10_set_21 : decode prog_37_method_118_code 21 = .ok (.ireturn, 1) := by decide +kernel
theorem dX10_add_0 : decode prog_37_method_119_code 0 = .ok (.iload_n 1, 1) := by decide +kernel
theorem dX10_add_1 : decode prog_37_method_119_code 1 = .ok (.invokestatic 725, 3) := by decide +kernel
theorem dX10_add_4 : decode prog_37_method_119_code 4 = .ok (.ifCond .ne 5, 3) := by decide +kernel
theorem dX10_add_7 : decode prog_37_method_119_code 7 = .ok (.iconst 0, 1) := by decide +kernel
theorem dX10_add_8 : decode prog_37_method_119_code 8 = .ok (.ireturn, 1) := by decide +kernel
theorem dX10_add_9 : decode prog_37_method_119_code 9 = .ok (.sipush 2410, 3) := by decide +kernel
theorem dX10_add_12 : decode prog_37_method_119_code 12 = .ok (.iload_n 1, 1) := by decide +kernel
theorem dX10_add_13 : decode prog_37_method_119_code 13 = .ok (.imul, 1) := by decide +kernel
theorem dX10_add_14 : decode prog_37_method_119_code 14 = .ok (.istore_n 3, 1) := by decide +kernel
theorem dX10_add_15 : decode prog_37_method_119_code 15 = .ok (.aload_n 0, 1) := by decide +kernel
theorem dX10_add_16 : decode prog_37_method_119_code 16 = .ok (.getfield 183, 3) := by decide +kernel
theorem dX10_add_19 : decode prog_37_method_119_code 19 = .ok (.iload_n 3, 1) := by decide +kernel
theorem dX10_add_20 : decode prog_37_method_119_code 20 = .ok (.iaload, 1) := by decide +kernel
theorem dX10_add_21 : decode prog_37_method_119_code 21 = .ok (.iconst 1, 1) := by decide +kernel
theorem dX10_add_22 : decode prog_37_method_119_code 22 = .ok (.if_icmp .eq 19, 3) := by decide +kernel
theorem dX10_add_25 : decode prog_37_method_119_code 25 = .ok (.aload_n 0, 1) := by decide +kernel
theorem dX10_add_26 : decode prog_37_method_119_code 26 = .ok (.getfield 183, 3) := by decide +kernel
theorem dX10_add_29 : decode prog_37_method_119_code 29 = .ok (.iload_n 3, 1) := by decide +kernel
theorem dX10_add_30 : decode prog_37_method_119_code 30 = .ok (.iconst 1, 1) := by decide +kernel
theorem dX10_add_31 : decode prog_37_method_119_code 31 = .ok (.iastore, 1) := by decide +kernel
theorem dX10_add_32 : decode prog_37_method_119_code 32 = .ok (.aload_n 0, 1) := by decide +kernel
theorem dX10_add_33 : decode prog_37_method_119_code 33 = .ok (.getfield 183, 3) := by decide +kernel
theorem dX10_add_36 : decode prog_37_method_119_code 36 = .ok (.iload_n 3, 1) := by decide +kernel
theorem dX10_add_37 : decode prog_37_method_119_code 37 = .ok (.iconst 1, 1) := by decide +kernel
theorem dX10_add_38 : decode prog_37_method_119_code 38 = .ok (.iadd, 1) := by decide +kernel
theorem dX10_add_39 : decode prog_37_method_119_code 39 = .ok (.iconst 0, 1) := by decide +kernel
theorem dX10_add_40 : decode prog_37_method_119_code 40 = .ok (.iastore, 1) := by decide +kernel
theorem dX10_add_41 : decode prog_37_method_119_code 41 = .ok (.aload_n 0, 1) := by decide +kernel
theorem dX10_add_42 : decode prog_37_method_119_code 42 = .ok (.iload_n 3, 1) := by decide +kernel
theorem dX10_add_43 : decode prog_37_method_119_code 43 = .ok (.invokevirtual 477, 3) := by decide +kernel
theorem dX10_add_46 : decode prog_37_method_119_code 46 = .ok (.bipush 64, 2) := by decide +kernel
theorem dX10_add_48 : decode prog_37_method_119_code 48 = .ok (.if_icmp .ne 5, 3) := by decide +kernel
theorem dX10_add_51 : decode prog_37_method_119_code 51 = .ok (.iconst 0, 1) := by decide +kernel
theorem dX10_add_52 : decode prog_37_method_119_code 52 = .ok (.ireturn, 1) := by decide +kernel
theorem dX10_add_53 : decode prog_37_method_119_code 53 = .ok (.aload_n 0, 1) := by decide +kernel
theorem dX10_add_54 : decode prog_37_method_119_code 54 = .ok (.getfield 183, 3) := by decide +kernel
theorem dX10_add_57 : decode prog_37_method_119_code 57 = .ok (.iload_n 3, 1) := by decide +kernel
theorem dX10_add_58 : decode prog_37_method_119_code 58 = .ok (.iconst 2, 1) := by decide +kernel
theorem dX10_add_59 : decode prog_37_method_119_code 59 = .ok (.iadd, 1) := by decide +kernel
theorem dX10_add_60 : decode prog_37_method_119_code 60 = .ok (.aload_n 0, 1) := by decide +kernel
theorem dX10_add_61 : decode prog_37_method_119_code 61 = .ok (.iload_n 3, 1) := by decide +kernel
theorem dX10_add_62 : decode prog_37_method_119_code 62 = .ok (.invokevirtual 477, 3) := by decide +kernel
theorem dX10_add_65 : decode prog_37_method_119_code 65 = .ok (.iadd, 1) := by decide +kernel
theorem dX10_add_66 : decode prog_37_method_119_code 66 = .ok (.iload_n 2, 1) := by decide +kernel
theorem dX10_add_67 : decode prog_37_method_119_code 67 = .ok (.iastore, 1) := by decide +kernel
theorem dX10_add_68 : decode prog_37_method_119_code 68 = .ok (.aload_n 0, 1) := by decide +kernel
theorem dX10_add_69 : decode prog_37_method_119_code 69 = .ok (.getfield 183, 3) := by decide +kernel
theorem dX10_add_72 : decode prog_37_method_119_code 72 = .ok (.iload_n 3, 1) := by decide +kernel
theorem dX10_add_73 : decode prog_37_method_119_code 73 = .ok (.iconst 1, 1) := by decide +kernel
theorem dX10_add_74 : decode prog_37_method_119_code 74 = .ok (.iadd, 1) := by decide +kernel
theorem dX10_add_75 : decode prog_37_method_119_code 75 = .ok (.dup2, 1) := by decide +kernel
theorem dX10_add_76 : decode prog_37_method_119_code 76 = .ok (.iaload, 1) := by decide +kernel
theorem dX10_add_77 : decode prog_37_method_119_code 77 = .ok (.iconst 1, 1) := by decide +kernel
theorem dX10_add_78 : decode prog_37_method_119_code 78 = .ok (.iadd, 1) := by decide +kernel
theorem dX10_add_79 : decode prog_37_method_119_code 79 = .ok (.iastore, 1) := by decide +kernel
theorem dX10_add_80 : decode prog_37_method_119_code 80 = .ok (.iconst 1, 1) := by decide +kernel
theorem dX10_add_81 : decode prog_37_method_119_code 81 = .ok (.ireturn, 1) := by decide +kernel
theorem dX10_clear_0 : decode prog_37_method_120_code 0 = .ok (.iload_n 1, 1) := by decide +kernel
theorem dX10_clear_1 : decode prog_37_method_120_code 1 = .ok (.invokestatic 725, 3) := by decide +kernel
theorem dX10_clear_4 : decode prog_37_method_120_code 4 = .ok (.ifCond .eq 17, 3) := by decide +kernel
theorem dX10_clear_7 : decode prog_37_method_120_code 7 = .ok (.aload_n 0, 1) := by decide +kernel
theorem dX10_clear_8 : decode prog_37_method_120_code 8 = .ok (.getfield 183, 3) := by decide +kernel
theorem dX10_clear_11 : decode prog_37_method_120_code 11 = .ok (.sipush 2410, 3) := by decide +kernel
theorem dX10_clear_14 : decode prog_37_method_120_code 14 = .ok (.iload_n 1, 1) := by decide +kernel
theorem dX10_clear_15 : decode prog_37_method_120_code 15 = .ok (.imul, 1) := by decide +kernel
theorem dX10_clear_16 : decode prog_37_method_120_code 16 = .ok (.iaload, 1) := by decide +kernel
theorem dX10_clear_17 : decode prog_37_method_120_code 17 = .ok (.iconst (-1), 1) := by decide +kernel
theorem dX10_clear_18 : decode prog_37_method_120_code 18 = .ok (.if_icmp .ne 5, 3) := by decide +kernel
theorem dX10_clear_21 : decode prog_37_method_120_code 21 = .ok (.iconst 0, 1) := by decide +kernel
theorem dX10_clear_22 : decode prog_37_method_120_code 22 = .ok (.ireturn, 1) := by decide +kernel
theorem dX10_clear_23 : decode prog_37_method_120_code 23 = .ok (.aload_n 0, 1) := by decide +kernel
theorem dX10_clear_24 : decode prog_37_method_120_code 24 = .ok (.getfield 183, 3) := by decide +kernel
theorem dX10_clear_27 : decode prog_37_method_120_code 27 = .ok (.sipush 2410, 3) := by decide +kernel
theorem dX10_clear_30 : decode prog_37_method_120_code 30 = .ok (.iload_n 1, 1) := by decide +kernel
theorem dX10_clear_31 : decode prog_37_method_120_code 31 = .ok (.imul, 1) := by decide +kernel
theorem dX10_clear_32 : decode prog_37_method_120_code 32 = .ok (.iconst (-1), 1) := by decide +kernel
theorem dX10_clear_33 : decode prog_37_method_120_code 33 = .ok (.iastore, 1) := by decide +kernel
theorem dX10_clear_34 : decode prog_37_method_120_code 34 = .ok (.iconst 1, 1) := by decide +kernel
theorem dX10_clear_35 : decode prog_37_method_120_code 35 = .ok (.ireturn, 1) := by decide +kernel
theorem dX10_kind_0 : decode prog_37_method_121_code 0 = .ok (.iload_n 1, 1) := by decide +kernel
theorem dX10_kind_1 : decode prog_37_method_121_code 1 = .ok (.invokestatic 725, 3) := by decide +kernel
theorem dX10_kind_4 : decode prog_37_method_121_code 4 = .ok (.ifCond .eq 16, 3) := by decide +kernel
theorem dX10_kind_7 : decode prog_37_method_121_code 7 = .ok (.aload_n 0, 1) := by decide +kernel
theorem dX10_kind_8 : decode prog_37_method_121_code 8 = .ok (.getfield 183, 3) := by decide +kernel
theorem dX10_kind_11 : decode prog_37_method_121_code 11 = .ok (.sipush 2410, 3) := by decide +kernel
theorem dX10_kind_14 : decode prog_37_method_121_code 14 = .ok (.iload_n 1, 1) := by decide +kernel
theorem dX10_kind_15 : decode prog_37_method_121_code 15 = .ok (.imul, 1) := by decide +kernel
theorem dX10_kind_16 : decode prog_37_method_121_code 16 = .ok (.iaload, 1) := by decide +kernel
theorem dX10_kind_17 : decode prog_37_method_121_code 17 = .ok (.goto 4, 3) := by decide +kernel
theorem dX10_kind_20 : decode prog_37_method_121_code 20 = .ok (.iconst (-1), 1) := by decide +kernel
theorem dX10_kind_21 : decode prog_37_method_121_code 21 = .ok (.ireturn, 1) := by decide +kernel
theorem dX10_size_0 : decode prog_37_method_122_code 0 = .ok (.aload_n 0, 1) := by decide +kernel
theorem dX10_size_1 : decode prog_37_method_122_code 1 = .ok (.iload_n 1, 1) := by decide +kernel
theorem dX10_size_2 : decode prog_37_method_122_code 2 = .ok (.invokevirtual 728, 3) := by decide +kernel
theorem dX10_size_5 : decode prog_37_method_122_code 5 = .ok (.istore_n 3, 1) := by decide +kernel
theorem dX10_size_6 : decode prog_37_method_122_code 6 = .ok (.iload_n 3, 1) := by decide +kernel
theorem dX10_size_7 : decode prog_37_method_122_code 7 = .ok (.ifCond .ge 5, 3) := by decide +kernel
theorem dX10_size_10 : decode prog_37_method_122_code 10 = .ok (.iconst (-1), 1) := by decide +kernel
theorem dX10_size_11 : decode prog_37_method_122_code 11 = .ok (.ireturn, 1) := by decide +kernel
theorem dX10_size_12 : decode prog_37_method_122_code 12 = .ok (.sipush 2410, 3) := by decide +kernel
theorem dX10_size_15 : decode prog_37_method_122_code 15 = .ok (.iload_n 1, 1) := by decide +kernel
theorem dX10_size_16 : decode prog_37_method_122_code 16 = .ok (.imul, 1) := by decide +kernel
theorem dX10_size_17 : decode prog_37_method_122_code 17 = .ok (.istore 4, 2) := by decide +kernel
theorem dX10_size_19 : decode prog_37_method_122_code 19 = .ok (.iload_n 2, 1) := by decide +kernel
theorem dX10_size_20 : decode prog_37_method_122_code 20 = .ok (.iconst (-1), 1) := by decide +kernel
theorem dX10_size_21 : decode prog_37_method_122_code 21 = .ok (.if_icmp .ne 18, 3) := by decide +kernel
theorem dX10_size_24 : decode prog_37_method_122_code 24 = .ok (.iload_n 3, 1) := by decide +kernel
theorem dX10_size_25 : decode prog_37_method_122_code 25 = .ok (.ifCond .ne 7, 3) := by decide +kernel
theorem dX10_size_28 : decode prog_37_method_122_code 28 = .ok (.iconst 0, 1) := by decide +kernel
theorem dX10_size_29 : decode prog_37_method_122_code 29 = .ok (.goto 9, 3) := by decide +kernel
theorem dX10_size_32 : decode prog_37_method_122_code 32 = .ok (.aload_n 0, 1) := by decide +kernel
theorem dX10_size_33 : decode prog_37_method_122_code 33 = .ok (.iload 4, 2) := by decide +kernel
theorem dX10_size_35 : decode prog_37_method_122_code 35 = .ok (.invokevirtual 477, 3) := by decide +kernel
theorem dX10_size_38 : decode prog_37_method_122_code 38 = .ok (.ireturn, 1) := by decide +kernel
theorem dX10_size_39 : decode prog_37_method_122_code 39 = .ok (.iload_n 3, 1) := by decide +kernel
theorem dX10_size_40 : decode prog_37_method_122_code 40 = .ok (.iconst 2, 1) := by decide +kernel
theorem dX10_size_41 : decode prog_37_method_122_code 41 = .ok (.if_icmp .lt 17, 3) := by decide +kernel
theorem dX10_size_44 : decode prog_37_method_122_code 44 = .ok (.iload_n 2, 1) := by decide +kernel
theorem dX10_size_45 : decode prog_37_method_122_code 45 = .ok (.ifCond .lt 13, 3) := by decide +kernel
theorem dX10_size_48 : decode prog_37_method_122_code 48 = .ok (.iload_n 2, 1) := by decide +kernel
theorem dX10_size_49 : decode prog_37_method_122_code 49 = .ok (.aload_n 0, 1) := by decide +kernel
theorem dX10_size_50 : decode prog_37_method_122_code 50 = .ok (.iload 4, 2) := by decide +kernel
theorem dX10_size_52 : decode prog_37_method_122_code 52 = .ok (.invokevirtual 477, 3) := by decide +kernel
theorem dX10_size_55 : decode prog_37_method_122_code 55 = .ok (.if_icmp .lt 5, 3) := by decide +kernel
theorem dX10_size_58 : decode prog_37_method_122_code 58 = .ok (.iconst (-1), 1) := by decide +kernel
theorem dX10_size_59 : decode prog_37_method_122_code 59 = .ok (.ireturn, 1) := by decide +kernel
theorem dX10_size_60 : decode prog_37_method_122_code 60 = .ok (.iload_n 3, 1) := by decide +kernel
theorem dX10_size_61 : decode prog_37_method_122_code 61 = .ok (.iconst 2, 1) := by decide +kernel
theorem dX10_size_62 : decode prog_37_method_122_code 62 = .ok (.if_icmp .ne 15, 3) := by decide +kernel
theorem dX10_size_65 : decode prog_37_method_122_code 65 = .ok (.aload_n 0, 1) := by decide +kernel
theorem dX10_size_66 : decode prog_37_method_122_code 66 = .ok (.aload_n 0, 1) := by decide +kernel
theorem dX10_size_67 : decode prog_37_method_122_code 67 = .ok (.iload 4, 2) := by decide +kernel
theorem dX10_size_69 : decode prog_37_method_122_code 69 = .ok (.iload_n 2, 1) := by decide +kernel
theorem dX10_size_70 : decode prog_37_method_122_code 70 = .ok (.invokevirtual 470, 3) := by decide +kernel
theorem dX10_size_73 : decode prog_37_method_122_code 73 = .ok (.invokevirtual 477, 3) := by decide +kernel
theorem dX10_size_76 : decode prog_37_method_122_code 76 = .ok (.ireturn, 1) := by decide +kernel
theorem dX10_size_77 : decode prog_37_method_122_code 77 = .ok (.aload_n 0, 1) := by decide +kernel
theorem dX10_size_78 : decode prog_37_method_122_code 78 = .ok (.iload 4, 2) := by decide +kernel
theorem dX10_size_80 : decode prog_37_method_122_code 80 = .ok (.iload_n 2, 1) := by decide +kernel
theorem dX10_size_81 : decode prog_37_method_122_code 81 = .ok (.invokevirtual 467, 3) := by decide +kernel
theorem dX10_size_84 : decode prog_37_method_122_code 84 = .ok (.ifCond .eq 7, 3) := by decide +kernel
theorem dX10_size_87 : decode prog_37_method_122_code 87 = .ok (.iconst 0, 1) := by decide +kernel
theorem dX10_size_88 : decode prog_37_method_122_code 88 = .ok (.goto 15, 3) := by decide +kernel
theorem dX10_size_91 : decode prog_37_method_122_code 91 = .ok (.aload_n 0, 1) := by decide +kernel
theorem dX10_size_92 : decode prog_37_method_122_code 92 = .ok (.getfield 183, 3) := by decide +kernel
theorem dX10_size_95 : decode prog_37_method_122_code 95 = .ok (.aload_n 0, 1) := by decide +kernel
theorem dX10_size_96 : decode prog_37_method_122_code 96 = .ok (.iload 4, 2) := by decide +kernel
theorem dX10_size_98 : decode prog_37_method_122_code 98 = .ok (.iload_n 2, 1) := by decide +kernel
theorem dX10_size_99 : decode prog_37_method_122_code 99 = .ok (.invokevirtual 470, 3) := by decide +kernel
theorem dX10_size_102 : decode prog_37_method_122_code 102 = .ok (.iaload, 1) := by decide +kernel
theorem dX10_size_103 : decode prog_37_method_122_code 103 = .ok (.ireturn, 1) := by decide +kernel
theorem dX10_cell_0 : decode prog_37_method_123_code 0 = .ok (.aload_n 0, 1) := by decide +kernel
theorem dX10_cell_1 : decode prog_37_method_123_code 1 = .ok (.iload_n 1, 1) := by decide +kernel
theorem dX10_cell_2 : decode prog_37_method_123_code 2 = .ok (.invokevirtual 728, 3) := by decide +kernel
theorem dX10_cell_5 : decode prog_37_method_123_code 5 = .ok (.istore 4, 2) := by decide +kernel
theorem dX10_cell_7 : decode prog_37_method_123_code 7 = .ok (.iload 4, 2) := by decide +kernel
theorem dX10_cell_9 : decode prog_37_method_123_code 9 = .ok (.ifCond .ge 5, 3) := by decide +kernel
theorem dX10_cell_12 : decode prog_37_method_123_code 12 = .ok (.iconst 0, 1) := by decide +kernel
theorem dX10_cell_13 : decode prog_37_method_123_code 13 = .ok (.ireturn, 1) := by decide +kernel
theorem dX10_cell_14 : decode prog_37_method_123_code 14 = .ok (.sipush 2410, 3) := by decide +kernel
theorem dX10_cell_17 : decode prog_37_method_123_code 17 = .ok (.iload_n 1, 1) := by decide +kernel
theorem dX10_cell_18 : decode prog_37_method_123_code 18 = .ok (.imul, 1) := by decide +kernel
theorem dX10_cell_19 : decode prog_37_method_123_code 19 = .ok (.istore 5, 2) := by decide +kernel
theorem dX10_cell_21 : decode prog_37_method_123_code 21 = .ok (.iload 4, 2) := by decide +kernel
theorem dX10_cell_23 : decode prog_37_method_123_code 23 = .ok (.ifCond .ne 13, 3) := by decide +kernel
theorem dX10_cell_26 : decode prog_37_method_123_code 26 = .ok (.aload_n 0, 1) := by decide +kernel
theorem dX10_cell_27 : decode prog_37_method_123_code 27 = .ok (.getfield 183, 3) := by decide +kernel
theorem dX10_cell_30 : decode prog_37_method_123_code 30 = .ok (.iload 5, 2) := by decide +kernel
theorem dX10_cell_32 : decode prog_37_method_123_code 32 = .ok (.iconst 1, 1) := by decide +kernel
theorem dX10_cell_33 : decode prog_37_method_123_code 33 = .ok (.iadd, 1) := by decide +kernel
theorem dX10_cell_34 : decode prog_37_method_123_code 34 = .ok (.iaload, 1) := by decide +kernel
theorem dX10_cell_35 : decode prog_37_method_123_code 35 = .ok (.ireturn, 1) := by decide +kernel
theorem dX10_cell_36 : decode prog_37_method_123_code 36 = .ok (.iload_n 2, 1) := by decide +kernel
theorem dX10_cell_37 : decode prog_37_method_123_code 37 = .ok (.ifCond .lt 13, 3) := by decide +kernel
theorem dX10_cell_40 : decode prog_37_method_123_code 40 = .ok (.iload_n 2, 1) := by decide +kernel
theorem dX10_cell_41 : decode prog_37_method_123_code 41 = .ok (.aload_n 0, 1) := by decide +kernel
theorem dX10_cell_42 : decode prog_37_method_123_code 42 = .ok (.iload 5, 2) := by decide +kernel
theorem dX10_cell_44 : decode prog_37_method_123_code 44 = .ok (.invokevirtual 477, 3) := by decide +kernel
theorem dX10_cell_47 : decode prog_37_method_123_code 47 = .ok (.if_icmp .lt 5, 3) := by decide +kernel
theorem dX10_cell_50 : decode prog_37_method_123_code 50 = .ok (.iconst 0, 1) := by decide +kernel
theorem dX10_cell_51 : decode prog_37_method_123_code 51 = .ok (.ireturn, 1) := by decide +kernel
theorem dX10_cell_52 : decode prog_37_method_123_code 52 = .ok (.iload 4, 2) := by decide +kernel
theorem dX10_cell_54 : decode prog_37_method_123_code 54 = .ok (.iconst 1, 1) := by decide +kernel
theorem dX10_cell_55 : decode prog_37_method_123_code 55 = .ok (.if_icmp .ne 15, 3) := by decide +kernel
theorem dX10_cell_58 : decode prog_37_method_123_code 58 = .ok (.aload_n 0, 1) := by decide +kernel
theorem dX10_cell_59 : decode prog_37_method_123_code 59 = .ok (.getfield 183, 3) := by decide +kernel
theorem dX10_cell_62 : decode prog_37_method_123_code 62 = .ok (.iload 5, 2) := by decide +kernel
theorem dX10_cell_64 : decode prog_37_method_123_code 64 = .ok (.iconst 2, 1) := by decide +kernel
theorem dX10_cell_65 : decode prog_37_method_123_code 65 = .ok (.iadd, 1) := by decide +kernel
theorem dX10_cell_66 : decode prog_37_method_123_code 66 = .ok (.iload_n 2, 1) := by decide +kernel
theorem dX10_cell_67 : decode prog_37_method_123_code 67 = .ok (.iadd, 1) := by decide +kernel
theorem dX10_cell_68 : decode prog_37_method_123_code 68 = .ok (.iaload, 1) := by decide +kernel
theorem dX10_cell_69 : decode prog_37_method_123_code 69 = .ok (.ireturn, 1) := by decide +kernel
theorem dX10_cell_70 : decode prog_37_method_123_code 70 = .ok (.iload 4, 2) := by decide +kernel
theorem dX10_cell_72 : decode prog_37_method_123_code 72 = .ok (.iconst 3, 1) := by decide +kernel
theorem dX10_cell_73 : decode prog_37_method_123_code 73 = .ok (.if_icmp .ne 27, 3) := by decide +kernel
theorem dX10_cell_76 : decode prog_37_method_123_code 76 = .ok (.aload_n 0, 1) := by decide +kernel
theorem dX10_cell_77 : decode prog_37_method_123_code 77 = .ok (.iload 5, 2) := by decide +kernel
theorem dX10_cell_79 : decode prog_37_method_123_code 79 = .ok (.iload_n 2, 1) := by decide +kernel
theorem dX10_cell_80 : decode prog_37_method_123_code 80 = .ok (.invokevirtual 467, 3) := by decide +kernel
theorem dX10_cell_83 : decode prog_37_method_123_code 83 = .ok (.ifCond .eq 17, 3) := by decide +kernel
theorem dX10_cell_86 : decode prog_37_method_123_code 86 = .ok (.aload_n 0, 1) := by decide +kernel
theorem dX10_cell_87 : decode prog_37_method_123_code 87 = .ok (.getfield 183, 3) := by decide +kernel
theorem dX10_cell_90 : decode prog_37_method_123_code 90 = .ok (.iload 5, 2) := by decide +kernel
theorem dX10_cell_92 : decode prog_37_method_123_code 92 = .ok (.iconst 3, 1) := by decide +kernel
theorem dX10_cell_93 : decode prog_37_method_123_code 93 = .ok (.iadd, 1) := by decide +kernel
theorem dX10_cell_94 : decode prog_37_method_123_code 94 = .ok (.iconst 2, 1) := by decide +kernel
theorem dX10_cell_95 : decode prog_37_method_123_code 95 = .ok (.iload_n 2, 1) := by decide +kernel
theorem dX10_cell_96 : decode prog_37_method_123_code 96 = .ok (.imul, 1) := by decide +kernel
theorem dX10_cell_97 : decode prog_37_method_123_code 97 = .ok (.iadd, 1) := by decide +kernel
theorem dX10_cell_98 : decode prog_37_method_123_code 98 = .ok (.iaload, 1) := by decide +kernel
theorem dX10_cell_99 : decode prog_37_method_123_code 99 = .ok (.ireturn, 1) := by decide +kernel
theorem dX10_cell_100 : decode prog_37_method_123_code 100 = .ok (.aload_n 0, 1) := by decide +kernel
theorem dX10_cell_101 : decode prog_37_method_123_code 101 = .ok (.iload 5, 2) := by decide +kernel
theorem dX10_cell_103 : decode prog_37_method_123_code 103 = .ok (.iload_n 2, 1) := by decide +kernel
theorem dX10_cell_104 : decode prog_37_method_123_code 104 = .ok (.invokevirtual 470, 3) := by decide +kernel
theorem dX10_cell_107 : decode prog_37_method_123_code 107 = .ok (.istore 6, 2) := by decide +kernel
theorem dX10_cell_109 : decode prog_37_method_123_code 109 = .ok (.aload_n 0, 1) := by decide +kernel
theorem dX10_cell_110 : decode prog_37_method_123_code 110 = .ok (.getfield 183, 3) := by decide +kernel
theorem dX10_cell_113 : decode prog_37_method_123_code 113 = .ok (.iload 6, 2) := by decide +kernel
theorem dX10_cell_115 : decode prog_37_method_123_code 115 = .ok (.iaload, 1) := by decide +kernel
theorem dX10_cell_116 : decode prog_37_method_123_code 116 = .ok (.iconst 1, 1) := by decide +kernel
theorem dX10_cell_117 : decode prog_37_method_123_code 117 = .ok (.if_icmp .ne 31, 3) := by decide +kernel
theorem dX10_cell_120 : decode prog_37_method_123_code 120 = .ok (.iload_n 3, 1) := by decide +kernel
theorem dX10_cell_121 : decode prog_37_method_123_code 121 = .ok (.ifCond .lt 27, 3) := by decide +kernel
theorem dX10_cell_124 : decode prog_37_method_123_code 124 = .ok (.iload_n 3, 1) := by decide +kernel
theorem dX10_cell_125 : decode prog_37_method_123_code 125 = .ok (.aload_n 0, 1) := by decide +kernel
theorem dX10_cell_126 : decode prog_37_method_123_code 126 = .ok (.iload 6, 2) := by decide +kernel
theorem dX10_cell_128 : decode prog_37_method_123_code 128 = .ok (.invokevirtual 477, 3) := by decide +kernel
theorem dX10_cell_131 : decode prog_37_method_123_code 131 = .ok (.if_icmp .ge 17, 3) := by decide +kernel
theorem dX10_cell_134 : decode prog_37_method_123_code 134 = .ok (.aload_n 0, 1) := by decide +kernel
theorem dX10_cell_135 : decode prog_37_method_123_code 135 = .ok (.getfield 183, 3) := by decide +kernel
theorem dX10_cell_138 : decode prog_37_method_123_code 138 = .ok (.iload 6, 2) := by decide +kernel
theorem dX10_cell_140 : decode prog_37_method_123_code 140 = .ok (.iconst 2, 1) := by decide +kernel
theorem dX10_cell_141 : decode prog_37_method_123_code 141 = .ok (.iadd, 1) := by decide +kernel
theorem dX10_cell_142 : decode prog_37_method_123_code 142 = .ok (.iload_n 3, 1) := by decide +kernel
theorem dX10_cell_143 : decode prog_37_method_123_code 143 = .ok (.iadd, 1) := by decide +kernel
theorem dX10_cell_144 : decode prog_37_method_123_code 144 = .ok (.iaload, 1) := by decide +kernel
theorem dX10_cell_145 : decode prog_37_method_123_code 145 = .ok (.goto 4, 3) := by decide +kernel
theorem dX10_cell_148 : decode prog_37_method_123_code 148 = .ok (.iconst 0, 1) := by decide +kernel
theorem dX10_cell_149 : decode prog_37_method_123_code 149 = .ok (.ireturn, 1) := by decide +kernel
theorem dX10_same_0 : decode prog_37_method_124_code 0 = .ok (.iload_n 1, 1) := by decide +kernel
theorem dX10_same_1 : decode prog_37_method_124_code 1 = .ok (.invokestatic 725, 3) := by decide +kernel
theorem dX10_same_4 : decode prog_37_method_124_code 4 = .ok (.ifCond .eq 10, 3) := by decide +kernel
theorem dX10_same_7 : decode prog_37_method_124_code 7 = .ok (.iload_n 2, 1) := by decide +kernel
theorem dX10_same_8 : decode prog_37_method_124_code 8 = .ok (.invokestatic 725, 3) := by decide +kernel
theorem dX10_same_11 : decode prog_37_method_124_code 11 = .ok (.ifCond .ne 5, 3) := by decide +kernel
theorem dX10_same_14 : decode prog_37_method_124_code 14 = .ok (.iconst 0, 1) := by decide +kernel
theorem dX10_same_15 : decode prog_37_method_124_code 15 = .ok (.ireturn, 1) := by decide +kernel
theorem dX10_same_16 : decode prog_37_method_124_code 16 = .ok (.sipush 2410, 3) := by decide +kernel
theorem dX10_same_19 : decode prog_37_method_124_code 19 = .ok (.iload_n 1, 1) := by decide +kernel
theorem dX10_same_20 : decode prog_37_method_124_code 20 = .ok (.imul, 1) := by decide +kernel
theorem dX10_same_21 : decode prog_37_method_124_code 21 = .ok (.istore_n 3, 1) := by decide +kernel
theorem dX10_same_22 : decode prog_37_method_124_code 22 = .ok (.sipush 2410, 3) := by decide +kernel
theorem dX10_same_25 : decode prog_37_method_124_code 25 = .ok (.iload_n 2, 1) := by decide +kernel
theorem dX10_same_26 : decode prog_37_method_124_code 26 = .ok (.imul, 1) := by decide +kernel
theorem dX10_same_27 : decode prog_37_method_124_code 27 = .ok (.istore 4, 2) := by decide +kernel
theorem dX10_same_29 : decode prog_37_method_124_code 29 = .ok (.aload_n 0, 1) := by decide +kernel
theorem dX10_same_30 : decode prog_37_method_124_code 30 = .ok (.getfield 183, 3) := by decide +kernel
theorem dX10_same_33 : decode prog_37_method_124_code 33 = .ok (.iload_n 3, 1) := by decide +kernel
theorem dX10_same_34 : decode prog_37_method_124_code 34 = .ok (.iaload, 1) := by decide +kernel
theorem dX10_same_35 : decode prog_37_method_124_code 35 = .ok (.ifCond .le 13, 3) := by decide +kernel
theorem dX10_same_38 : decode prog_37_method_124_code 38 = .ok (.aload_n 0, 1) := by decide +kernel
theorem dX10_same_39 : decode prog_37_method_124_code 39 = .ok (.getfield 183, 3) := by decide +kernel
theorem dX10_same_42 : decode prog_37_method_124_code 42 = .ok (.iload 4, 2) := by decide +kernel
theorem dX10_same_44 : decode prog_37_method_124_code 44 = .ok (.iaload, 1) := by decide +kernel
theorem dX10_same_45 : decode prog_37_method_124_code 45 = .ok (.ifCond .gt 54, 3) := by decide +kernel
theorem dX10_same_48 : decode prog_37_method_124_code 48 = .ok (.aload_n 0, 1) := by decide +kernel
theorem dX10_same_49 : decode prog_37_method_124_code 49 = .ok (.getfield 183, 3) := by decide +kernel
theorem dX10_same_52 : decode prog_37_method_124_code 52 = .ok (.iload_n 3, 1) := by decide +kernel
theorem dX10_same_53 : decode prog_37_method_124_code 53 = .ok (.iaload, 1) := by decide +kernel
theorem dX10_same_54 : decode prog_37_method_124_code 54 = .ok (.aload_n 0, 1) := by decide +kernel
theorem dX10_same_55 : decode prog_37_method_124_code 55 = .ok (.getfield 183, 3) := by decide +kernel
theorem dX10_same_58 : decode prog_37_method_124_code 58 = .ok (.iload 4, 2) := by decide +kernel
theorem dX10_same_60 : decode prog_37_method_124_code 60 = .ok (.iaload, 1) := by decide +kernel
theorem dX10_same_61 : decode prog_37_method_124_code 61 = .ok (.if_icmp .ne 36, 3) := by decide +kernel
theorem dX10_same_64 : decode prog_37_method_124_code 64 = .ok (.aload_n 0, 1) := by decide +kernel
theorem dX10_same_65 : decode prog_37_method_124_code 65 = .ok (.getfield 183, 3) := by decide +kernel
theorem dX10_same_68 : decode prog_37_method_124_code 68 = .ok (.iload_n 3, 1) := by decide +kernel
theorem dX10_same_69 : decode prog_37_method_124_code 69 = .ok (.iaload, 1) := by decide +kernel
theorem dX10_same_70 : decode prog_37_method_124_code 70 = .ok (.ifCond .lt 23, 3) := by decide +kernel
theorem dX10_same_73 : decode prog_37_method_124_code 73 = .ok (.aload_n 0, 1) := by decide +kernel
theorem dX10_same_74 : decode prog_37_method_124_code 74 = .ok (.getfield 183, 3) := by decide +kernel
theorem dX10_same_77 : decode prog_37_method_124_code 77 = .ok (.iload_n 3, 1) := by decide +kernel
theorem dX10_same_78 : decode prog_37_method_124_code 78 = .ok (.iconst 1, 1) := by decide +kernel
theorem dX10_same_79 : decode prog_37_method_124_code 79 = .ok (.iadd, 1) := by decide +kernel
theorem dX10_same_80 : decode prog_37_method_124_code 80 = .ok (.iaload, 1) := by decide +kernel
theorem dX10_same_81 : decode prog_37_method_124_code 81 = .ok (.aload_n 0, 1) := by decide +kernel
theorem dX10_same_82 : decode prog_37_method_124_code 82 = .ok (.getfield 183, 3) := by decide +kernel
theorem dX10_same_85 : decode prog_37_method_124_code 85 = .ok (.iload 4, 2) := by decide +kernel
theorem dX10_same_87 : decode prog_37_method_124_code 87 = .ok (.iconst 1, 1) := by decide +kernel
theorem dX10_same_88 : decode prog_37_method_124_code 88 = .ok (.iadd, 1) := by decide +kernel
theorem dX10_same_89 : decode prog_37_method_124_code 89 = .ok (.iaload, 1) := by decide +kernel
theorem dX10_same_90 : decode prog_37_method_124_code 90 = .ok (.if_icmp .ne 7, 3) := by decide +kernel
theorem dX10_same_93 : decode prog_37_method_124_code 93 = .ok (.iconst 1, 1) := by decide +kernel
theorem dX10_same_94 : decode prog_37_method_124_code 94 = .ok (.goto 4, 3) := by decide +kernel
theorem dX10_same_97 : decode prog_37_method_124_code 97 = .ok (.iconst 0, 1) := by decide +kernel
theorem dX10_same_98 : decode prog_37_method_124_code 98 = .ok (.ireturn, 1) := by decide +kernel
theorem dX10_same_99 : decode prog_37_method_124_code 99 = .ok (.aload_n 0, 1) := by decide +kernel
theorem dX10_same_100 : decode prog_37_method_124_code 100 = .ok (.iload_n 3, 1) := by decide +kernel
theorem dX10_same_101 : decode prog_37_method_124_code 101 = .ok (.iload 4, 2) := by decide +kernel
theorem dX10_same_103 : decode prog_37_method_124_code 103 = .ok (.invokevirtual 714, 3) := by decide +kernel
theorem dX10_same_106 : decode prog_37_method_124_code 106 = .ok (.ireturn, 1) := by decide +kernel
theorem dX10_mark_0 : decode prog_37_method_125_code 0 = .ok (.aload_n 0, 1) := by decide +kernel
theorem dX10_mark_1 : decode prog_37_method_125_code 1 = .ok (.getfield 730, 3) := by decide +kernel
theorem dX10_mark_4 : decode prog_37_method_125_code 4 = .ok (.bipush 6, 2) := by decide +kernel
theorem dX10_mark_6 : decode prog_37_method_125_code 6 = .ok (.if_icmp .ne 40, 3) := by decide +kernel
theorem dX10_mark_9 : decode prog_37_method_125_code 9 = .ok (.bipush 8, 2) := by decide +kernel
theorem dX10_mark_11 : decode prog_37_method_125_code 11 = .ok (.istore_n 1, 1) := by decide +kernel
theorem dX10_mark_12 : decode prog_37_method_125_code 12 = .ok (.iload_n 1, 1) := by decide +kernel
theorem dX10_mark_13 : decode prog_37_method_125_code 13 = .ok (.bipush 48, 2) := by decide +kernel
theorem dX10_mark_15 : decode prog_37_method_125_code 15 = .ok (.if_icmp .ge 26, 3) := by decide +kernel
theorem dX10_mark_18 : decode prog_37_method_125_code 18 = .ok (.aload_n 0, 1) := by decide +kernel
theorem dX10_mark_19 : decode prog_37_method_125_code 19 = .ok (.sipush 2410, 3) := by decide +kernel
theorem dX10_mark_22 : decode prog_37_method_125_code 22 = .ok (.iload_n 1, 1) := by decide +kernel
theorem dX10_mark_23 : decode prog_37_method_125_code 23 = .ok (.bipush 8, 2) := by decide +kernel
theorem dX10_mark_25 : decode prog_37_method_125_code 25 = .ok (.iadd, 1) := by decide +kernel
theorem dX10_mark_26 : decode prog_37_method_125_code 26 = .ok (.imul, 1) := by decide +kernel
theorem dX10_mark_27 : decode prog_37_method_125_code 27 = .ok (.sipush 2410, 3) := by decide +kernel
theorem dX10_mark_30 : decode prog_37_method_125_code 30 = .ok (.iload_n 1, 1) := by decide +kernel
theorem dX10_mark_31 : decode prog_37_method_125_code 31 = .ok (.imul, 1) := by decide +kernel
theorem dX10_mark_32 : decode prog_37_method_125_code 32 = .ok (.invokevirtual 570, 3) := by decide +kernel
theorem dX10_mark_35 : decode prog_37_method_125_code 35 = .ok (.iinc 1 1, 3) := by decide +kernel
theorem dX10_mark_38 : decode prog_37_method_125_code 38 = .ok (.goto (-26), 3) := by decide +kernel
theorem dX10_mark_41 : decode prog_37_method_125_code 41 = .ok (.aload_n 0, 1) := by decide +kernel
theorem dX10_mark_42 : decode prog_37_method_125_code 42 = .ok (.iconst 5, 1) := by decide +kernel
theorem dX10_mark_43 : decode prog_37_method_125_code 43 = .ok (.putfield 730, 3) := by decide +kernel
theorem dX10_mark_46 : decode prog_37_method_125_code 46 = .ok (.iconst 0, 1) := by decide +kernel
theorem dX10_mark_47 : decode prog_37_method_125_code 47 = .ok (.istore_n 1, 1) := by decide +kernel
theorem dX10_mark_48 : decode prog_37_method_125_code 48 = .ok (.iload_n 1, 1) := by decide +kernel
theorem dX10_mark_49 : decode prog_37_method_125_code 49 = .ok (.bipush 8, 2) := by decide +kernel
theorem dX10_mark_51 : decode prog_37_method_125_code 51 = .ok (.if_icmp .ge 34, 3) := by decide +kernel
theorem dX10_mark_54 : decode prog_37_method_125_code 54 = .ok (.aload_n 0, 1) := by decide +kernel
theorem dX10_mark_55 : decode prog_37_method_125_code 55 = .ok (.sipush 2410, 3) := by decide +kernel
theorem dX10_mark_58 : decode prog_37_method_125_code 58 = .ok (.iload_n 1, 1) := by decide +kernel
theorem dX10_mark_59 : decode prog_37_method_125_code 59 = .ok (.imul, 1) := by decide +kernel
theorem dX10_mark_60 : decode prog_37_method_125_code 60 = .ok (.sipush 2410, 3) := by decide +kernel
theorem dX10_mark_63 : decode prog_37_method_125_code 63 = .ok (.bipush 8, 2) := by decide +kernel
theorem dX10_mark_65 : decode prog_37_method_125_code 65 = .ok (.bipush 8, 2) := by decide +kernel
theorem dX10_mark_67 : decode prog_37_method_125_code 67 = .ok (.aload_n 0, 1) := by decide +kernel
theorem dX10_mark_68 : decode prog_37_method_125_code 68 = .ok (.getfield 730, 3) := by decide +kernel
theorem dX10_mark_71 : decode prog_37_method_125_code 71 = .ok (.imul, 1) := by decide +kernel
theorem dX10_mark_72 : decode prog_37_method_125_code 72 = .ok (.iadd, 1) := by decide +kernel
theorem dX10_mark_73 : decode prog_37_method_125_code 73 = .ok (.iload_n 1, 1) := by decide +kernel
theorem dX10_mark_74 : decode prog_37_method_125_code 74 = .ok (.iadd, 1) := by decide +kernel
theorem dX10_mark_75 : decode prog_37_method_125_code 75 = .ok (.imul, 1) := by decide +kernel
theorem dX10_mark_76 : decode prog_37_method_125_code 76 = .ok (.invokevirtual 570, 3) := by decide +kernel
theorem dX10_mark_79 : decode prog_37_method_125_code 79 = .ok (.iinc 1 1, 3) := by decide +kernel
theorem dX10_mark_82 : decode prog_37_method_125_code 82 = .ok (.goto (-34), 3) := by decide +kernel
theorem dX10_mark_85 : decode prog_37_method_125_code 85 = .ok (.aload_n 0, 1) := by decide +kernel
theorem dX10_mark_86 : decode prog_37_method_125_code 86 = .ok (.dup, 1) := by decide +kernel
theorem dX10_mark_87 : decode prog_37_method_125_code 87 = .ok (.getfield 730, 3) := by decide +kernel
theorem dX10_mark_90 : decode prog_37_method_125_code 90 = .ok (.iconst 1, 1) := by decide +kernel
theorem dX10_mark_91 : decode prog_37_method_125_code 91 = .ok (.iadd, 1) := by decide +kernel
theorem dX10_mark_92 : decode prog_37_method_125_code 92 = .ok (.putfield 730, 3) := by decide +kernel
theorem dX10_mark_95 : decode prog_37_method_125_code 95 = .ok (.aload_n 0, 1) := by decide +kernel
theorem dX10_mark_96 : decode prog_37_method_125_code 96 = .ok (.getfield 730, 3) := by decide +kernel
theorem dX10_mark_99 : decode prog_37_method_125_code 99 = .ok (.ireturn, 1) := by decide +kernel
theorem dX10_back_0 : decode prog_37_method_126_code 0 = .ok (.aload_n 0, 1) := by decide +kernel
theorem dX10_back_1 : decode prog_37_method_126_code 1 = .ok (.getfield 730, 3) := by decide +kernel
theorem dX10_back_4 : decode prog_37_method_126_code 4 = .ok (.ifCond .ne 5, 3) := by decide +kernel
theorem dX10_back_7 : decode prog_37_method_126_code 7 = .ok (.iconst 0, 1) := by decide +kernel
theorem dX10_back_8 : decode prog_37_method_126_code 8 = .ok (.ireturn, 1) := by decide +kernel
theorem dX10_back_9 : decode prog_37_method_126_code 9 = .ok (.aload_n 0, 1) := by decide +kernel
theorem dX10_back_10 : decode prog_37_method_126_code 10 = .ok (.dup, 1) := by decide +kernel
theorem dX10_back_11 : decode prog_37_method_126_code 11 = .ok (.getfield 730, 3) := by decide +kernel
theorem dX10_back_14 : decode prog_37_method_126_code 14 = .ok (.iconst 1, 1) := by decide +kernel
theorem dX10_back_15 : decode prog_37_method_126_code 15 = .ok (.isub, 1) := by decide +kernel
theorem dX10_back_16 : decode prog_37_method_126_code 16 = .ok (.putfield 730, 3) := by decide +kernel
theorem dX10_back_19 : decode prog_37_method_126_code 19 = .ok (.iconst 0, 1) := by decide +kernel
theorem dX10_back_20 : decode prog_37_method_126_code 20 = .ok (.istore_n 1, 1) := by decide +kernel
theorem dX10_back_21 : decode prog_37_method_126_code 21 = .ok (.iload_n 1, 1) := by decide +kernel
theorem dX10_back_22 : decode prog_37_method_126_code 22 = .ok (.bipush 8, 2) := by decide +kernel
theorem dX10_back_24 : decode prog_37_method_126_code 24 = .ok (.if_icmp .ge 34, 3) := by decide +kernel
theorem dX10_back_27 : decode prog_37_method_126_code 27 = .ok (.aload_n 0, 1) := by decide +kernel
theorem dX10_back_28 : decode prog_37_method_126_code 28 = .ok (.sipush 2410, 3) := by decide +kernel
theorem dX10_back_31 : decode prog_37_method_126_code 31 = .ok (.bipush 8, 2) := by decide +kernel
theorem dX10_back_33 : decode prog_37_method_126_code 33 = .ok (.bipush 8, 2) := by decide +kernel
theorem dX10_back_35 : decode prog_37_method_126_code 35 = .ok (.aload_n 0, 1) := by decide +kernel
theorem dX10_back_36 : decode prog_37_method_126_code 36 = .ok (.getfield 730, 3) := by decide +kernel
theorem dX10_back_39 : decode prog_37_method_126_code 39 = .ok (.imul, 1) := by decide +kernel
theorem dX10_back_40 : decode prog_37_method_126_code 40 = .ok (.iadd, 1) := by decide +kernel
theorem dX10_back_41 : decode prog_37_method_126_code 41 = .ok (.iload_n 1, 1) := by decide +kernel
theorem dX10_back_42 : decode prog_37_method_126_code 42 = .ok (.iadd, 1) := by decide +kernel
theorem dX10_back_43 : decode prog_37_method_126_code 43 = .ok (.imul, 1) := by decide +kernel
theorem dX10_back_44 : decode prog_37_method_126_code 44 = .ok (.sipush 2410, 3) := by decide +kernel
theorem dX10_back_47 : decode prog_37_method_126_code 47 = .ok (.iload_n 1, 1) := by decide +kernel
theorem dX10_back_48 : decode prog_37_method_126_code 48 = .ok (.imul, 1) := by decide +kernel
theorem dX10_back_49 : decode prog_37_method_126_code 49 = .ok (.invokevirtual 570, 3) := by decide +kernel
theorem dX10_back_52 : decode prog_37_method_126_code 52 = .ok (.iinc 1 1, 3) := by decide +kernel
theorem dX10_back_55 : decode prog_37_method_126_code 55 = .ok (.goto (-34), 3) := by decide +kernel
theorem dX10_back_58 : decode prog_37_method_126_code 58 = .ok (.iconst 1, 1) := by decide +kernel
theorem dX10_back_59 : decode prog_37_method_126_code 59 = .ok (.ireturn, 1) := by decide +kernel
theorem dX10_sum_0 : decode prog_37_method_131_code 0 = .ok (.aload_n 0, 1) := by decide +kernel
theorem dX10_sum_1 : decode prog_37_method_131_code 1 = .ok (.lconst 0, 1) := by decide +kernel
theorem dX10_sum_2 : decode prog_37_method_131_code 2 = .ok (.putfield 733, 3) := by decide +kernel
theorem dX10_sum_5 : decode prog_37_method_131_code 5 = .ok (.iconst 0, 1) := by decide +kernel
theorem dX10_sum_6 : decode prog_37_method_131_code 6 = .ok (.istore_n 1, 1) := by decide +kernel
theorem dX10_sum_7 : decode prog_37_method_131_code 7 = .ok (.iload_n 1, 1) := by decide +kernel
theorem dX10_sum_8 : decode prog_37_method_131_code 8 = .ok (.bipush 8, 2) := by decide +kernel
theorem dX10_sum_10 : decode prog_37_method_131_code 10 = .ok (.if_icmp .ge 77, 3) := by decide +kernel
theorem dX10_sum_13 : decode prog_37_method_131_code 13 = .ok (.aload_n 0, 1) := by decide +kernel
theorem dX10_sum_14 : decode prog_37_method_131_code 14 = .ok (.getfield 183, 3) := by decide +kernel
theorem dX10_sum_17 : decode prog_37_method_131_code 17 = .ok (.sipush 2410, 3) := by decide +kernel
theorem dX10_sum_20 : decode prog_37_method_131_code 20 = .ok (.iload_n 1, 1) := by decide +kernel
theorem dX10_sum_21 : decode prog_37_method_131_code 21 = .ok (.imul, 1) := by decide +kernel
theorem dX10_sum_22 : decode prog_37_method_131_code 22 = .ok (.iaload, 1) := by decide +kernel
theorem dX10_sum_23 : decode prog_37_method_131_code 23 = .ok (.iconst (-1), 1) := by decide +kernel
theorem dX10_sum_24 : decode prog_37_method_131_code 24 = .ok (.if_icmp .ne 11, 3) := by decide +kernel
theorem dX10_sum_27 : decode prog_37_method_131_code 27 = .ok (.aload_n 0, 1) := by decide +kernel
theorem dX10_sum_28 : decode prog_37_method_131_code 28 = .ok (.iconst (-1), 1) := by decide +kernel
theorem dX10_sum_29 : decode prog_37_method_131_code 29 = .ok (.invokevirtual 738, 3) := by decide +kernel
theorem dX10_sum_32 : decode prog_37_method_131_code 32 = .ok (.goto 49, 3) := by decide +kernel
theorem dX10_sum_35 : decode prog_37_method_131_code 35 = .ok (.aload_n 0, 1) := by decide +kernel
theorem dX10_sum_36 : decode prog_37_method_131_code 36 = .ok (.getfield 183, 3) := by decide +kernel
theorem dX10_sum_39 : decode prog_37_method_131_code 39 = .ok (.sipush 2410, 3) := by decide +kernel
theorem dX10_sum_42 : decode prog_37_method_131_code 42 = .ok (.iload_n 1, 1) := by decide +kernel
theorem dX10_sum_43 : decode prog_37_method_131_code 43 = .ok (.imul, 1) := by decide +kernel
theorem dX10_sum_44 : decode prog_37_method_131_code 44 = .ok (.iaload, 1) := by decide +kernel
theorem dX10_sum_45 : decode prog_37_method_131_code 45 = .ok (.ifCond .ne 27, 3) := by decide +kernel
theorem dX10_sum_48 : decode prog_37_method_131_code 48 = .ok (.aload_n 0, 1) := by decide +kernel
theorem dX10_sum_49 : decode prog_37_method_131_code 49 = .ok (.iconst 0, 1) := by decide +kernel
theorem dX10_sum_50 : decode prog_37_method_131_code 50 = .ok (.invokevirtual 738, 3) := by decide +kernel
theorem dX10_sum_53 : decode prog_37_method_131_code 53 = .ok (.aload_n 0, 1) := by decide +kernel
theorem dX10_sum_54 : decode prog_37_method_131_code 54 = .ok (.aload_n 0, 1) := by decide +kernel
theorem dX10_sum_55 : decode prog_37_method_131_code 55 = .ok (.getfield 183, 3) := by decide +kernel
theorem dX10_sum_58 : decode prog_37_method_131_code 58 = .ok (.sipush 2410, 3) := by decide +kernel
theorem dX10_sum_61 : decode prog_37_method_131_code 61 = .ok (.iload_n 1, 1) := by decide +kernel
theorem dX10_sum_62 : decode prog_37_method_131_code 62 = .ok (.imul, 1) := by decide +kernel
theorem dX10_sum_63 : decode prog_37_method_131_code 63 = .ok (.iconst 1, 1) := by decide +kernel
theorem dX10_sum_64 : decode prog_37_method_131_code 64 = .ok (.iadd, 1) := by decide +kernel
theorem dX10_sum_65 : decode prog_37_method_131_code 65 = .ok (.iaload, 1) := by decide +kernel
theorem dX10_sum_66 : decode prog_37_method_131_code 66 = .ok (.invokevirtual 738, 3) := by decide +kernel
theorem dX10_sum_69 : decode prog_37_method_131_code 69 = .ok (.goto 12, 3) := by decide +kernel
theorem dX10_sum_72 : decode prog_37_method_131_code 72 = .ok (.aload_n 0, 1) := by decide +kernel
theorem dX10_sum_73 : decode prog_37_method_131_code 73 = .ok (.sipush 2410, 3) := by decide +kernel
theorem dX10_sum_76 : decode prog_37_method_131_code 76 = .ok (.iload_n 1, 1) := by decide +kernel
theorem dX10_sum_77 : decode prog_37_method_131_code 77 = .ok (.imul, 1) := by decide +kernel
theorem dX10_sum_78 : decode prog_37_method_131_code 78 = .ok (.invokevirtual 747, 3) := by decide +kernel
theorem dX10_sum_81 : decode prog_37_method_131_code 81 = .ok (.iinc 1 1, 3) := by decide +kernel
theorem dX10_sum_84 : decode prog_37_method_131_code 84 = .ok (.goto (-77), 3) := by decide +kernel
theorem dX10_sum_87 : decode prog_37_method_131_code 87 = .ok (.aload_n 0, 1) := by decide +kernel
theorem dX10_sum_88 : decode prog_37_method_131_code 88 = .ok (.getfield 733, 3) := by decide +kernel
theorem dX10_sum_91 : decode prog_37_method_131_code 91 = .ok (.lreturn, 1) := by decide +kernel
theorem dX10_mix_0 : decode prog_37_method_127_code 0 = .ok (.aload_n 0, 1) := by decide +kernel
theorem dX10_mix_1 : decode prog_37_method_127_code 1 = .ok (.aload_n 0, 1) := by decide +kernel
theorem dX10_mix_2 : decode prog_37_method_127_code 2 = .ok (.getfield 733, 3) := by decide +kernel
theorem dX10_mix_5 : decode prog_37_method_127_code 5 = .ok (.ldc2_w 736, 3) := by decide +kernel
theorem dX10_mix_8 : decode prog_37_method_127_code 8 = .ok (.lmul, 1) := by decide +kernel
theorem dX10_mix_9 : decode prog_37_method_127_code 9 = .ok (.iload_n 1, 1) := by decide +kernel
theorem dX10_mix_10 : decode prog_37_method_127_code 10 = .ok (.i2l, 1) := by decide +kernel
theorem dX10_mix_11 : decode prog_37_method_127_code 11 = .ok (.lxor, 1) := by decide +kernel
theorem dX10_mix_12 : decode prog_37_method_127_code 12 = .ok (.putfield 733, 3) := by decide +kernel
theorem dX10_mix_15 : decode prog_37_method_127_code 15 = .ok (.return_, 1) := by decide +kernel
theorem dX10_mixThing_0 : decode prog_37_method_130_code 0 = .ok (.aload_n 0, 1) := by decide +kernel
theorem dX10_mixThing_1 : decode prog_37_method_130_code 1 = .ok (.getfield 183, 3) := by decide +kernel
theorem dX10_mixThing_4 : decode prog_37_method_130_code 4 = .ok (.iload_n 1, 1) := by decide +kernel
theorem dX10_mixThing_5 : decode prog_37_method_130_code 5 = .ok (.iaload, 1) := by decide +kernel
theorem dX10_mixThing_6 : decode prog_37_method_130_code 6 = .ok (.iconst 3, 1) := by decide +kernel
theorem dX10_mixThing_7 : decode prog_37_method_130_code 7 = .ok (.if_icmp .eq 9, 3) := by decide +kernel
theorem dX10_mixThing_10 : decode prog_37_method_130_code 10 = .ok (.aload_n 0, 1) := by decide +kernel
theorem dX10_mixThing_11 : decode prog_37_method_130_code 11 = .ok (.iload_n 1, 1) := by decide +kernel
theorem dX10_mixThing_12 : decode prog_37_method_130_code 12 = .ok (.invokevirtual 744, 3) := by decide +kernel
theorem dX10_mixThing_15 : decode prog_37_method_130_code 15 = .ok (.return_, 1) := by decide +kernel
theorem dX10_mixThing_16 : decode prog_37_method_130_code 16 = .ok (.aload_n 0, 1) := by decide +kernel
theorem dX10_mixThing_17 : decode prog_37_method_130_code 17 = .ok (.iconst 3, 1) := by decide +kernel
theorem dX10_mixThing_18 : decode prog_37_method_130_code 18 = .ok (.invokevirtual 738, 3) := by decide +kernel
theorem dX10_mixThing_21 : decode prog_37_method_130_code 21 = .ok (.aload_n 0, 1) := by decide +kernel
theorem dX10_mixThing_22 : decode prog_37_method_130_code 22 = .ok (.aload_n 0, 1) := by decide +kernel
theorem dX10_mixThing_23 : decode prog_37_method_130_code 23 = .ok (.iload_n 1, 1) := by decide +kernel
theorem dX10_mixThing_24 : decode prog_37_method_130_code 24 = .ok (.invokevirtual 477, 3) := by decide +kernel
theorem dX10_mixThing_27 : decode prog_37_method_130_code 27 = .ok (.invokevirtual 738, 3) := by decide +kernel
theorem dX10_mixThing_30 : decode prog_37_method_130_code 30 = .ok (.aload_n 0, 1) := by decide +kernel
theorem dX10_mixThing_31 : decode prog_37_method_130_code 31 = .ok (.iconst 0, 1) := by decide +kernel
theorem dX10_mixThing_32 : decode prog_37_method_130_code 32 = .ok (.putfield 474, 3) := by decide +kernel
theorem dX10_mixThing_35 : decode prog_37_method_130_code 35 = .ok (.aload_n 0, 1) := by decide +kernel
theorem dX10_mixThing_36 : decode prog_37_method_130_code 36 = .ok (.iload_n 1, 1) := by decide +kernel
theorem dX10_mixThing_37 : decode prog_37_method_130_code 37 = .ok (.iconst 0, 1) := by decide +kernel
theorem dX10_mixThing_38 : decode prog_37_method_130_code 38 = .ok (.invokevirtual 489, 3) := by decide +kernel
theorem dX10_mixThing_41 : decode prog_37_method_130_code 41 = .ok (.aload_n 0, 1) := by decide +kernel
theorem dX10_mixThing_42 : decode prog_37_method_130_code 42 = .ok (.getfield 474, 3) := by decide +kernel
theorem dX10_mixThing_45 : decode prog_37_method_130_code 45 = .ok (.ifCond .le 158, 3) := by decide +kernel
theorem dX10_mixThing_48 : decode prog_37_method_130_code 48 = .ok (.aload_n 0, 1) := by decide +kernel
theorem dX10_mixThing_49 : decode prog_37_method_130_code 49 = .ok (.getfield 192, 3) := by decide +kernel
theorem dX10_mixThing_52 : decode prog_37_method_130_code 52 = .ok (.aload_n 0, 1) := by decide +kernel
theorem dX10_mixThing_53 : decode prog_37_method_130_code 53 = .ok (.getfield 474, 3) := by decide +kernel
theorem dX10_mixThing_56 : decode prog_37_method_130_code 56 = .ok (.iconst 1, 1) := by decide +kernel
theorem dX10_mixThing_57 : decode prog_37_method_130_code 57 = .ok (.isub, 1) := by decide +kernel
theorem dX10_mixThing_58 : decode prog_37_method_130_code 58 = .ok (.iaload, 1) := by decide +kernel
theorem dX10_mixThing_59 : decode prog_37_method_130_code 59 = .ok (.istore_n 2, 1) := by decide +kernel
theorem dX10_mixThing_60 : decode prog_37_method_130_code 60 = .ok (.aload_n 0, 1) := by decide +kernel
theorem dX10_mixThing_61 : decode prog_37_method_130_code 61 = .ok (.getfield 198, 3) := by decide +kernel
theorem dX10_mixThing_64 : decode prog_37_method_130_code 64 = .ok (.aload_n 0, 1) := by decide +kernel
theorem dX10_mixThing_65 : decode prog_37_method_130_code 65 = .ok (.getfield 474, 3) := by decide +kernel
theorem dX10_mixThing_68 : decode prog_37_method_130_code 68 = .ok (.iconst 1, 1) := by decide +kernel
theorem dX10_mixThing_69 : decode prog_37_method_130_code 69 = .ok (.isub, 1) := by decide +kernel
theorem dX10_mixThing_70 : decode prog_37_method_130_code 70 = .ok (.iaload, 1) := by decide +kernel
theorem dX10_mixThing_71 : decode prog_37_method_130_code 71 = .ok (.istore_n 3, 1) := by decide +kernel
theorem dX10_mixThing_72 : decode prog_37_method_130_code 72 = .ok (.iload_n 3, 1) := by decide +kernel
theorem dX10_mixThing_73 : decode prog_37_method_130_code 73 = .ok (.aload_n 0, 1) := by decide +kernel
theorem dX10_mixThing_74 : decode prog_37_method_130_code 74 = .ok (.iload_n 2, 1) := by decide +kernel
theorem dX10_mixThing_75 : decode prog_37_method_130_code 75 = .ok (.invokevirtual 477, 3) := by decide +kernel
theorem dX10_mixThing_78 : decode prog_37_method_130_code 78 = .ok (.if_icmp .ne 16, 3) := by decide +kernel
theorem dX10_mixThing_81 : decode prog_37_method_130_code 81 = .ok (.aload_n 0, 1) := by decide +kernel
theorem dX10_mixThing_82 : decode prog_37_method_130_code 82 = .ok (.dup, 1) := by decide +kernel
theorem dX10_mixThing_83 : decode prog_37_method_130_code 83 = .ok (.getfield 474, 3) := by decide +kernel
theorem dX10_mixThing_86 : decode prog_37_method_130_code 86 = .ok (.iconst 1, 1) := by decide +kernel
theorem dX10_mixThing_87 : decode prog_37_method_130_code 87 = .ok (.isub, 1) := by decide +kernel
theorem dX10_mixThing_88 : decode prog_37_method_130_code 88 = .ok (.putfield 474, 3) := by decide +kernel
theorem dX10_mixThing_91 : decode prog_37_method_130_code 91 = .ok (.goto (-50), 3) := by decide +kernel
theorem dX10_mixThing_94 : decode prog_37_method_130_code 94 = .ok (.aload_n 0, 1) := by decide +kernel
theorem dX10_mixThing_95 : decode prog_37_method_130_code 95 = .ok (.getfield 198, 3) := by decide +kernel
theorem dX10_mixThing_98 : decode prog_37_method_130_code 98 = .ok (.aload_n 0, 1) := by decide +kernel
theorem dX10_mixThing_99 : decode prog_37_method_130_code 99 = .ok (.getfield 474, 3) := by decide +kernel
theorem dX10_mixThing_102 : decode prog_37_method_130_code 102 = .ok (.iconst 1, 1) := by decide +kernel
theorem dX10_mixThing_103 : decode prog_37_method_130_code 103 = .ok (.isub, 1) := by decide +kernel
theorem dX10_mixThing_104 : decode prog_37_method_130_code 104 = .ok (.dup2, 1) := by decide +kernel
theorem dX10_mixThing_105 : decode prog_37_method_130_code 105 = .ok (.iaload, 1) := by decide +kernel
theorem dX10_mixThing_106 : decode prog_37_method_130_code 106 = .ok (.iconst 1, 1) := by decide +kernel
theorem dX10_mixThing_107 : decode prog_37_method_130_code 107 = .ok (.iadd, 1) := by decide +kernel
theorem dX10_mixThing_108 : decode prog_37_method_130_code 108 = .ok (.iastore, 1) := by decide +kernel
theorem dX10_mixThing_109 : decode prog_37_method_130_code 109 = .ok (.aload_n 0, 1) := by decide +kernel
theorem dX10_mixThing_110 : decode prog_37_method_130_code 110 = .ok (.iload_n 2, 1) := by decide +kernel
theorem dX10_mixThing_111 : decode prog_37_method_130_code 111 = .ok (.iload_n 3, 1) := by decide +kernel
theorem dX10_mixThing_112 : decode prog_37_method_130_code 112 = .ok (.invokevirtual 467, 3) := by decide +kernel
theorem dX10_mixThing_115 : decode prog_37_method_130_code 115 = .ok (.ifCond .eq 27, 3) := by decide +kernel
theorem dX10_mixThing_118 : decode prog_37_method_130_code 118 = .ok (.aload_n 0, 1) := by decide +kernel
theorem dX10_mixThing_119 : decode prog_37_method_130_code 119 = .ok (.iconst 0, 1) := by decide +kernel
theorem dX10_mixThing_120 : decode prog_37_method_130_code 120 = .ok (.invokevirtual 738, 3) := by decide +kernel
theorem dX10_mixThing_123 : decode prog_37_method_130_code 123 = .ok (.aload_n 0, 1) := by decide +kernel
theorem dX10_mixThing_124 : decode prog_37_method_130_code 124 = .ok (.aload_n 0, 1) := by decide +kernel
theorem dX10_mixThing_125 : decode prog_37_method_130_code 125 = .ok (.getfield 183, 3) := by decide +kernel
theorem dX10_mixThing_128 : decode prog_37_method_130_code 128 = .ok (.iload_n 2, 1) := by decide +kernel
theorem dX10_mixThing_129 : decode prog_37_method_130_code 129 = .ok (.iconst 3, 1) := by decide +kernel
theorem dX10_mixThing_130 : decode prog_37_method_130_code 130 = .ok (.iadd, 1) := by decide +kernel
theorem dX10_mixThing_131 : decode prog_37_method_130_code 131 = .ok (.iconst 2, 1) := by decide +kernel
theorem dX10_mixThing_132 : decode prog_37_method_130_code 132 = .ok (.iload_n 3, 1) := by decide +kernel
theorem dX10_mixThing_133 : decode prog_37_method_130_code 133 = .ok (.imul, 1) := by decide +kernel
theorem dX10_mixThing_134 : decode prog_37_method_130_code 134 = .ok (.iadd, 1) := by decide +kernel
theorem dX10_mixThing_135 : decode prog_37_method_130_code 135 = .ok (.iaload, 1) := by decide +kernel
theorem dX10_mixThing_136 : decode prog_37_method_130_code 136 = .ok (.invokevirtual 738, 3) := by decide +kernel
theorem dX10_mixThing_139 : decode prog_37_method_130_code 139 = .ok (.goto 61, 3) := by decide +kernel
theorem dX10_mixThing_142 : decode prog_37_method_130_code 142 = .ok (.aload_n 0, 1) := by decide +kernel
theorem dX10_mixThing_143 : decode prog_37_method_130_code 143 = .ok (.getfield 183, 3) := by decide +kernel
theorem dX10_mixThing_146 : decode prog_37_method_130_code 146 = .ok (.aload_n 0, 1) := by decide +kernel
theorem dX10_mixThing_147 : decode prog_37_method_130_code 147 = .ok (.iload_n 2, 1) := by decide +kernel
theorem dX10_mixThing_148 : decode prog_37_method_130_code 148 = .ok (.iload_n 3, 1) := by decide +kernel
theorem dX10_mixThing_149 : decode prog_37_method_130_code 149 = .ok (.invokevirtual 470, 3) := by decide +kernel
theorem dX10_mixThing_152 : decode prog_37_method_130_code 152 = .ok (.iaload, 1) := by decide +kernel
theorem dX10_mixThing_153 : decode prog_37_method_130_code 153 = .ok (.iconst 3, 1) := by decide +kernel
theorem dX10_mixThing_154 : decode prog_37_method_130_code 154 = .ok (.if_icmp .ne 36, 3) := by decide +kernel
theorem dX10_mixThing_157 : decode prog_37_method_130_code 157 = .ok (.aload_n 0, 1) := by decide +kernel
theorem dX10_mixThing_158 : decode prog_37_method_130_code 158 = .ok (.iconst 3, 1) := by decide +kernel
theorem dX10_mixThing_159 : decode prog_37_method_130_code 159 = .ok (.invokevirtual 738, 3) := by decide +kernel
theorem dX10_mixThing_162 : decode prog_37_method_130_code 162 = .ok (.aload_n 0, 1) := by decide +kernel
theorem dX10_mixThing_163 : decode prog_37_method_130_code 163 = .ok (.aload_n 0, 1) := by decide +kernel
theorem dX10_mixThing_164 : decode prog_37_method_130_code 164 = .ok (.aload_n 0, 1) := by decide +kernel
theorem dX10_mixThing_165 : decode prog_37_method_130_code 165 = .ok (.iload_n 2, 1) := by decide +kernel
theorem dX10_mixThing_166 : decode prog_37_method_130_code 166 = .ok (.iload_n 3, 1) := by decide +kernel
theorem dX10_mixThing_167 : decode prog_37_method_130_code 167 = .ok (.invokevirtual 470, 3) := by decide +kernel
theorem dX10_mixThing_170 : decode prog_37_method_130_code 170 = .ok (.invokevirtual 477, 3) := by decide +kernel
theorem dX10_mixThing_173 : decode prog_37_method_130_code 173 = .ok (.invokevirtual 738, 3) := by decide +kernel
theorem dX10_mixThing_176 : decode prog_37_method_130_code 176 = .ok (.aload_n 0, 1) := by decide +kernel
theorem dX10_mixThing_177 : decode prog_37_method_130_code 177 = .ok (.aload_n 0, 1) := by decide +kernel
theorem dX10_mixThing_178 : decode prog_37_method_130_code 178 = .ok (.iload_n 2, 1) := by decide +kernel
theorem dX10_mixThing_179 : decode prog_37_method_130_code 179 = .ok (.iload_n 3, 1) := by decide +kernel
theorem dX10_mixThing_180 : decode prog_37_method_130_code 180 = .ok (.invokevirtual 470, 3) := by decide +kernel
theorem dX10_mixThing_183 : decode prog_37_method_130_code 183 = .ok (.iconst 0, 1) := by decide +kernel
theorem dX10_mixThing_184 : decode prog_37_method_130_code 184 = .ok (.invokevirtual 489, 3) := by decide +kernel
theorem dX10_mixThing_187 : decode prog_37_method_130_code 187 = .ok (.goto 13, 3) := by decide +kernel
theorem dX10_mixThing_190 : decode prog_37_method_130_code 190 = .ok (.aload_n 0, 1) := by decide +kernel
theorem dX10_mixThing_191 : decode prog_37_method_130_code 191 = .ok (.aload_n 0, 1) := by decide +kernel
theorem dX10_mixThing_192 : decode prog_37_method_130_code 192 = .ok (.iload_n 2, 1) := by decide +kernel
theorem dX10_mixThing_193 : decode prog_37_method_130_code 193 = .ok (.iload_n 3, 1) := by decide +kernel
theorem dX10_mixThing_194 : decode prog_37_method_130_code 194 = .ok (.invokevirtual 470, 3) := by decide +kernel
theorem dX10_mixThing_197 : decode prog_37_method_130_code 197 = .ok (.invokevirtual 744, 3) := by decide +kernel
theorem dX10_mixThing_200 : decode prog_37_method_130_code 200 = .ok (.goto (-159), 3) := by decide +kernel
theorem dX10_mixThing_203 : decode prog_37_method_130_code 203 = .ok (.return_, 1) := by decide +kernel
theorem dX10_mixPlain_0 : decode prog_37_method_129_code 0 = .ok (.aload_n 0, 1) := by decide +kernel
theorem dX10_mixPlain_1 : decode prog_37_method_129_code 1 = .ok (.aload_n 0, 1) := by decide +kernel
theorem dX10_mixPlain_2 : decode prog_37_method_129_code 2 = .ok (.getfield 183, 3) := by decide +kernel
theorem dX10_mixPlain_5 : decode prog_37_method_129_code 5 = .ok (.iload_n 1, 1) := by decide +kernel
theorem dX10_mixPlain_6 : decode prog_37_method_129_code 6 = .ok (.iaload, 1) := by decide +kernel
theorem dX10_mixPlain_7 : decode prog_37_method_129_code 7 = .ok (.invokevirtual 738, 3) := by decide +kernel
theorem dX10_mixPlain_10 : decode prog_37_method_129_code 10 = .ok (.aload_n 0, 1) := by decide +kernel
theorem dX10_mixPlain_11 : decode prog_37_method_129_code 11 = .ok (.getfield 183, 3) := by decide +kernel
theorem dX10_mixPlain_14 : decode prog_37_method_129_code 14 = .ok (.iload_n 1, 1) := by decide +kernel
theorem dX10_mixPlain_15 : decode prog_37_method_129_code 15 = .ok (.iaload, 1) := by decide +kernel
theorem dX10_mixPlain_16 : decode prog_37_method_129_code 16 = .ok (.iconst 1, 1) := by decide +kernel
theorem dX10_mixPlain_17 : decode prog_37_method_129_code 17 = .ok (.if_icmp .ne 9, 3) := by decide +kernel
theorem dX10_mixPlain_20 : decode prog_37_method_129_code 20 = .ok (.aload_n 0, 1) := by decide +kernel
theorem dX10_mixPlain_21 : decode prog_37_method_129_code 21 = .ok (.iload_n 1, 1) := by decide +kernel
theorem dX10_mixPlain_22 : decode prog_37_method_129_code 22 = .ok (.invokevirtual 741, 3) := by decide +kernel
theorem dX10_mixPlain_25 : decode prog_37_method_129_code 25 = .ok (.return_, 1) := by decide +kernel
theorem dX10_mixPlain_26 : decode prog_37_method_129_code 26 = .ok (.aload_n 0, 1) := by decide +kernel
theorem dX10_mixPlain_27 : decode prog_37_method_129_code 27 = .ok (.aload_n 0, 1) := by decide +kernel
theorem dX10_mixPlain_28 : decode prog_37_method_129_code 28 = .ok (.iload_n 1, 1) := by decide +kernel
theorem dX10_mixPlain_29 : decode prog_37_method_129_code 29 = .ok (.invokevirtual 477, 3) := by decide +kernel
theorem dX10_mixPlain_32 : decode prog_37_method_129_code 32 = .ok (.invokevirtual 738, 3) := by decide +kernel
theorem dX10_mixPlain_35 : decode prog_37_method_129_code 35 = .ok (.iconst 0, 1) := by decide +kernel
theorem dX10_mixPlain_36 : decode prog_37_method_129_code 36 = .ok (.istore_n 2, 1) := by decide +kernel
theorem dX10_mixPlain_37 : decode prog_37_method_129_code 37 = .ok (.iload_n 2, 1) := by decide +kernel
theorem dX10_mixPlain_38 : decode prog_37_method_129_code 38 = .ok (.aload_n 0, 1) := by decide +kernel
theorem dX10_mixPlain_39 : decode prog_37_method_129_code 39 = .ok (.iload_n 1, 1) := by decide +kernel
theorem dX10_mixPlain_40 : decode prog_37_method_129_code 40 = .ok (.invokevirtual 477, 3) := by decide +kernel
theorem dX10_mixPlain_43 : decode prog_37_method_129_code 43 = .ok (.if_icmp .ge 19, 3) := by decide +kernel
theorem dX10_mixPlain_46 : decode prog_37_method_129_code 46 = .ok (.aload_n 0, 1) := by decide +kernel
theorem dX10_mixPlain_47 : decode prog_37_method_129_code 47 = .ok (.aload_n 0, 1) := by decide +kernel
theorem dX10_mixPlain_48 : decode prog_37_method_129_code 48 = .ok (.iload_n 1, 1) := by decide +kernel
theorem dX10_mixPlain_49 : decode prog_37_method_129_code 49 = .ok (.iload_n 2, 1) := by decide +kernel
theorem dX10_mixPlain_50 : decode prog_37_method_129_code 50 = .ok (.invokevirtual 470, 3) := by decide +kernel
theorem dX10_mixPlain_53 : decode prog_37_method_129_code 53 = .ok (.invokevirtual 741, 3) := by decide +kernel
theorem dX10_mixPlain_56 : decode prog_37_method_129_code 56 = .ok (.iinc 2 1, 3) := by decide +kernel
theorem dX10_mixPlain_59 : decode prog_37_method_129_code 59 = .ok (.goto (-22), 3) := by decide +kernel
theorem dX10_mixPlain_62 : decode prog_37_method_129_code 62 = .ok (.return_, 1) := by decide +kernel
theorem dX10_mixRow_0 : decode prog_37_method_128_code 0 = .ok (.aload_n 0, 1) := by decide +kernel
theorem dX10_mixRow_1 : decode prog_37_method_128_code 1 = .ok (.aload_n 0, 1) := by decide +kernel
theorem dX10_mixRow_2 : decode prog_37_method_128_code 2 = .ok (.iload_n 1, 1) := by decide +kernel
theorem dX10_mixRow_3 : decode prog_37_method_128_code 3 = .ok (.invokevirtual 477, 3) := by decide +kernel
theorem dX10_mixRow_6 : decode prog_37_method_128_code 6 = .ok (.invokevirtual 738, 3) := by decide +kernel
theorem dX10_mixRow_9 : decode prog_37_method_128_code 9 = .ok (.iconst 0, 1) := by decide +kernel
theorem dX10_mixRow_10 : decode prog_37_method_128_code 10 = .ok (.istore_n 2, 1) := by decide +kernel
theorem dX10_mixRow_11 : decode prog_37_method_128_code 11 = .ok (.iload_n 2, 1) := by decide +kernel
theorem dX10_mixRow_12 : decode prog_37_method_128_code 12 = .ok (.aload_n 0, 1) := by decide +kernel
theorem dX10_mixRow_13 : decode prog_37_method_128_code 13 = .ok (.iload_n 1, 1) := by decide +kernel
theorem dX10_mixRow_14 : decode prog_37_method_128_code 14 = .ok (.invokevirtual 477, 3) := by decide +kernel
theorem dX10_mixRow_17 : decode prog_37_method_128_code 17 = .ok (.if_icmp .ge 23, 3) := by decide +kernel
theorem dX10_mixRow_20 : decode prog_37_method_128_code 20 = .ok (.aload_n 0, 1) := by decide +kernel
theorem dX10_mixRow_21 : decode prog_37_method_128_code 21 = .ok (.aload_n 0, 1) := by decide +kernel
theorem dX10_mixRow_22 : decode prog_37_method_128_code 22 = .ok (.getfield 183, 3) := by decide +kernel
theorem dX10_mixRow_25 : decode prog_37_method_128_code 25 = .ok (.iload_n 1, 1) := by decide +kernel
theorem dX10_mixRow_26 : decode prog_37_method_128_code 26 = .ok (.iconst 2, 1) := by decide +kernel
theorem dX10_mixRow_27 : decode prog_37_method_128_code 27 = .ok (.iadd, 1) := by decide +kernel
theorem dX10_mixRow_28 : decode prog_37_method_128_code 28 = .ok (.iload_n 2, 1) := by decide +kernel
theorem dX10_mixRow_29 : decode prog_37_method_128_code 29 = .ok (.iadd, 1) := by decide +kernel
theorem dX10_mixRow_30 : decode prog_37_method_128_code 30 = .ok (.iaload, 1) := by decide +kernel
theorem dX10_mixRow_31 : decode prog_37_method_128_code 31 = .ok (.invokevirtual 738, 3) := by decide +kernel
theorem dX10_mixRow_34 : decode prog_37_method_128_code 34 = .ok (.iinc 2 1, 3) := by decide +kernel
theorem dX10_mixRow_37 : decode prog_37_method_128_code 37 = .ok (.goto (-26), 3) := by decide +kernel
theorem dX10_mixRow_40 : decode prog_37_method_128_code 40 = .ok (.return_, 1) := by decide +kernel
