/-! weakest preconditions, methods with multianewarray; things with its negative way: printed by wpc.py -/
set_option maxRecDepth 100000
theorem dX6_grid_0 : decode prog_14_method_5_code 0 = .ok (.iload_n 1, 1) := by decide +kernel
theorem dX6_grid_1 : decode prog_14_method_5_code 1 = .ok (.bipush 20, 2) := by decide +kernel
theorem dX6_grid_3 : decode prog_14_method_5_code 3 = .ok (.if_icmp .gt 26, 3) := by decide +kernel
theorem dX6_grid_6 : decode prog_14_method_5_code 6 = .ok (.iload_n 2, 1) := by decide +kernel
theorem dX6_grid_7 : decode prog_14_method_5_code 7 = .ok (.bipush 64, 2) := by decide +kernel
theorem dX6_grid_9 : decode prog_14_method_5_code 9 = .ok (.if_icmp .gt 20, 3) := by decide +kernel
theorem dX6_grid_12 : decode prog_14_method_5_code 12 = .ok (.iload_n 1, 1) := by decide +kernel
theorem dX6_grid_13 : decode prog_14_method_5_code 13 = .ok (.ifCond .lt 26, 3) := by decide +kernel
theorem dX6_grid_16 : decode prog_14_method_5_code 16 = .ok (.iload_n 2, 1) := by decide +kernel
theorem dX6_grid_17 : decode prog_14_method_5_code 17 = .ok (.ifCond .lt 22, 3) := by decide +kernel
theorem dX6_grid_20 : decode prog_14_method_5_code 20 = .ok (.iload_n 1, 1) := by decide +kernel
theorem dX6_grid_21 : decode prog_14_method_5_code 21 = .ok (.iload_n 2, 1) := by decide +kernel
theorem dX6_grid_22 : decode prog_14_method_5_code 22 = .ok (.imul, 1) := by decide +kernel
theorem dX6_grid_23 : decode prog_14_method_5_code 23 = .ok (.sipush 200, 3) := by decide +kernel
theorem dX6_grid_26 : decode prog_14_method_5_code 26 = .ok (.if_icmp .le 13, 3) := by decide +kernel
theorem dX6_grid_29 : decode prog_14_method_5_code 29 = .ok (.aload_n 0, 1) := by decide +kernel
theorem dX6_grid_30 : decode prog_14_method_5_code 30 = .ok (.getfield 9, 3) := by decide +kernel
theorem dX6_grid_33 : decode prog_14_method_5_code 33 = .ok (.iconst 2, 1) := by decide +kernel
theorem dX6_grid_34 : decode prog_14_method_5_code 34 = .ok (.iload_n 3, 1) := by decide +kernel
theorem dX6_grid_35 : decode prog_14_method_5_code 35 = .ok (.invokevirtual 72, 3) := by decide +kernel
theorem dX6_grid_38 : decode prog_14_method_5_code 38 = .ok (.athrow, 1) := by decide +kernel
theorem dX6_grid_39 : decode prog_14_method_5_code 39 = .ok (.iload_n 1, 1) := by decide +kernel
theorem dX6_grid_40 : decode prog_14_method_5_code 40 = .ok (.iload_n 2, 1) := by decide +kernel
theorem dX6_grid_41 : decode prog_14_method_5_code 41 = .ok (.multianewarray 85 2, 4) := by decide +kernel
theorem dX6_grid_45 : decode prog_14_method_5_code 45 = .ok (.areturn, 1) := by decide +kernel
theorem dX6_grid_46 : decode prog_14_method_5_code 46 = .ok (.astore 4, 2) := by decide +kernel
theorem dX6_grid_48 : decode prog_14_method_5_code 48 = .ok (.aload_n 0, 1) := by decide +kernel
theorem dX6_grid_49 : decode prog_14_method_5_code 49 = .ok (.getfield 9, 3) := by decide +kernel
theorem dX6_grid_52 : decode prog_14_method_5_code 52 = .ok (.iconst 1, 1) := by decide +kernel
theorem dX6_grid_53 : decode prog_14_method_5_code 53 = .ok (.iload_n 3, 1) := by decide +kernel
theorem dX6_grid_54 : decode prog_14_method_5_code 54 = .ok (.invokevirtual 72, 3) := by decide +kernel
theorem dX6_grid_57 : decode prog_14_method_5_code 57 = .ok (.athrow, 1) := by decide +kernel
theorem dX7_stretch_0 : decode prog_35_method_19_code 0 = .ok (.aload_n 1, 1) := by decide +kernel
theorem dX7_stretch_1 : decode prog_35_method_19_code 1 = .ok (.invokevirtual 29, 3) := by decide +kernel
theorem dX7_stretch_4 : decode prog_35_method_19_code 4 = .ok (.istore 5, 2) := by decide +kernel
theorem dX7_stretch_6 : decode prog_35_method_19_code 6 = .ok (.aload_n 1, 1) := by decide +kernel
theorem dX7_stretch_7 : decode prog_35_method_19_code 7 = .ok (.instanceof 60, 3) := by decide +kernel
theorem dX7_stretch_10 : decode prog_35_method_19_code 10 = .ok (.ifCond .eq 74, 3) := by decide +kernel
theorem dX7_stretch_13 : decode prog_35_method_19_code 13 = .ok (.aload_n 1, 1) := by decide +kernel
theorem dX7_stretch_14 : decode prog_35_method_19_code 14 = .ok (.checkcast 60, 3) := by decide +kernel
theorem dX7_stretch_17 : decode prog_35_method_19_code 17 = .ok (.astore 6, 2) := by decide +kernel
theorem dX7_stretch_19 : decode prog_35_method_19_code 19 = .ok (.iload_n 3, 1) := by decide +kernel
theorem dX7_stretch_20 : decode prog_35_method_19_code 20 = .ok (.newarray .int, 2) := by decide +kernel
theorem dX7_stretch_22 : decode prog_35_method_19_code 22 = .ok (.astore 7, 2) := by decide +kernel
theorem dX7_stretch_24 : decode prog_35_method_19_code 24 = .ok (.iconst 0, 1) := by decide +kernel
theorem dX7_stretch_25 : decode prog_35_method_19_code 25 = .ok (.istore 8, 2) := by decide +kernel
theorem dX7_stretch_27 : decode prog_35_method_19_code 27 = .ok (.iload 8, 2) := by decide +kernel
theorem dX7_stretch_29 : decode prog_35_method_19_code 29 = .ok (.iload_n 3, 1) := by decide +kernel
theorem dX7_stretch_30 : decode prog_35_method_19_code 30 = .ok (.if_icmp .ge 44, 3) := by decide +kernel
theorem dX7_stretch_33 : decode prog_35_method_19_code 33 = .ok (.aload 7, 2) := by decide +kernel
theorem dX7_stretch_35 : decode prog_35_method_19_code 35 = .ok (.iload 8, 2) := by decide +kernel
theorem dX7_stretch_37 : decode prog_35_method_19_code 37 = .ok (.iload_n 2, 1) := by decide +kernel
theorem dX7_stretch_38 : decode prog_35_method_19_code 38 = .ok (.iload 8, 2) := by decide +kernel
theorem dX7_stretch_40 : decode prog_35_method_19_code 40 = .ok (.iadd, 1) := by decide +kernel
theorem dX7_stretch_41 : decode prog_35_method_19_code 41 = .ok (.ifCond .lt 12, 3) := by decide +kernel
theorem dX7_stretch_44 : decode prog_35_method_19_code 44 = .ok (.iload_n 2, 1) := by decide +kernel
theorem dX7_stretch_45 : decode prog_35_method_19_code 45 = .ok (.iload 8, 2) := by decide +kernel
theorem dX7_stretch_47 : decode prog_35_method_19_code 47 = .ok (.iadd, 1) := by decide +kernel
theorem dX7_stretch_48 : decode prog_35_method_19_code 48 = .ok (.iload 5, 2) := by decide +kernel
theorem dX7_stretch_50 : decode prog_35_method_19_code 50 = .ok (.if_icmp .lt 7, 3) := by decide +kernel
theorem dX7_stretch_53 : decode prog_35_method_19_code 53 = .ok (.iconst 0, 1) := by decide +kernel
theorem dX7_stretch_54 : decode prog_35_method_19_code 54 = .ok (.goto 13, 3) := by decide +kernel
theorem dX7_stretch_57 : decode prog_35_method_19_code 57 = .ok (.aload 6, 2) := by decide +kernel
theorem dX7_stretch_59 : decode prog_35_method_19_code 59 = .ok (.getfield 66, 3) := by decide +kernel
theorem dX7_stretch_62 : decode prog_35_method_19_code 62 = .ok (.iload_n 2, 1) := by decide +kernel
theorem dX7_stretch_63 : decode prog_35_method_19_code 63 = .ok (.iload 8, 2) := by decide +kernel
theorem dX7_stretch_65 : decode prog_35_method_19_code 65 = .ok (.iadd, 1) := by decide +kernel
theorem dX7_stretch_66 : decode prog_35_method_19_code 66 = .ok (.iaload, 1) := by decide +kernel
theorem dX7_stretch_67 : decode prog_35_method_19_code 67 = .ok (.iastore, 1) := by decide +kernel
theorem dX7_stretch_68 : decode prog_35_method_19_code 68 = .ok (.iinc 8 1, 3) := by decide +kernel
theorem dX7_stretch_71 : decode prog_35_method_19_code 71 = .ok (.goto (-44), 3) := by decide +kernel
theorem dX7_stretch_74 : decode prog_35_method_19_code 74 = .ok (.new 60, 3) := by decide +kernel
theorem dX7_stretch_77 : decode prog_35_method_19_code 77 = .ok (.dup, 1) := by decide +kernel
theorem dX7_stretch_78 : decode prog_35_method_19_code 78 = .ok (.aload 7, 2) := by decide +kernel
theorem dX7_stretch_80 : decode prog_35_method_19_code 80 = .ok (.invokespecial 74, 3) := by decide +kernel
theorem dX7_stretch_83 : decode prog_35_method_19_code 83 = .ok (.areturn, 1) := by decide +kernel
theorem dX7_stretch_84 : decode prog_35_method_19_code 84 = .ok (.aload_n 1, 1) := by decide +kernel
theorem dX7_stretch_85 : decode prog_35_method_19_code 85 = .ok (.instanceof 85, 3) := by decide +kernel
theorem dX7_stretch_88 : decode prog_35_method_19_code 88 = .ok (.ifCond .eq 73, 3) := by decide +kernel
theorem dX7_stretch_91 : decode prog_35_method_19_code 91 = .ok (.aload_n 1, 1) := by decide +kernel
theorem dX7_stretch_92 : decode prog_35_method_19_code 92 = .ok (.checkcast 85, 3) := by decide +kernel
theorem dX7_stretch_95 : decode prog_35_method_19_code 95 = .ok (.astore 6, 2) := by decide +kernel
theorem dX7_stretch_97 : decode prog_35_method_19_code 97 = .ok (.iload_n 3, 1) := by decide +kernel
theorem dX7_stretch_98 : decode prog_35_method_19_code 98 = .ok (.iconst 0, 1) := by decide +kernel
theorem dX7_stretch_99 : decode prog_35_method_19_code 99 = .ok (.multianewarray 231 2, 4) := by decide +kernel
theorem dX7_stretch_103 : decode prog_35_method_19_code 103 = .ok (.astore 7, 2) := by decide +kernel
theorem dX7_stretch_105 : decode prog_35_method_19_code 105 = .ok (.iconst 0, 1) := by decide +kernel
theorem dX7_stretch_106 : decode prog_35_method_19_code 106 = .ok (.istore 8, 2) := by decide +kernel
theorem dX7_stretch_108 : decode prog_35_method_19_code 108 = .ok (.iload 8, 2) := by decide +kernel
theorem dX7_stretch_110 : decode prog_35_method_19_code 110 = .ok (.iload_n 3, 1) := by decide +kernel
theorem dX7_stretch_111 : decode prog_35_method_19_code 111 = .ok (.if_icmp .ge 40, 3) := by decide +kernel
theorem dX7_stretch_114 : decode prog_35_method_19_code 114 = .ok (.iload_n 2, 1) := by decide +kernel
theorem dX7_stretch_115 : decode prog_35_method_19_code 115 = .ok (.iload 8, 2) := by decide +kernel
theorem dX7_stretch_117 : decode prog_35_method_19_code 117 = .ok (.iadd, 1) := by decide +kernel
theorem dX7_stretch_118 : decode prog_35_method_19_code 118 = .ok (.ifCond .lt 27, 3) := by decide +kernel
theorem dX7_stretch_121 : decode prog_35_method_19_code 121 = .ok (.iload_n 2, 1) := by decide +kernel
theorem dX7_stretch_122 : decode prog_35_method_19_code 122 = .ok (.iload 8, 2) := by decide +kernel
theorem dX7_stretch_124 : decode prog_35_method_19_code 124 = .ok (.iadd, 1) := by decide +kernel
theorem dX7_stretch_125 : decode prog_35_method_19_code 125 = .ok (.iload 5, 2) := by decide +kernel
theorem dX7_stretch_127 : decode prog_35_method_19_code 127 = .ok (.if_icmp .ge 18, 3) := by decide +kernel
theorem dX7_stretch_130 : decode prog_35_method_19_code 130 = .ok (.aload 7, 2) := by decide +kernel
theorem dX7_stretch_132 : decode prog_35_method_19_code 132 = .ok (.iload 8, 2) := by decide +kernel
theorem dX7_stretch_134 : decode prog_35_method_19_code 134 = .ok (.aload 6, 2) := by decide +kernel
theorem dX7_stretch_136 : decode prog_35_method_19_code 136 = .ok (.getfield 128, 3) := by decide +kernel
theorem dX7_stretch_139 : decode prog_35_method_19_code 139 = .ok (.iload_n 2, 1) := by decide +kernel
theorem dX7_stretch_140 : decode prog_35_method_19_code 140 = .ok (.iload 8, 2) := by decide +kernel
theorem dX7_stretch_142 : decode prog_35_method_19_code 142 = .ok (.iadd, 1) := by decide +kernel
theorem dX7_stretch_143 : decode prog_35_method_19_code 143 = .ok (.aaload, 1) := by decide +kernel
theorem dX7_stretch_144 : decode prog_35_method_19_code 144 = .ok (.aastore, 1) := by decide +kernel
theorem dX7_stretch_145 : decode prog_35_method_19_code 145 = .ok (.iinc 8 1, 3) := by decide +kernel
theorem dX7_stretch_148 : decode prog_35_method_19_code 148 = .ok (.goto (-40), 3) := by decide +kernel
theorem dX7_stretch_151 : decode prog_35_method_19_code 151 = .ok (.new 85, 3) := by decide +kernel
theorem dX7_stretch_154 : decode prog_35_method_19_code 154 = .ok (.dup, 1) := by decide +kernel
theorem dX7_stretch_155 : decode prog_35_method_19_code 155 = .ok (.aload 7, 2) := by decide +kernel
theorem dX7_stretch_157 : decode prog_35_method_19_code 157 = .ok (.invokespecial 91, 3) := by decide +kernel
theorem dX7_stretch_160 : decode prog_35_method_19_code 160 = .ok (.areturn, 1) := by decide +kernel
theorem dX7_stretch_161 : decode prog_35_method_19_code 161 = .ok (.iload_n 3, 1) := by decide +kernel
theorem dX7_stretch_162 : decode prog_35_method_19_code 162 = .ok (.anewarray 30, 3) := by decide +kernel
theorem dX7_stretch_165 : decode prog_35_method_19_code 165 = .ok (.astore 6, 2) := by decide +kernel
theorem dX7_stretch_167 : decode prog_35_method_19_code 167 = .ok (.iconst 0, 1) := by decide +kernel
theorem dX7_stretch_168 : decode prog_35_method_19_code 168 = .ok (.istore 7, 2) := by decide +kernel
theorem dX7_stretch_170 : decode prog_35_method_19_code 170 = .ok (.iload 7, 2) := by decide +kernel
theorem dX7_stretch_172 : decode prog_35_method_19_code 172 = .ok (.iload_n 3, 1) := by decide +kernel
theorem dX7_stretch_173 : decode prog_35_method_19_code 173 = .ok (.if_icmp .ge 53, 3) := by decide +kernel
theorem dX7_stretch_176 : decode prog_35_method_19_code 176 = .ok (.aload 6, 2) := by decide +kernel
theorem dX7_stretch_178 : decode prog_35_method_19_code 178 = .ok (.iload 7, 2) := by decide +kernel
theorem dX7_stretch_180 : decode prog_35_method_19_code 180 = .ok (.iload_n 2, 1) := by decide +kernel
theorem dX7_stretch_181 : decode prog_35_method_19_code 181 = .ok (.iload 7, 2) := by decide +kernel
theorem dX7_stretch_183 : decode prog_35_method_19_code 183 = .ok (.iadd, 1) := by decide +kernel
theorem dX7_stretch_184 : decode prog_35_method_19_code 184 = .ok (.ifCond .lt 12, 3) := by decide +kernel
theorem dX7_stretch_187 : decode prog_35_method_19_code 187 = .ok (.iload_n 2, 1) := by decide +kernel
theorem dX7_stretch_188 : decode prog_35_method_19_code 188 = .ok (.iload 7, 2) := by decide +kernel
theorem dX7_stretch_190 : decode prog_35_method_19_code 190 = .ok (.iadd, 1) := by decide +kernel
theorem dX7_stretch_191 : decode prog_35_method_19_code 191 = .ok (.iload 5, 2) := by decide +kernel
theorem dX7_stretch_193 : decode prog_35_method_19_code 193 = .ok (.if_icmp .lt 14, 3) := by decide +kernel
theorem dX7_stretch_196 : decode prog_35_method_19_code 196 = .ok (.new 195, 3) := by decide +kernel
theorem dX7_stretch_199 : decode prog_35_method_19_code 199 = .ok (.dup, 1) := by decide +kernel
theorem dX7_stretch_200 : decode prog_35_method_19_code 200 = .ok (.iconst 0, 1) := by decide +kernel
theorem dX7_stretch_201 : decode prog_35_method_19_code 201 = .ok (.invokespecial 232, 3) := by decide +kernel
theorem dX7_stretch_204 : decode prog_35_method_19_code 204 = .ok (.goto 15, 3) := by decide +kernel
theorem dX7_stretch_207 : decode prog_35_method_19_code 207 = .ok (.aload_n 1, 1) := by decide +kernel
theorem dX7_stretch_208 : decode prog_35_method_19_code 208 = .ok (.checkcast 170, 3) := by decide +kernel
theorem dX7_stretch_211 : decode prog_35_method_19_code 211 = .ok (.getfield 172, 3) := by decide +kernel
theorem dX7_stretch_214 : decode prog_35_method_19_code 214 = .ok (.iload_n 2, 1) := by decide +kernel
theorem dX7_stretch_215 : decode prog_35_method_19_code 215 = .ok (.iload 7, 2) := by decide +kernel
theorem dX7_stretch_217 : decode prog_35_method_19_code 217 = .ok (.iadd, 1) := by decide +kernel
theorem dX7_stretch_218 : decode prog_35_method_19_code 218 = .ok (.aaload, 1) := by decide +kernel
theorem dX7_stretch_219 : decode prog_35_method_19_code 219 = .ok (.aastore, 1) := by decide +kernel
theorem dX7_stretch_220 : decode prog_35_method_19_code 220 = .ok (.iinc 7 1, 3) := by decide +kernel
theorem dX7_stretch_223 : decode prog_35_method_19_code 223 = .ok (.goto (-53), 3) := by decide +kernel
theorem dX7_stretch_226 : decode prog_35_method_19_code 226 = .ok (.aload_n 0, 1) := by decide +kernel
theorem dX7_stretch_227 : decode prog_35_method_19_code 227 = .ok (.getfield 9, 3) := by decide +kernel
theorem dX7_stretch_230 : decode prog_35_method_19_code 230 = .ok (.getfield 177, 3) := by decide +kernel
theorem dX7_stretch_233 : decode prog_35_method_19_code 233 = .ok (.aload 6, 2) := by decide +kernel
theorem dX7_stretch_235 : decode prog_35_method_19_code 235 = .ok (.iload 4, 2) := by decide +kernel
theorem dX7_stretch_237 : decode prog_35_method_19_code 237 = .ok (.invokevirtual 227, 3) := by decide +kernel
theorem dX7_stretch_240 : decode prog_35_method_19_code 240 = .ok (.areturn, 1) := by decide +kernel
set_option maxHeartbeats 16000000 in
theorem vX6_grid_0 {l : Launch} {E : EN} {w : CO} {d : Nat} {s : CS} {f : RH} {Q : KO → CS → RH → Prop} {x1 : Int32} {x2 : Int32} {x3 : Int32}  (hT : ((20 < x1 → (EvC l E w d MX3_wrong [.ref (w.1 3), .int 2, .int x3] s f (fun o s1 f2 => KP o (fun r => r = some (.ref (w.1 9)) ∧ Q (.inr 9) s1 f2) (fun k => Q (.inr k) s1 f2)))) ∧ (¬ 20 < x1 → ((64 < x2 → (EvC l E w d MX3_wrong [.ref (w.1 3), .int 2, .int x3] s f (fun o s3 f4 => KP o (fun r => r = some (.ref (w.1 9)) ∧ Q (.inr 9) s3 f4) (fun k => Q (.inr k) s3 f4)))) ∧ (¬ 64 < x2 → ((x1 < 0 → ((x1 < 0 → (rmF E f 3 222 ∧ (∀ (a8 : Nat) (f7 : RH), f7 = fexc f → (EvC l E w d MX3_wrong [.ref (w.1 3), .int 1, .int x3] s f7 (fun o s9 f10 => KP o (fun r => r = some (.ref (w.1 9)) ∧ Q (.inr 9) s9 f10) (fun k => Q (.inr k) s9 f10)))))) ∧ (¬ x1 < 0 → ((x2 < 0 → (x1.toNatClampNeg ≤ 1000 ∧ ∀ f11 : RH, f11 = fnewA f 11 x1.toNatClampNeg → (rmF E f11 3 222 ∧ (∀ (a13 : Nat) (f12 : RH), f12 = fexc f11 → (EvC l E w d MX3_wrong [.ref (w.1 3), .int 1, .int x3] s f12 (fun o s14 f15 => KP o (fun r => r = some (.ref (w.1 9)) ∧ Q (.inr 9) s14 f15) (fun k => Q (.inr k) s14 f15))))))) ∧ (¬ x2 < 0 → (x1.toNatClampNeg ≤ 1000 ∧ x2.toNatClampNeg ≤ 1000 ∧ rmF E f (1 + x1.toNatClampNeg) (x1.toNatClampNeg + x1.toNatClampNeg * x2.toNatClampNeg + x2.toNatClampNeg) ∧ ∀ (a5 : Nat) (f6 : RH), a5 = f.1 → f6 = fmu f x1.toNatClampNeg x2.toNatClampNeg x1.toNatClampNeg → Q (.inl (some (.ref a5))) s f6)))))) ∧ (¬ x1 < 0 → ((x2 < 0 → ((x1 < 0 → (rmF E f 3 222 ∧ (∀ (a19 : Nat) (f18 : RH), f18 = fexc f → (EvC l E w d MX3_wrong [.ref (w.1 3), .int 1, .int x3] s f18 (fun o s20 f21 => KP o (fun r => r = some (.ref (w.1 9)) ∧ Q (.inr 9) s20 f21) (fun k => Q (.inr k) s20 f21)))))) ∧ (¬ x1 < 0 → ((x2 < 0 → (x1.toNatClampNeg ≤ 1000 ∧ ∀ f22 : RH, f22 = fnewA f 11 x1.toNatClampNeg → (rmF E f22 3 222 ∧ (∀ (a24 : Nat) (f23 : RH), f23 = fexc f22 → (EvC l E w d MX3_wrong [.ref (w.1 3), .int 1, .int x3] s f23 (fun o s25 f26 => KP o (fun r => r = some (.ref (w.1 9)) ∧ Q (.inr 9) s25 f26) (fun k => Q (.inr k) s25 f26))))))) ∧ (¬ x2 < 0 → (x1.toNatClampNeg ≤ 1000 ∧ x2.toNatClampNeg ≤ 1000 ∧ rmF E f (1 + x1.toNatClampNeg) (x1.toNatClampNeg + x1.toNatClampNeg * x2.toNatClampNeg + x2.toNatClampNeg) ∧ ∀ (a16 : Nat) (f17 : RH), a16 = f.1 → f17 = fmu f x1.toNatClampNeg x2.toNatClampNeg x1.toNatClampNeg → Q (.inl (some (.ref a16))) s f17)))))) ∧ (¬ x2 < 0 → (((x1 * x2) ≤ 200 → ((x1 < 0 → (rmF E f 3 222 ∧ (∀ (a30 : Nat) (f29 : RH), f29 = fexc f → (EvC l E w d MX3_wrong [.ref (w.1 3), .int 1, .int x3] s f29 (fun o s31 f32 => KP o (fun r => r = some (.ref (w.1 9)) ∧ Q (.inr 9) s31 f32) (fun k => Q (.inr k) s31 f32)))))) ∧ (¬ x1 < 0 → ((x2 < 0 → (x1.toNatClampNeg ≤ 1000 ∧ ∀ f33 : RH, f33 = fnewA f 11 x1.toNatClampNeg → (rmF E f33 3 222 ∧ (∀ (a35 : Nat) (f34 : RH), f34 = fexc f33 → (EvC l E w d MX3_wrong [.ref (w.1 3), .int 1, .int x3] s f34 (fun o s36 f37 => KP o (fun r => r = some (.ref (w.1 9)) ∧ Q (.inr 9) s36 f37) (fun k => Q (.inr k) s36 f37))))))) ∧ (¬ x2 < 0 → (x1.toNatClampNeg ≤ 1000 ∧ x2.toNatClampNeg ≤ 1000 ∧ rmF E f (1 + x1.toNatClampNeg) (x1.toNatClampNeg + x1.toNatClampNeg * x2.toNatClampNeg + x2.toNatClampNeg) ∧ ∀ (a27 : Nat) (f28 : RH), a27 = f.1 → f28 = fmu f x1.toNatClampNeg x2.toNatClampNeg x1.toNatClampNeg → Q (.inl (some (.ref a27))) s f28)))))) ∧ (¬ (x1 * x2) ≤ 200 → (EvC l E w d MX3_wrong [.ref (w.1 3), .int 2, .int x3] s f (fun o s38 f39 => KP o (fun r => r = some (.ref (w.1 9)) ∧ Q (.inr 9) s38 f39) (fun k => Q (.inr k) s38 f39)))))))))))))) : ExC l E w (d + 1) MX6_grid 0 [some (.ref (w.1 6)), some (.int x1), some (.int x2), some (.int x3), none] [] s f Q := by
  intro f0 h hW hF
  refine x_iload_n dX6_grid_0 rfl rfl ?_
  refine x_bipush (v := 20) dX6_grid_1 rfl ?_
  refine x_icmp_gt (tgt := 29) dX6_grid_3 rfl (fun c => ?_) (fun c => ?_)
  · replace hT := hT.1 c
    refine x_aload_n dX6_grid_29 rfl rfl rfl ?_
    refine c_getO dX6_grid_30 f_TallySlate_Maker_9 (by decide) (by decide) rfl hW ?_
    refine x_iconst (v := 2) dX6_grid_33 rfl ?_
    refine x_iload_n dX6_grid_34 rfl rfl ?_
    obtain ⟨-, -, cc, hcc, -⟩ := hW.ob 3 (by decide)
    refine c_invV (vs := [.int 2, .int x3]) dX6_grid_35 oX3_wrong q1323 q1550 hcc q1324 (Or.inl rfl) rfl rfl (Nat.le_of_ble_eq_true rfl) rfl hW hF hT ?_ ?_
    · intro _ s1 f2 hT h hW hF
      obtain ⟨rfl, hT⟩ := hT
      refine x_athrow dX6_grid_38 ?_
      exact c_out (hsr_skip (by decide) (rfl)) hW (Or.inl ⟨rfl, rfl⟩) hF hT
    · intro k s1 f2 hT h a hW hx hF
      exact c_out (hsr_skip (by decide) (rfl)) hW hx hF hT
  · replace hT := hT.2 c
    refine x_iload_n dX6_grid_6 rfl rfl ?_
    refine x_bipush (v := 64) dX6_grid_7 rfl ?_
    refine x_icmp_gt (tgt := 29) dX6_grid_9 rfl (fun c => ?_) (fun c => ?_)
    · replace hT := hT.1 c
      refine x_aload_n dX6_grid_29 rfl rfl rfl ?_
      refine c_getO dX6_grid_30 f_TallySlate_Maker_9 (by decide) (by decide) rfl hW ?_
      refine x_iconst (v := 2) dX6_grid_33 rfl ?_
      refine x_iload_n dX6_grid_34 rfl rfl ?_
      obtain ⟨-, -, cc, hcc, -⟩ := hW.ob 3 (by decide)
      refine c_invV (vs := [.int 2, .int x3]) dX6_grid_35 oX3_wrong q1323 q1550 hcc q1324 (Or.inl rfl) rfl rfl (Nat.le_of_ble_eq_true rfl) rfl hW hF hT ?_ ?_
      · intro _ s3 f4 hT h hW hF
        obtain ⟨rfl, hT⟩ := hT
        refine x_athrow dX6_grid_38 ?_
        exact c_out (hsr_skip (by decide) (rfl)) hW (Or.inl ⟨rfl, rfl⟩) hF hT
      · intro k s3 f4 hT h a hW hx hF
        exact c_out (hsr_skip (by decide) (rfl)) hW hx hF hT
    · replace hT := hT.2 c
      refine x_iload_n dX6_grid_12 rfl rfl ?_
      refine x_if_lt (tgt := 39) dX6_grid_13 rfl (fun c => ?_) (fun c => ?_)
      · replace hT := hT.1 c
        refine x_iload_n dX6_grid_39 rfl rfl ?_
        refine x_iload_n dX6_grid_40 rfl rfl ?_
        by_cases hn : x1 < 0
        · obtain ⟨hr, hT⟩ := hT.1 hn
          refine c_multiX1 dX6_grid_41 q1729 hn hr (Nat.le_of_ble_eq_true rfl) rfl hW hF ?_
          intro f7 ef7 h a8 hW hx hF
          replace hT := hT a8 f7 ef7
          refine c_catch (hsr_yes (by decide) (by decide) q1704 (Or.inl rfl)) hW hx ?_
          refine x_astore (lo' := [some (.ref (w.1 6)), some (.int x1), some (.int x2), some (.int x3), some (.ref a8)]) dX6_grid_46 (Nat.le_of_ble_eq_true rfl) rfl rfl ?_
          refine x_aload_n dX6_grid_48 rfl rfl rfl ?_
          refine c_getO dX6_grid_49 f_TallySlate_Maker_9 (by decide) (by decide) rfl hW ?_
          refine x_iconst (v := 1) dX6_grid_52 rfl ?_
          refine x_iload_n dX6_grid_53 rfl rfl ?_
          obtain ⟨-, -, cc, hcc, -⟩ := hW.ob 3 (by decide)
          refine c_invV (vs := [.int 1, .int x3]) dX6_grid_54 oX3_wrong q1323 q1550 hcc q1324 (Or.inl rfl) rfl rfl (Nat.le_of_ble_eq_true rfl) rfl hW hF hT ?_ ?_
          · intro _ s9 f10 hT h hW hF
            obtain ⟨rfl, hT⟩ := hT
            refine x_athrow dX6_grid_57 ?_
            exact c_out (hsr_skip (by decide) (rfl)) hW (Or.inl ⟨rfl, rfl⟩) hF hT
          · intro k s9 f10 hT h a hW hx hF
            exact c_out (hsr_skip (by decide) (rfl)) hW hx hF hT
        · replace hT := hT.2 hn
          by_cases hn2 : x2 < 0
          · obtain ⟨hb, hT⟩ := hT.1 hn2
            obtain ⟨f11, ef11⟩ : ∃ z, z = fnewA f 11 x1.toNatClampNeg := ⟨_, rfl⟩
            obtain ⟨hr, hT⟩ := hT f11 ef11
            refine c_multiX2 dX6_grid_41 q1729 hn hn2 hb ef11 hr (Nat.le_of_ble_eq_true rfl) rfl hW hF ?_
            intro f12 ef12 h a13 hW hx hF
            replace hT := hT a13 f12 ef12
            refine c_catch (hsr_yes (by decide) (by decide) q1704 (Or.inl rfl)) hW hx ?_
            refine x_astore (lo' := [some (.ref (w.1 6)), some (.int x1), some (.int x2), some (.int x3), some (.ref a13)]) dX6_grid_46 (Nat.le_of_ble_eq_true rfl) rfl rfl ?_
            refine x_aload_n dX6_grid_48 rfl rfl rfl ?_
            refine c_getO dX6_grid_49 f_TallySlate_Maker_9 (by decide) (by decide) rfl hW ?_
            refine x_iconst (v := 1) dX6_grid_52 rfl ?_
            refine x_iload_n dX6_grid_53 rfl rfl ?_
            obtain ⟨-, -, cc, hcc, -⟩ := hW.ob 3 (by decide)
            refine c_invV (vs := [.int 1, .int x3]) dX6_grid_54 oX3_wrong q1323 q1550 hcc q1324 (Or.inl rfl) rfl rfl (Nat.le_of_ble_eq_true rfl) rfl hW hF hT ?_ ?_
            · intro _ s14 f15 hT h hW hF
              obtain ⟨rfl, hT⟩ := hT
              refine x_athrow dX6_grid_57 ?_
              exact c_out (hsr_skip (by decide) (rfl)) hW (Or.inl ⟨rfl, rfl⟩) hF hT
            · intro k s14 f15 hT h a hW hx hF
              exact c_out (hsr_skip (by decide) (rfl)) hW hx hF hT
          · replace hT := hT.2 hn2
            obtain ⟨hb, hb2, hr, hT⟩ := hT
            refine c_multiG dX6_grid_41 q1729 hn hn2 hb hb2 hr hW hF ?_
            intro a5 f6 ea5 ef6 h hW hF
            replace hT := hT a5 f6 ea5 ef6
            exact x_aret dX6_grid_45 rfl (by first | exact Or.inl ⟨_, rfl⟩ | exact Or.inr ⟨_, rfl⟩) rfl ⟨_, _, hW, hF, Or.inl ⟨_, rfl, hT⟩⟩
      · replace hT := hT.2 c
        refine x_iload_n dX6_grid_16 rfl rfl ?_
        refine x_if_lt (tgt := 39) dX6_grid_17 rfl (fun c => ?_) (fun c => ?_)
        · replace hT := hT.1 c
          refine x_iload_n dX6_grid_39 rfl rfl ?_
          refine x_iload_n dX6_grid_40 rfl rfl ?_
          by_cases hn : x1 < 0
          · obtain ⟨hr, hT⟩ := hT.1 hn
            refine c_multiX1 dX6_grid_41 q1729 hn hr (Nat.le_of_ble_eq_true rfl) rfl hW hF ?_
            intro f18 ef18 h a19 hW hx hF
            replace hT := hT a19 f18 ef18
            refine c_catch (hsr_yes (by decide) (by decide) q1704 (Or.inl rfl)) hW hx ?_
            refine x_astore (lo' := [some (.ref (w.1 6)), some (.int x1), some (.int x2), some (.int x3), some (.ref a19)]) dX6_grid_46 (Nat.le_of_ble_eq_true rfl) rfl rfl ?_
            refine x_aload_n dX6_grid_48 rfl rfl rfl ?_
            refine c_getO dX6_grid_49 f_TallySlate_Maker_9 (by decide) (by decide) rfl hW ?_
            refine x_iconst (v := 1) dX6_grid_52 rfl ?_
            refine x_iload_n dX6_grid_53 rfl rfl ?_
            obtain ⟨-, -, cc, hcc, -⟩ := hW.ob 3 (by decide)
            refine c_invV (vs := [.int 1, .int x3]) dX6_grid_54 oX3_wrong q1323 q1550 hcc q1324 (Or.inl rfl) rfl rfl (Nat.le_of_ble_eq_true rfl) rfl hW hF hT ?_ ?_
            · intro _ s20 f21 hT h hW hF
              obtain ⟨rfl, hT⟩ := hT
              refine x_athrow dX6_grid_57 ?_
              exact c_out (hsr_skip (by decide) (rfl)) hW (Or.inl ⟨rfl, rfl⟩) hF hT
            · intro k s20 f21 hT h a hW hx hF
              exact c_out (hsr_skip (by decide) (rfl)) hW hx hF hT
          · replace hT := hT.2 hn
            by_cases hn2 : x2 < 0
            · obtain ⟨hb, hT⟩ := hT.1 hn2
              obtain ⟨f22, ef22⟩ : ∃ z, z = fnewA f 11 x1.toNatClampNeg := ⟨_, rfl⟩
              obtain ⟨hr, hT⟩ := hT f22 ef22
              refine c_multiX2 dX6_grid_41 q1729 hn hn2 hb ef22 hr (Nat.le_of_ble_eq_true rfl) rfl hW hF ?_
              intro f23 ef23 h a24 hW hx hF
              replace hT := hT a24 f23 ef23
              refine c_catch (hsr_yes (by decide) (by decide) q1704 (Or.inl rfl)) hW hx ?_
              refine x_astore (lo' := [some (.ref (w.1 6)), some (.int x1), some (.int x2), some (.int x3), some (.ref a24)]) dX6_grid_46 (Nat.le_of_ble_eq_true rfl) rfl rfl ?_
              refine x_aload_n dX6_grid_48 rfl rfl rfl ?_
              refine c_getO dX6_grid_49 f_TallySlate_Maker_9 (by decide) (by decide) rfl hW ?_
              refine x_iconst (v := 1) dX6_grid_52 rfl ?_
              refine x_iload_n dX6_grid_53 rfl rfl ?_
              obtain ⟨-, -, cc, hcc, -⟩ := hW.ob 3 (by decide)
              refine c_invV (vs := [.int 1, .int x3]) dX6_grid_54 oX3_wrong q1323 q1550 hcc q1324 (Or.inl rfl) rfl rfl (Nat.le_of_ble_eq_true rfl) rfl hW hF hT ?_ ?_
              · intro _ s25 f26 hT h hW hF
                obtain ⟨rfl, hT⟩ := hT
                refine x_athrow dX6_grid_57 ?_
                exact c_out (hsr_skip (by decide) (rfl)) hW (Or.inl ⟨rfl, rfl⟩) hF hT
              · intro k s25 f26 hT h a hW hx hF
                exact c_out (hsr_skip (by decide) (rfl)) hW hx hF hT
            · replace hT := hT.2 hn2
              obtain ⟨hb, hb2, hr, hT⟩ := hT
              refine c_multiG dX6_grid_41 q1729 hn hn2 hb hb2 hr hW hF ?_
              intro a16 f17 ea16 ef17 h hW hF
              replace hT := hT a16 f17 ea16 ef17
              exact x_aret dX6_grid_45 rfl (by first | exact Or.inl ⟨_, rfl⟩ | exact Or.inr ⟨_, rfl⟩) rfl ⟨_, _, hW, hF, Or.inl ⟨_, rfl, hT⟩⟩
        · replace hT := hT.2 c
          refine x_iload_n dX6_grid_20 rfl rfl ?_
          refine x_iload_n dX6_grid_21 rfl rfl ?_
          refine x_imul dX6_grid_22 ?_
          refine x_sipush (v := 200) dX6_grid_23 rfl ?_
          refine x_icmp_le (tgt := 39) dX6_grid_26 rfl (fun c => ?_) (fun c => ?_)
          · replace hT := hT.1 c
            refine x_iload_n dX6_grid_39 rfl rfl ?_
            refine x_iload_n dX6_grid_40 rfl rfl ?_
            by_cases hn : x1 < 0
            · obtain ⟨hr, hT⟩ := hT.1 hn
              refine c_multiX1 dX6_grid_41 q1729 hn hr (Nat.le_of_ble_eq_true rfl) rfl hW hF ?_
              intro f29 ef29 h a30 hW hx hF
              replace hT := hT a30 f29 ef29
              refine c_catch (hsr_yes (by decide) (by decide) q1704 (Or.inl rfl)) hW hx ?_
              refine x_astore (lo' := [some (.ref (w.1 6)), some (.int x1), some (.int x2), some (.int x3), some (.ref a30)]) dX6_grid_46 (Nat.le_of_ble_eq_true rfl) rfl rfl ?_
              refine x_aload_n dX6_grid_48 rfl rfl rfl ?_
              refine c_getO dX6_grid_49 f_TallySlate_Maker_9 (by decide) (by decide) rfl hW ?_
              refine x_iconst (v := 1) dX6_grid_52 rfl ?_
              refine x_iload_n dX6_grid_53 rfl rfl ?_
              obtain ⟨-, -, cc, hcc, -⟩ := hW.ob 3 (by decide)
              refine c_invV (vs := [.int 1, .int x3]) dX6_grid_54 oX3_wrong q1323 q1550 hcc q1324 (Or.inl rfl) rfl rfl (Nat.le_of_ble_eq_true rfl) rfl hW hF hT ?_ ?_
              · intro _ s31 f32 hT h hW hF
                obtain ⟨rfl, hT⟩ := hT
                refine x_athrow dX6_grid_57 ?_
                exact c_out (hsr_skip (by decide) (rfl)) hW (Or.inl ⟨rfl, rfl⟩) hF hT
              · intro k s31 f32 hT h a hW hx hF
                exact c_out (hsr_skip (by decide) (rfl)) hW hx hF hT
            · replace hT := hT.2 hn
              by_cases hn2 : x2 < 0
              · obtain ⟨hb, hT⟩ := hT.1 hn2
                obtain ⟨f33, ef33⟩ : ∃ z, z = fnewA f 11 x1.toNatClampNeg := ⟨_, rfl⟩
                obtain ⟨hr, hT⟩ := hT f33 ef33
                refine c_multiX2 dX6_grid_41 q1729 hn hn2 hb ef33 hr (Nat.le_of_ble_eq_true rfl) rfl hW hF ?_
                intro f34 ef34 h a35 hW hx hF
                replace hT := hT a35 f34 ef34
                refine c_catch (hsr_yes (by decide) (by decide) q1704 (Or.inl rfl)) hW hx ?_
                refine x_astore (lo' := [some (.ref (w.1 6)), some (.int x1), some (.int x2), some (.int x3), some (.ref a35)]) dX6_grid_46 (Nat.le_of_ble_eq_true rfl) rfl rfl ?_
                refine x_aload_n dX6_grid_48 rfl rfl rfl ?_
                refine c_getO dX6_grid_49 f_TallySlate_Maker_9 (by decide) (by decide) rfl hW ?_
                refine x_iconst (v := 1) dX6_grid_52 rfl ?_
                refine x_iload_n dX6_grid_53 rfl rfl ?_
                obtain ⟨-, -, cc, hcc, -⟩ := hW.ob 3 (by decide)
                refine c_invV (vs := [.int 1, .int x3]) dX6_grid_54 oX3_wrong q1323 q1550 hcc q1324 (Or.inl rfl) rfl rfl (Nat.le_of_ble_eq_true rfl) rfl hW hF hT ?_ ?_
                · intro _ s36 f37 hT h hW hF
                  obtain ⟨rfl, hT⟩ := hT
                  refine x_athrow dX6_grid_57 ?_
                  exact c_out (hsr_skip (by decide) (rfl)) hW (Or.inl ⟨rfl, rfl⟩) hF hT
                · intro k s36 f37 hT h a hW hx hF
                  exact c_out (hsr_skip (by decide) (rfl)) hW hx hF hT
              · replace hT := hT.2 hn2
                obtain ⟨hb, hb2, hr, hT⟩ := hT
                refine c_multiG dX6_grid_41 q1729 hn hn2 hb hb2 hr hW hF ?_
                intro a27 f28 ea27 ef28 h hW hF
                replace hT := hT a27 f28 ea27 ef28
                exact x_aret dX6_grid_45 rfl (by first | exact Or.inl ⟨_, rfl⟩ | exact Or.inr ⟨_, rfl⟩) rfl ⟨_, _, hW, hF, Or.inl ⟨_, rfl, hT⟩⟩
          · replace hT := hT.2 c
            refine x_aload_n dX6_grid_29 rfl rfl rfl ?_
            refine c_getO dX6_grid_30 f_TallySlate_Maker_9 (by decide) (by decide) rfl hW ?_
            refine x_iconst (v := 2) dX6_grid_33 rfl ?_
            refine x_iload_n dX6_grid_34 rfl rfl ?_
            obtain ⟨-, -, cc, hcc, -⟩ := hW.ob 3 (by decide)
            refine c_invV (vs := [.int 2, .int x3]) dX6_grid_35 oX3_wrong q1323 q1550 hcc q1324 (Or.inl rfl) rfl rfl (Nat.le_of_ble_eq_true rfl) rfl hW hF hT ?_ ?_
            · intro _ s38 f39 hT h hW hF
              obtain ⟨rfl, hT⟩ := hT
              refine x_athrow dX6_grid_38 ?_
              exact c_out (hsr_skip (by decide) (rfl)) hW (Or.inl ⟨rfl, rfl⟩) hF hT
            · intro k s38 f39 hT h a hW hx hF
              exact c_out (hsr_skip (by decide) (rfl)) hW hx hF hT
theorem eX6_grid {l : Launch} {E : EN} {w : CO} {d : Nat} {s : CS} {f : RH} {Q : KO → CS → RH → Prop} {x1 : Int32} {x2 : Int32} {x3 : Int32}  (hst : l.stackTraces = false) (hT : ((20 < x1 → (EvC l E w d MX3_wrong [.ref (w.1 3), .int 2, .int x3] s f (fun o s1 f2 => KP o (fun r => r = some (.ref (w.1 9)) ∧ Q (.inr 9) s1 f2) (fun k => Q (.inr k) s1 f2)))) ∧ (¬ 20 < x1 → ((64 < x2 → (EvC l E w d MX3_wrong [.ref (w.1 3), .int 2, .int x3] s f (fun o s3 f4 => KP o (fun r => r = some (.ref (w.1 9)) ∧ Q (.inr 9) s3 f4) (fun k => Q (.inr k) s3 f4)))) ∧ (¬ 64 < x2 → ((x1 < 0 → ((x1 < 0 → (rmF E f 3 222 ∧ (∀ (a8 : Nat) (f7 : RH), f7 = fexc f → (EvC l E w d MX3_wrong [.ref (w.1 3), .int 1, .int x3] s f7 (fun o s9 f10 => KP o (fun r => r = some (.ref (w.1 9)) ∧ Q (.inr 9) s9 f10) (fun k => Q (.inr k) s9 f10)))))) ∧ (¬ x1 < 0 → ((x2 < 0 → (x1.toNatClampNeg ≤ 1000 ∧ ∀ f11 : RH, f11 = fnewA f 11 x1.toNatClampNeg → (rmF E f11 3 222 ∧ (∀ (a13 : Nat) (f12 : RH), f12 = fexc f11 → (EvC l E w d MX3_wrong [.ref (w.1 3), .int 1, .int x3] s f12 (fun o s14 f15 => KP o (fun r => r = some (.ref (w.1 9)) ∧ Q (.inr 9) s14 f15) (fun k => Q (.inr k) s14 f15))))))) ∧ (¬ x2 < 0 → (x1.toNatClampNeg ≤ 1000 ∧ x2.toNatClampNeg ≤ 1000 ∧ rmF E f (1 + x1.toNatClampNeg) (x1.toNatClampNeg + x1.toNatClampNeg * x2.toNatClampNeg + x2.toNatClampNeg) ∧ ∀ (a5 : Nat) (f6 : RH), a5 = f.1 → f6 = fmu f x1.toNatClampNeg x2.toNatClampNeg x1.toNatClampNeg → Q (.inl (some (.ref a5))) s f6)))))) ∧ (¬ x1 < 0 → ((x2 < 0 → ((x1 < 0 → (rmF E f 3 222 ∧ (∀ (a19 : Nat) (f18 : RH), f18 = fexc f → (EvC l E w d MX3_wrong [.ref (w.1 3), .int 1, .int x3] s f18 (fun o s20 f21 => KP o (fun r => r = some (.ref (w.1 9)) ∧ Q (.inr 9) s20 f21) (fun k => Q (.inr k) s20 f21)))))) ∧ (¬ x1 < 0 → ((x2 < 0 → (x1.toNatClampNeg ≤ 1000 ∧ ∀ f22 : RH, f22 = fnewA f 11 x1.toNatClampNeg → (rmF E f22 3 222 ∧ (∀ (a24 : Nat) (f23 : RH), f23 = fexc f22 → (EvC l E w d MX3_wrong [.ref (w.1 3), .int 1, .int x3] s f23 (fun o s25 f26 => KP o (fun r => r = some (.ref (w.1 9)) ∧ Q (.inr 9) s25 f26) (fun k => Q (.inr k) s25 f26))))))) ∧ (¬ x2 < 0 → (x1.toNatClampNeg ≤ 1000 ∧ x2.toNatClampNeg ≤ 1000 ∧ rmF E f (1 + x1.toNatClampNeg) (x1.toNatClampNeg + x1.toNatClampNeg * x2.toNatClampNeg + x2.toNatClampNeg) ∧ ∀ (a16 : Nat) (f17 : RH), a16 = f.1 → f17 = fmu f x1.toNatClampNeg x2.toNatClampNeg x1.toNatClampNeg → Q (.inl (some (.ref a16))) s f17)))))) ∧ (¬ x2 < 0 → (((x1 * x2) ≤ 200 → ((x1 < 0 → (rmF E f 3 222 ∧ (∀ (a30 : Nat) (f29 : RH), f29 = fexc f → (EvC l E w d MX3_wrong [.ref (w.1 3), .int 1, .int x3] s f29 (fun o s31 f32 => KP o (fun r => r = some (.ref (w.1 9)) ∧ Q (.inr 9) s31 f32) (fun k => Q (.inr k) s31 f32)))))) ∧ (¬ x1 < 0 → ((x2 < 0 → (x1.toNatClampNeg ≤ 1000 ∧ ∀ f33 : RH, f33 = fnewA f 11 x1.toNatClampNeg → (rmF E f33 3 222 ∧ (∀ (a35 : Nat) (f34 : RH), f34 = fexc f33 → (EvC l E w d MX3_wrong [.ref (w.1 3), .int 1, .int x3] s f34 (fun o s36 f37 => KP o (fun r => r = some (.ref (w.1 9)) ∧ Q (.inr 9) s36 f37) (fun k => Q (.inr k) s36 f37))))))) ∧ (¬ x2 < 0 → (x1.toNatClampNeg ≤ 1000 ∧ x2.toNatClampNeg ≤ 1000 ∧ rmF E f (1 + x1.toNatClampNeg) (x1.toNatClampNeg + x1.toNatClampNeg * x2.toNatClampNeg + x2.toNatClampNeg) ∧ ∀ (a27 : Nat) (f28 : RH), a27 = f.1 → f28 = fmu f x1.toNatClampNeg x2.toNatClampNeg x1.toNatClampNeg → Q (.inl (some (.ref a27))) s f28)))))) ∧ (¬ (x1 * x2) ≤ 200 → (EvC l E w d MX3_wrong [.ref (w.1 3), .int 2, .int x3] s f (fun o s38 f39 => KP o (fun r => r = some (.ref (w.1 9)) ∧ Q (.inr 9) s38 f39) (fun k => Q (.inr k) s38 f39)))))))))))))) : EvC l E w (d + 1) MX6_grid [.ref (w.1 6), .int x1, .int x2, .int x3] s f Q :=
  EvC.of hst (by decide) (Nat.le_of_ble_eq_true rfl) (vX6_grid_0  hT)
set_option maxHeartbeats 16000000 in
theorem vX7_stretch_0 {l : Launch} {E : EN} {w : CO} {d : Nat} {s : CS} {f : RH} {Q : KO → CS → RH → Prop} {x1 : Nat} {x2 : Int32} {x3 : Int32} {x4 : Int32}  (hT : (∃ P13 : KO → CS → RH → Prop, (∀ o s1 f2, P13 o s1 f2 → KP o (fun r => ∃ v3 : Int32, r = some (.int v3) ∧ (isT f2 (.ref x1) ∧ ((tg f2 x1 = some (.inl 29) → (tg f2 x1 = some (.inl 29) ∧ (¬ x3 < 0 ∧ x3.toNatClampNeg ≤ 60000000 ∧ rmF E f2 1 x3.toNatClampNeg ∧ ∀ (a5 : Nat) (f6 : RH), a5 = f2.1 → f6 = fnewA f2 0 x3.toNatClampNeg → ExC l E w (d + 1) MX7_stretch 27 [none, none, some (.int x2), some (.int x3), none, some (.int v3), some (.ref x1), some (.ref a5), some (.int 0)] [] s1 f6 Q))) ∧ (¬ tg f2 x1 = some (.inl 29) → (isT f2 (.ref x1) ∧ ((tg f2 x1 = some (.inl 30) → (tg f2 x1 = some (.inl 30) ∧ (¬ x3 < 0 ∧ ¬ (0 : Int32) < 0 ∧ x3.toNatClampNeg ≤ 1000 ∧ (0 : Int32).toNatClampNeg ≤ 1000 ∧ rmF E f2 (1 + x3.toNatClampNeg) (x3.toNatClampNeg + x3.toNatClampNeg * (0 : Int32).toNatClampNeg + (0 : Int32).toNatClampNeg) ∧ ∀ (a8 : Nat) (f9 : RH), a8 = f2.1 → f9 = fmu f2 x3.toNatClampNeg (0 : Int32).toNatClampNeg x3.toNatClampNeg → ExC l E w (d + 1) MX7_stretch 108 [none, none, some (.int x2), some (.int x3), none, some (.int v3), some (.ref x1), some (.ref a8), some (.int 0)] [] s1 f9 Q))) ∧ (¬ tg f2 x1 = some (.inl 30) → (¬ x3 < 0 ∧ x3.toNatClampNeg ≤ 60000000 ∧ rmF E f2 1 x3.toNatClampNeg ∧ ∀ (a10 : Nat) (f11 : RH), a10 = f2.1 → f11 = fnewA f2 4 x3.toNatClampNeg → ExC l E w (d + 1) MX7_stretch 170 [some (.ref (w.1 7)), some (.ref x1), some (.int x2), some (.int x3), some (.int x4), some (.int v3), some (.ref a10), some (.int 0), none] [] s1 f11 Q)))))))) (fun k => Q (.inr k) s1 f2)) ∧ ∃ k12 : Nat, oc f x1 k12 ∧ ((k12 = 29 ∧ EvC l E w d MX32_size [.ref x1] s f P13) ∨ (k12 = 30 ∧ EvC l E w d MX33_size [.ref x1] s f P13) ∨ (k12 = 31 ∧ EvC l E w d MX34_size [.ref x1] s f P13) ∨ (k12 = 32 ∧ EvC l E w d MX35_size [.ref x1] s f P13)))) : ExC l E w (d + 1) MX7_stretch 0 [some (.ref (w.1 7)), some (.ref x1), some (.int x2), some (.int x3), some (.int x4), none, none, none, none] [] s f Q := by
  intro f0 h hW hF
  refine x_aload_n dX7_stretch_0 rfl rfl rfl ?_
  obtain ⟨P13, hP, k12, hc, hT⟩ := hT
  have kr : ∀ r s1 f2, P13 (.inl r) s1 f2 → ∀ h, CW E w s1 f2 h → Frz f0 f2 → Ex l E (d + 1) MX7_stretch (1 + 3) [some (.ref (w.1 7)), some (.ref x1), some (.int x2), some (.int x3), some (.int x4), none, none, none, none] (r.toList ++ []) h (PoC E w f0 Q) := by
    intro r s1 f2 h0 h hW hF
    have hT := hP _ _ _ h0
    clear h0
    obtain ⟨v3, rfl, hT⟩ := hT
    refine x_istore (lo' := [some (.ref (w.1 7)), some (.ref x1), some (.int x2), some (.int x3), some (.int x4), some (.int v3), none, none, none]) dX7_stretch_4 (Nat.le_of_ble_eq_true rfl) rfl ?_
    refine x_aload_n dX7_stretch_6 rfl rfl rfl ?_
    obtain ⟨ht, hT⟩ := hT
    refine c_inst (K := 29) dX7_stretch_7 (by decide) q1755 ht hW (fun hi4 => ?_) (fun hi4 => ?_)
    · replace hT := hT.1 hi4
      refine x_if_eq (tgt := 84) dX7_stretch_10 rfl (fun c => absurd c (by decide)) (fun _ => ?_)
      refine x_aload_n dX7_stretch_13 rfl rfl rfl ?_
      obtain ⟨hc, hT⟩ := hT
      refine c_cast (K := 29) dX7_stretch_14 q1755 hc hW ?_
      refine x_astore (lo' := [some (.ref (w.1 7)), some (.ref x1), some (.int x2), some (.int x3), some (.int x4), some (.int v3), some (.ref x1), none, none]) dX7_stretch_17 (Nat.le_of_ble_eq_true rfl) rfl rfl ?_
      refine x_iload_n dX7_stretch_19 rfl rfl ?_
      obtain ⟨hn, hT⟩ := hT
      obtain ⟨hb, hr, hT⟩ := hT
      refine c_newarrayG (t := 0) dX7_stretch_20 (by decide) rfl hn hb hr hW hF ?_
      intro a5 f6 ea5 ef6 h hW hF
      replace hT := hT a5 f6 ea5 ef6
      refine x_astore (lo' := [some (.ref (w.1 7)), some (.ref x1), some (.int x2), some (.int x3), some (.int x4), some (.int v3), some (.ref x1), some (.ref a5), none]) dX7_stretch_22 (Nat.le_of_ble_eq_true rfl) rfl rfl ?_
      refine x_iconst (v := 0) dX7_stretch_24 rfl ?_
      refine x_istore (lo' := [some (.ref (w.1 7)), some (.ref x1), some (.int x2), some (.int x3), some (.int x4), some (.int v3), some (.ref x1), some (.ref a5), some (.int 0)]) dX7_stretch_25 (Nat.le_of_ble_eq_true rfl) rfl ?_
      refine Ex.wkl (lo' := [none, none, some (.int x2), some (.int x3), none, some (.int v3), some (.ref x1), some (.ref a5), some (.int 0)]) ⟨rfl, rfl, rfl, rfl, rfl, rfl, trivial⟩ ?_
      exact hT f0 h hW hF
    · replace hT := hT.2 hi4
      refine x_if_eq (tgt := 84) dX7_stretch_10 rfl (fun _ => ?_) (fun c => absurd c (by decide))
      refine x_aload_n dX7_stretch_84 rfl rfl rfl ?_
      obtain ⟨ht, hT⟩ := hT
      refine c_inst (K := 30) dX7_stretch_85 (by decide) q1784 ht hW (fun hi7 => ?_) (fun hi7 => ?_)
      · replace hT := hT.1 hi7
        refine x_if_eq (tgt := 161) dX7_stretch_88 rfl (fun c => absurd c (by decide)) (fun _ => ?_)
        refine x_aload_n dX7_stretch_91 rfl rfl rfl ?_
        obtain ⟨hc, hT⟩ := hT
        refine c_cast (K := 30) dX7_stretch_92 q1784 hc hW ?_
        refine x_astore (lo' := [some (.ref (w.1 7)), some (.ref x1), some (.int x2), some (.int x3), some (.int x4), some (.int v3), some (.ref x1), none, none]) dX7_stretch_95 (Nat.le_of_ble_eq_true rfl) rfl rfl ?_
        refine x_iload_n dX7_stretch_97 rfl rfl ?_
        refine x_iconst (v := 0) dX7_stretch_98 rfl ?_
        obtain ⟨hn, hn2, hT⟩ := hT
        obtain ⟨hb, hb2, hr, hT⟩ := hT
        refine c_multiG dX7_stretch_99 q1866 hn hn2 hb hb2 hr hW hF ?_
        intro a8 f9 ea8 ef9 h hW hF
        replace hT := hT a8 f9 ea8 ef9
        refine x_astore (lo' := [some (.ref (w.1 7)), some (.ref x1), some (.int x2), some (.int x3), some (.int x4), some (.int v3), some (.ref x1), some (.ref a8), none]) dX7_stretch_103 (Nat.le_of_ble_eq_true rfl) rfl rfl ?_
        refine x_iconst (v := 0) dX7_stretch_105 rfl ?_
        refine x_istore (lo' := [some (.ref (w.1 7)), some (.ref x1), some (.int x2), some (.int x3), some (.int x4), some (.int v3), some (.ref x1), some (.ref a8), some (.int 0)]) dX7_stretch_106 (Nat.le_of_ble_eq_true rfl) rfl ?_
        refine Ex.wkl (lo' := [none, none, some (.int x2), some (.int x3), none, some (.int v3), some (.ref x1), some (.ref a8), some (.int 0)]) ⟨rfl, rfl, rfl, rfl, rfl, rfl, trivial⟩ ?_
        exact hT f0 h hW hF
      · replace hT := hT.2 hi7
        refine x_if_eq (tgt := 161) dX7_stretch_88 rfl (fun _ => ?_) (fun c => absurd c (by decide))
        refine x_iload_n dX7_stretch_161 rfl rfl ?_
        obtain ⟨hn, hT⟩ := hT
        obtain ⟨hb, hr, hT⟩ := hT
        refine c_anewarrayG (t := 4) dX7_stretch_162 (by decide) (by decide) (by decide) rfl q337 (Or.inl ⟨_, rfl, q1811⟩) hn hb hr hW hF ?_
        intro a10 f11 ea10 ef11 h hW hF
        replace hT := hT a10 f11 ea10 ef11
        refine x_astore (lo' := [some (.ref (w.1 7)), some (.ref x1), some (.int x2), some (.int x3), some (.int x4), some (.int v3), some (.ref a10), none, none]) dX7_stretch_165 (Nat.le_of_ble_eq_true rfl) rfl rfl ?_
        refine x_iconst (v := 0) dX7_stretch_167 rfl ?_
        refine x_istore (lo' := [some (.ref (w.1 7)), some (.ref x1), some (.int x2), some (.int x3), some (.int x4), some (.int v3), some (.ref a10), some (.int 0), none]) dX7_stretch_168 (Nat.le_of_ble_eq_true rfl) rfl ?_
        exact hT f0 h hW hF
  have kt : ∀ k s1 f2, P13 (.inr k) s1 f2 → ∀ h a, CW E w s1 f2 h → xA w h k a → Frz f0 f2 → ExT l E (d + 1) MX7_stretch 1 [some (.ref (w.1 7)), some (.ref x1), some (.int x2), some (.int x3), some (.int x4), none, none, none, none] [] a h (PoC E w f0 Q) := by
    intro k s1 f2 h0 h a hW hx hF
    have hT := hP _ _ _ h0
    clear h0
    exact c_out (rfl) hW hx hF hT
  obtain ⟨cc, hcc⟩ := hW.ocell hc
  rcases hT with ⟨rfl, hT⟩ | ⟨rfl, hT⟩ | ⟨rfl, hT⟩ | ⟨rfl, hT⟩
  · exact c_invV (vs := []) dX7_stretch_1 oX32_size q1454 q1746 hcc q1453 (Or.inr hy_Thing_size) rfl rfl (Nat.le_of_ble_eq_true rfl) rfl hW hF hT kr kt
  · exact c_invV (vs := []) dX7_stretch_1 oX33_size q1457 q1746 hcc q1456 (Or.inr hy_Thing_size) rfl rfl (Nat.le_of_ble_eq_true rfl) rfl hW hF hT kr kt
  · exact c_invV (vs := []) dX7_stretch_1 oX34_size q1451 q1746 hcc q1450 (Or.inr hy_Thing_size) rfl rfl (Nat.le_of_ble_eq_true rfl) rfl hW hF hT kr kt
  · exact c_invV (vs := []) dX7_stretch_1 oX35_size q1460 q1746 hcc q1459 (Or.inr hy_Thing_size) rfl rfl (Nat.le_of_ble_eq_true rfl) rfl hW hF hT kr kt
theorem eX7_stretch {l : Launch} {E : EN} {w : CO} {d : Nat} {s : CS} {f : RH} {Q : KO → CS → RH → Prop} {x1 : Nat} {x2 : Int32} {x3 : Int32} {x4 : Int32}  (hst : l.stackTraces = false) (hT : (∃ P13 : KO → CS → RH → Prop, (∀ o s1 f2, P13 o s1 f2 → KP o (fun r => ∃ v3 : Int32, r = some (.int v3) ∧ (isT f2 (.ref x1) ∧ ((tg f2 x1 = some (.inl 29) → (tg f2 x1 = some (.inl 29) ∧ (¬ x3 < 0 ∧ x3.toNatClampNeg ≤ 60000000 ∧ rmF E f2 1 x3.toNatClampNeg ∧ ∀ (a5 : Nat) (f6 : RH), a5 = f2.1 → f6 = fnewA f2 0 x3.toNatClampNeg → ExC l E w (d + 1) MX7_stretch 27 [none, none, some (.int x2), some (.int x3), none, some (.int v3), some (.ref x1), some (.ref a5), some (.int 0)] [] s1 f6 Q))) ∧ (¬ tg f2 x1 = some (.inl 29) → (isT f2 (.ref x1) ∧ ((tg f2 x1 = some (.inl 30) → (tg f2 x1 = some (.inl 30) ∧ (¬ x3 < 0 ∧ ¬ (0 : Int32) < 0 ∧ x3.toNatClampNeg ≤ 1000 ∧ (0 : Int32).toNatClampNeg ≤ 1000 ∧ rmF E f2 (1 + x3.toNatClampNeg) (x3.toNatClampNeg + x3.toNatClampNeg * (0 : Int32).toNatClampNeg + (0 : Int32).toNatClampNeg) ∧ ∀ (a8 : Nat) (f9 : RH), a8 = f2.1 → f9 = fmu f2 x3.toNatClampNeg (0 : Int32).toNatClampNeg x3.toNatClampNeg → ExC l E w (d + 1) MX7_stretch 108 [none, none, some (.int x2), some (.int x3), none, some (.int v3), some (.ref x1), some (.ref a8), some (.int 0)] [] s1 f9 Q))) ∧ (¬ tg f2 x1 = some (.inl 30) → (¬ x3 < 0 ∧ x3.toNatClampNeg ≤ 60000000 ∧ rmF E f2 1 x3.toNatClampNeg ∧ ∀ (a10 : Nat) (f11 : RH), a10 = f2.1 → f11 = fnewA f2 4 x3.toNatClampNeg → ExC l E w (d + 1) MX7_stretch 170 [some (.ref (w.1 7)), some (.ref x1), some (.int x2), some (.int x3), some (.int x4), some (.int v3), some (.ref a10), some (.int 0), none] [] s1 f11 Q)))))))) (fun k => Q (.inr k) s1 f2)) ∧ ∃ k12 : Nat, oc f x1 k12 ∧ ((k12 = 29 ∧ EvC l E w d MX32_size [.ref x1] s f P13) ∨ (k12 = 30 ∧ EvC l E w d MX33_size [.ref x1] s f P13) ∨ (k12 = 31 ∧ EvC l E w d MX34_size [.ref x1] s f P13) ∨ (k12 = 32 ∧ EvC l E w d MX35_size [.ref x1] s f P13)))) : EvC l E w (d + 1) MX7_stretch [.ref (w.1 7), .ref x1, .int x2, .int x3, .int x4] s f Q :=
  EvC.of hst (by decide) (Nat.le_of_ble_eq_true rfl) (vX7_stretch_0  hT)
set_option maxHeartbeats 16000000 in
theorem vX7_stretch_27 {l : Launch} {E : EN} {w : CO} {d : Nat} {s : CS} {f : RH} {Q : KO → CS → RH → Prop} {b2 : Int32} {b3 : Int32} {b5 : Int32} {b6 : Nat} {b7 : Nat} {b8 : Int32}  (hT : ((b3 ≤ b8 → (rmF E f 1 1 ∧ ∀ (a14 : Nat) (f15 : RH), a14 = f.1 → f15 = fnew f 29 → (EvC l E w d MX32_init [.ref a14, .ref b7] s f15 (fun o s16 f17 => KP o (fun r => r = none ∧ Q (.inl (some (.ref a14))) s16 f17) (fun k => Q (.inr k) s16 f17))))) ∧ (¬ b3 ≤ b8 → (((b2 + b8) < 0 → (tg f b7 = some (.inr 0) ∧ inB b8 (ln f b7) ∧ f.2.2.2 ≤ b7 ∧ ∀ f18 : RH, f18 = fset f b7 b8.toNatClampNeg (.int 0) → ExC l E w (d + 1) MX7_stretch 27 [none, none, some (.int b2), some (.int b3), none, some (.int b5), some (.ref b6), some (.ref b7), some (.int (b8 + 1))] [] s f18 Q)) ∧ (¬ (b2 + b8) < 0 → (((b2 + b8) < b5 → (oc f b6 29 ∧ (∃ a19 : Nat, vl f b6 203 = .ref a19 ∧ (tg f a19 = some (.inr 0) ∧ inB (b2 + b8) (ln f a19) ∧ (∃ v20 : Int32, vl f a19 (b2 + b8).toNatClampNeg = .int v20 ∧ (tg f b7 = some (.inr 0) ∧ inB b8 (ln f b7) ∧ f.2.2.2 ≤ b7 ∧ ∀ f21 : RH, f21 = fset f b7 b8.toNatClampNeg (.int v20) → ExC l E w (d + 1) MX7_stretch 27 [none, none, some (.int b2), some (.int b3), none, some (.int b5), some (.ref b6), some (.ref b7), some (.int (b8 + 1))] [] s f21 Q)))))) ∧ (¬ (b2 + b8) < b5 → (tg f b7 = some (.inr 0) ∧ inB b8 (ln f b7) ∧ f.2.2.2 ≤ b7 ∧ ∀ f22 : RH, f22 = fset f b7 b8.toNatClampNeg (.int 0) → ExC l E w (d + 1) MX7_stretch 27 [none, none, some (.int b2), some (.int b3), none, some (.int b5), some (.ref b6), some (.ref b7), some (.int (b8 + 1))] [] s f22 Q)))))))) : ExC l E w (d + 1) MX7_stretch 27 [none, none, some (.int b2), some (.int b3), none, some (.int b5), some (.ref b6), some (.ref b7), some (.int b8)] [] s f Q := by
  intro f0 h hW hF
  refine x_iload dX7_stretch_27 rfl ?_
  refine x_iload_n dX7_stretch_29 rfl rfl ?_
  refine x_icmp_ge (tgt := 74) dX7_stretch_30 rfl (fun c => ?_) (fun c => ?_)
  · replace hT := hT.1 c
    obtain ⟨hr, hT⟩ := hT
    refine c_newG (k := 29) dX7_stretch_74 (by decide) q1755 q205 hr hW hF ?_
    intro a14 f15 ea14 ef15 h hW hF
    replace hT := hT a14 f15 ea14 ef15
    refine x_dup dX7_stretch_77 rfl ?_
    refine x_aload dX7_stretch_78 rfl rfl ?_
    refine c_invI (b := a14) (vs := [.ref b7]) dX7_stretch_80 oX32_init rfl rfl rfl q1396 (Or.inl q1756) rfl rfl (Nat.le_of_ble_eq_true rfl) rfl hW hF hT ?_ ?_
    · intro _ s16 f17 hT h hW hF
      obtain ⟨rfl, hT⟩ := hT
      exact x_aret dX7_stretch_83 rfl (by first | exact Or.inl ⟨_, rfl⟩ | exact Or.inr ⟨_, rfl⟩) rfl ⟨_, _, hW, hF, Or.inl ⟨_, rfl, hT⟩⟩
    · intro k s16 f17 hT h a hW hx hF
      exact c_out (rfl) hW hx hF hT
  · replace hT := hT.2 c
    refine x_aload dX7_stretch_33 rfl rfl ?_
    refine x_iload dX7_stretch_35 rfl ?_
    refine x_iload_n dX7_stretch_37 rfl rfl ?_
    refine x_iload dX7_stretch_38 rfl ?_
    refine x_iadd dX7_stretch_40 ?_
    refine x_if_lt (tgt := 53) dX7_stretch_41 rfl (fun c => ?_) (fun c => ?_)
    · replace hT := hT.1 c
      refine x_iconst (v := 0) dX7_stretch_53 rfl ?_
      refine x_goto (tgt := 67) dX7_stretch_54 rfl ?_
      obtain ⟨hc, hT⟩ := hT
      obtain ⟨hb, hz, hT⟩ := hT
      refine c_fiastG dX7_stretch_67 hc hb hz hW hF ?_
      intro f18 ef18 h hW hF
      replace hT := hT f18 ef18
      refine x_iinc (lo' := [none, none, some (.int b2), some (.int b3), none, some (.int b5), some (.ref b6), some (.ref b7), some (.int (b8 + 1))]) dX7_stretch_68 rfl (show _ = (b8 + 1) from rfl) rfl ?_
      refine x_goto (tgt := 27) dX7_stretch_71 rfl ?_
      exact hT f0 h hW hF
    · replace hT := hT.2 c
      refine x_iload_n dX7_stretch_44 rfl rfl ?_
      refine x_iload dX7_stretch_45 rfl ?_
      refine x_iadd dX7_stretch_47 ?_
      refine x_iload dX7_stretch_48 rfl ?_
      refine x_icmp_lt (tgt := 57) dX7_stretch_50 rfl (fun c => ?_) (fun c => ?_)
      · replace hT := hT.1 c
        refine x_aload dX7_stretch_57 rfl rfl ?_
        obtain ⟨hc, hT⟩ := hT
        obtain ⟨a19, ev, hT⟩ := hT
        refine c_fgetG dX7_stretch_59 f_TallySlate_Works_66 hc (by decide) (by decide) hW ev ?_
        refine x_iload_n dX7_stretch_62 rfl rfl ?_
        refine x_iload dX7_stretch_63 rfl ?_
        refine x_iadd dX7_stretch_65 ?_
        obtain ⟨hc, hT⟩ := hT
        obtain ⟨hb, hT⟩ := hT
        obtain ⟨v20, ev, hT⟩ := hT
        refine c_fiald dX7_stretch_66 hc hb hW ev ?_
        obtain ⟨hc, hT⟩ := hT
        obtain ⟨hb, hz, hT⟩ := hT
        refine c_fiastG dX7_stretch_67 hc hb hz hW hF ?_
        intro f21 ef21 h hW hF
        replace hT := hT f21 ef21
        refine x_iinc (lo' := [none, none, some (.int b2), some (.int b3), none, some (.int b5), some (.ref b6), some (.ref b7), some (.int (b8 + 1))]) dX7_stretch_68 rfl (show _ = (b8 + 1) from rfl) rfl ?_
        refine x_goto (tgt := 27) dX7_stretch_71 rfl ?_
        exact hT f0 h hW hF
      · replace hT := hT.2 c
        refine x_iconst (v := 0) dX7_stretch_53 rfl ?_
        refine x_goto (tgt := 67) dX7_stretch_54 rfl ?_
        obtain ⟨hc, hT⟩ := hT
        obtain ⟨hb, hz, hT⟩ := hT
        refine c_fiastG dX7_stretch_67 hc hb hz hW hF ?_
        intro f22 ef22 h hW hF
        replace hT := hT f22 ef22
        refine x_iinc (lo' := [none, none, some (.int b2), some (.int b3), none, some (.int b5), some (.ref b6), some (.ref b7), some (.int (b8 + 1))]) dX7_stretch_68 rfl (show _ = (b8 + 1) from rfl) rfl ?_
        refine x_goto (tgt := 27) dX7_stretch_71 rfl ?_
        exact hT f0 h hW hF
theorem vX7_stretch_108 {l : Launch} {E : EN} {w : CO} {d : Nat} {s : CS} {f : RH} {Q : KO → CS → RH → Prop} {b2 : Int32} {b3 : Int32} {b5 : Int32} {b6 : Nat} {b7 : Nat} {b8 : Int32}  (hT : ((b3 ≤ b8 → (rmF E f 1 2 ∧ ∀ (a23 : Nat) (f24 : RH), a23 = f.1 → f24 = fnew f 30 → (EvC l E w d MX33_init [.ref a23, .ref b7] s f24 (fun o s25 f26 => KP o (fun r => r = none ∧ Q (.inl (some (.ref a23))) s25 f26) (fun k => Q (.inr k) s25 f26))))) ∧ (¬ b3 ≤ b8 → (((b2 + b8) < 0 → ExC l E w (d + 1) MX7_stretch 108 [none, none, some (.int b2), some (.int b3), none, some (.int b5), some (.ref b6), some (.ref b7), some (.int (b8 + 1))] [] s f Q) ∧ (¬ (b2 + b8) < 0 → ((b5 ≤ (b2 + b8) → ExC l E w (d + 1) MX7_stretch 108 [none, none, some (.int b2), some (.int b3), none, some (.int b5), some (.ref b6), some (.ref b7), some (.int (b8 + 1))] [] s f Q) ∧ (¬ b5 ≤ (b2 + b8) → (oc f b6 30 ∧ (∃ a27 : Nat, vl f b6 204 = .ref a27 ∧ (∃ t28 : Nat, 4 ≤ t28 ∧ (tg f a27 = some (.inr t28) ∧ inB (b2 + b8) (ln f a27) ∧ (∃ a29 : Nat, vl f a27 (b2 + b8).toNatClampNeg = .ref a29 ∧ (tg f b7 = some (.inr 11) ∧ tg f a29 = some (.inr 0) ∧ ez E ≤ a29 ∧ inB b8 (ln f b7) ∧ f.2.2.2 ≤ b7 ∧ ∀ f30 : RH, f30 = fset f b7 b8.toNatClampNeg (.ref a29) → ExC l E w (d + 1) MX7_stretch 108 [none, none, some (.int b2), some (.int b3), none, some (.int b5), some (.ref b6), some (.ref b7), some (.int (b8 + 1))] [] s f30 Q))))))))))))) : ExC l E w (d + 1) MX7_stretch 108 [none, none, some (.int b2), some (.int b3), none, some (.int b5), some (.ref b6), some (.ref b7), some (.int b8)] [] s f Q := by
  intro f0 h hW hF
  refine x_iload dX7_stretch_108 rfl ?_
  refine x_iload_n dX7_stretch_110 rfl rfl ?_
  refine x_icmp_ge (tgt := 151) dX7_stretch_111 rfl (fun c => ?_) (fun c => ?_)
  · replace hT := hT.1 c
    obtain ⟨hr, hT⟩ := hT
    refine c_newG (k := 30) dX7_stretch_151 (by decide) q1784 q206 hr hW hF ?_
    intro a23 f24 ea23 ef24 h hW hF
    replace hT := hT a23 f24 ea23 ef24
    refine x_dup dX7_stretch_154 rfl ?_
    refine x_aload dX7_stretch_155 rfl rfl ?_
    refine c_invI (b := a23) (vs := [.ref b7]) dX7_stretch_157 oX33_init rfl rfl rfl q1469 (Or.inl q1802) rfl rfl (Nat.le_of_ble_eq_true rfl) rfl hW hF hT ?_ ?_
    · intro _ s25 f26 hT h hW hF
      obtain ⟨rfl, hT⟩ := hT
      exact x_aret dX7_stretch_160 rfl (by first | exact Or.inl ⟨_, rfl⟩ | exact Or.inr ⟨_, rfl⟩) rfl ⟨_, _, hW, hF, Or.inl ⟨_, rfl, hT⟩⟩
    · intro k s25 f26 hT h a hW hx hF
      exact c_out (rfl) hW hx hF hT
  · replace hT := hT.2 c
    refine x_iload_n dX7_stretch_114 rfl rfl ?_
    refine x_iload dX7_stretch_115 rfl ?_
    refine x_iadd dX7_stretch_117 ?_
    refine x_if_lt (tgt := 145) dX7_stretch_118 rfl (fun c => ?_) (fun c => ?_)
    · replace hT := hT.1 c
      refine x_iinc (lo' := [none, none, some (.int b2), some (.int b3), none, some (.int b5), some (.ref b6), some (.ref b7), some (.int (b8 + 1))]) dX7_stretch_145 rfl (show _ = (b8 + 1) from rfl) rfl ?_
      refine x_goto (tgt := 108) dX7_stretch_148 rfl ?_
      exact hT f0 h hW hF
    · replace hT := hT.2 c
      refine x_iload_n dX7_stretch_121 rfl rfl ?_
      refine x_iload dX7_stretch_122 rfl ?_
      refine x_iadd dX7_stretch_124 ?_
      refine x_iload dX7_stretch_125 rfl ?_
      refine x_icmp_ge (tgt := 145) dX7_stretch_127 rfl (fun c => ?_) (fun c => ?_)
      · replace hT := hT.1 c
        refine x_iinc (lo' := [none, none, some (.int b2), some (.int b3), none, some (.int b5), some (.ref b6), some (.ref b7), some (.int (b8 + 1))]) dX7_stretch_145 rfl (show _ = (b8 + 1) from rfl) rfl ?_
        refine x_goto (tgt := 108) dX7_stretch_148 rfl ?_
        exact hT f0 h hW hF
      · replace hT := hT.2 c
        refine x_aload dX7_stretch_130 rfl rfl ?_
        refine x_iload dX7_stretch_132 rfl ?_
        refine x_aload dX7_stretch_134 rfl rfl ?_
        obtain ⟨hc, hT⟩ := hT
        obtain ⟨a27, ev, hT⟩ := hT
        refine c_fgetG dX7_stretch_136 f_TallySlate_Works_128 hc (by decide) (by decide) hW ev ?_
        refine x_iload_n dX7_stretch_139 rfl rfl ?_
        refine x_iload dX7_stretch_140 rfl ?_
        refine x_iadd dX7_stretch_142 ?_
        obtain ⟨t28, ht2, hc, hT⟩ := hT
        obtain ⟨hb, hT⟩ := hT
        obtain ⟨a29, ev, hT⟩ := hT
        refine c_faald dX7_stretch_143 hc ht2 hb hW ev ?_
        obtain ⟨hc, hv, hzb, hT⟩ := hT
        obtain ⟨hb, hz, hT⟩ := hT
        refine c_faastAG dX7_stretch_144 hc hv hzb hb hz hW hF ?_
        intro f30 ef30 h hW hF
        replace hT := hT f30 ef30
        refine x_iinc (lo' := [none, none, some (.int b2), some (.int b3), none, some (.int b5), some (.ref b6), some (.ref b7), some (.int (b8 + 1))]) dX7_stretch_145 rfl (show _ = (b8 + 1) from rfl) rfl ?_
        refine x_goto (tgt := 108) dX7_stretch_148 rfl ?_
        exact hT f0 h hW hF
set_option maxHeartbeats 16000000 in
theorem vX7_stretch_170 {l : Launch} {E : EN} {w : CO} {d : Nat} {s : CS} {f : RH} {Q : KO → CS → RH → Prop} {b1 : Nat} {b2 : Int32} {b3 : Int32} {b4 : Int32} {b5 : Int32} {b6 : Nat} {b7 : Int32}  (hT : ((b3 ≤ b7 → (EvC l E w d MX6_pack [.ref (w.1 6), .ref b6, .int b4] s f (fun o s31 f32 => KP o (fun r => ∃ a33 : Nat, r = some (.ref a33) ∧ Q (.inl (some (.ref a33))) s31 f32) (fun k => Q (.inr k) s31 f32)))) ∧ (¬ b3 ≤ b7 → (((b2 + b7) < 0 → (rmF E f 1 1 ∧ ∀ (a34 : Nat) (f35 : RH), a34 = f.1 → f35 = fnew f 32 → (EvC l E w d MX35_init [.ref a34, .int 0] s f35 (fun o s36 f37 => KP o (fun r => r = none ∧ (∃ k39 : Nat, (tg f37 b6 = some (.inr 4) ∧ tg f37 a34 = some (.inl k39) ∧ k39 ∈ CKs 4 ∧ inB b7 (ln f37 b6) ∧ f37.2.2.2 ≤ b6 ∧ ∀ f38 : RH, f38 = fset f37 b6 b7.toNatClampNeg (.ref a34) → ExC l E w (d + 1) MX7_stretch 170 [some (.ref (w.1 7)), some (.ref b1), some (.int b2), some (.int b3), some (.int b4), some (.int b5), some (.ref b6), some (.int (b7 + 1)), none] [] s36 f38 Q))) (fun k => Q (.inr k) s36 f37))))) ∧ (¬ (b2 + b7) < 0 → (((b2 + b7) < b5 → (tg f b1 = some (.inl 31) ∧ (oc f b1 31 ∧ (∃ a40 : Nat, vl f b1 206 = .ref a40 ∧ (∃ t41 : Nat, 4 ≤ t41 ∧ (tg f a40 = some (.inr t41) ∧ inB (b2 + b7) (ln f a40) ∧ (∃ a42 : Nat, vl f a40 (b2 + b7).toNatClampNeg = .ref a42 ∧ (∃ k44 : Nat, (tg f b6 = some (.inr 4) ∧ tg f a42 = some (.inl k44) ∧ k44 ∈ CKs 4 ∧ inB b7 (ln f b6) ∧ f.2.2.2 ≤ b6 ∧ ∀ f43 : RH, f43 = fset f b6 b7.toNatClampNeg (.ref a42) → ExC l E w (d + 1) MX7_stretch 170 [some (.ref (w.1 7)), some (.ref b1), some (.int b2), some (.int b3), some (.int b4), some (.int b5), some (.ref b6), some (.int (b7 + 1)), none] [] s f43 Q))))))))) ∧ (¬ (b2 + b7) < b5 → (rmF E f 1 1 ∧ ∀ (a45 : Nat) (f46 : RH), a45 = f.1 → f46 = fnew f 32 → (EvC l E w d MX35_init [.ref a45, .int 0] s f46 (fun o s47 f48 => KP o (fun r => r = none ∧ (∃ k50 : Nat, (tg f48 b6 = some (.inr 4) ∧ tg f48 a45 = some (.inl k50) ∧ k50 ∈ CKs 4 ∧ inB b7 (ln f48 b6) ∧ f48.2.2.2 ≤ b6 ∧ ∀ f49 : RH, f49 = fset f48 b6 b7.toNatClampNeg (.ref a45) → ExC l E w (d + 1) MX7_stretch 170 [some (.ref (w.1 7)), some (.ref b1), some (.int b2), some (.int b3), some (.int b4), some (.int b5), some (.ref b6), some (.int (b7 + 1)), none] [] s47 f49 Q))) (fun k => Q (.inr k) s47 f48))))))))))) : ExC l E w (d + 1) MX7_stretch 170 [some (.ref (w.1 7)), some (.ref b1), some (.int b2), some (.int b3), some (.int b4), some (.int b5), some (.ref b6), some (.int b7), none] [] s f Q := by
  intro f0 h hW hF
  refine x_iload dX7_stretch_170 rfl ?_
  refine x_iload_n dX7_stretch_172 rfl rfl ?_
  refine x_icmp_ge (tgt := 226) dX7_stretch_173 rfl (fun c => ?_) (fun c => ?_)
  · replace hT := hT.1 c
    refine x_aload_n dX7_stretch_226 rfl rfl rfl ?_
    refine c_getO dX7_stretch_227 f_TallySlate_Works_9 (by decide) (by decide) rfl hW ?_
    refine c_getO dX7_stretch_230 f_TallySlate_Works_177 (by decide) (by decide) rfl hW ?_
    refine x_aload dX7_stretch_233 rfl rfl ?_
    refine x_iload dX7_stretch_235 rfl ?_
    obtain ⟨-, -, cc, hcc, -⟩ := hW.ob 6 (by decide)
    refine c_invV (vs := [.ref b6, .int b4]) dX7_stretch_237 oX6_pack q1554 q1854 hcc q1555 (Or.inl rfl) rfl rfl (Nat.le_of_ble_eq_true rfl) rfl hW hF hT ?_ ?_
    · intro _ s31 f32 hT h hW hF
      obtain ⟨a33, rfl, hT⟩ := hT
      exact x_aret dX7_stretch_240 rfl (by first | exact Or.inl ⟨_, rfl⟩ | exact Or.inr ⟨_, rfl⟩) rfl ⟨_, _, hW, hF, Or.inl ⟨_, rfl, hT⟩⟩
    · intro k s31 f32 hT h a hW hx hF
      exact c_out (rfl) hW hx hF hT
  · replace hT := hT.2 c
    refine x_aload dX7_stretch_176 rfl rfl ?_
    refine x_iload dX7_stretch_178 rfl ?_
    refine x_iload_n dX7_stretch_180 rfl rfl ?_
    refine x_iload dX7_stretch_181 rfl ?_
    refine x_iadd dX7_stretch_183 ?_
    refine x_if_lt (tgt := 196) dX7_stretch_184 rfl (fun c => ?_) (fun c => ?_)
    · replace hT := hT.1 c
      obtain ⟨hr, hT⟩ := hT
      refine c_newG (k := 32) dX7_stretch_196 (by decide) q1821 q211 hr hW hF ?_
      intro a34 f35 ea34 ef35 h hW hF
      replace hT := hT a34 f35 ea34 ef35
      refine x_dup dX7_stretch_199 rfl ?_
      refine x_iconst (v := 0) dX7_stretch_200 rfl ?_
      refine c_invI (b := a34) (vs := [.int 0]) dX7_stretch_201 oX35_init rfl rfl rfl q1666 (Or.inl q1867) rfl rfl (Nat.le_of_ble_eq_true rfl) rfl hW hF hT ?_ ?_
      · intro _ s36 f37 hT h hW hF
        obtain ⟨rfl, hT⟩ := hT
        refine x_goto (tgt := 219) dX7_stretch_204 rfl ?_
        obtain ⟨k39, hc, hv, hck, hT⟩ := hT
        obtain ⟨hb, hz, hT⟩ := hT
        refine c_faastG dX7_stretch_219 hc (by decide) hv hck hb hz hW hF ?_
        intro f38 ef38 h hW hF
        replace hT := hT f38 ef38
        refine x_iinc (lo' := [some (.ref (w.1 7)), some (.ref b1), some (.int b2), some (.int b3), some (.int b4), some (.int b5), some (.ref b6), some (.int (b7 + 1)), none]) dX7_stretch_220 rfl (show _ = (b7 + 1) from rfl) rfl ?_
        refine x_goto (tgt := 170) dX7_stretch_223 rfl ?_
        exact hT f0 h hW hF
      · intro k s36 f37 hT h a hW hx hF
        exact c_out (rfl) hW hx hF hT
    · replace hT := hT.2 c
      refine x_iload_n dX7_stretch_187 rfl rfl ?_
      refine x_iload dX7_stretch_188 rfl ?_
      refine x_iadd dX7_stretch_190 ?_
      refine x_iload dX7_stretch_191 rfl ?_
      refine x_icmp_lt (tgt := 207) dX7_stretch_193 rfl (fun c => ?_) (fun c => ?_)
      · replace hT := hT.1 c
        refine x_aload_n dX7_stretch_207 rfl rfl rfl ?_
        obtain ⟨hc, hT⟩ := hT
        refine c_cast (K := 31) dX7_stretch_208 q1812 hc hW ?_
        obtain ⟨hc, hT⟩ := hT
        obtain ⟨a40, ev, hT⟩ := hT
        refine c_fgetG dX7_stretch_211 f_TallySlate_Works_172 hc (by decide) (by decide) hW ev ?_
        refine x_iload_n dX7_stretch_214 rfl rfl ?_
        refine x_iload dX7_stretch_215 rfl ?_
        refine x_iadd dX7_stretch_217 ?_
        obtain ⟨t41, ht2, hc, hT⟩ := hT
        obtain ⟨hb, hT⟩ := hT
        obtain ⟨a42, ev, hT⟩ := hT
        refine c_faald dX7_stretch_218 hc ht2 hb hW ev ?_
        obtain ⟨k44, hc, hv, hck, hT⟩ := hT
        obtain ⟨hb, hz, hT⟩ := hT
        refine c_faastG dX7_stretch_219 hc (by decide) hv hck hb hz hW hF ?_
        intro f43 ef43 h hW hF
        replace hT := hT f43 ef43
        refine x_iinc (lo' := [some (.ref (w.1 7)), some (.ref b1), some (.int b2), some (.int b3), some (.int b4), some (.int b5), some (.ref b6), some (.int (b7 + 1)), none]) dX7_stretch_220 rfl (show _ = (b7 + 1) from rfl) rfl ?_
        refine x_goto (tgt := 170) dX7_stretch_223 rfl ?_
        exact hT f0 h hW hF
      · replace hT := hT.2 c
        obtain ⟨hr, hT⟩ := hT
        refine c_newG (k := 32) dX7_stretch_196 (by decide) q1821 q211 hr hW hF ?_
        intro a45 f46 ea45 ef46 h hW hF
        replace hT := hT a45 f46 ea45 ef46
        refine x_dup dX7_stretch_199 rfl ?_
        refine x_iconst (v := 0) dX7_stretch_200 rfl ?_
        refine c_invI (b := a45) (vs := [.int 0]) dX7_stretch_201 oX35_init rfl rfl rfl q1666 (Or.inl q1867) rfl rfl (Nat.le_of_ble_eq_true rfl) rfl hW hF hT ?_ ?_
        · intro _ s47 f48 hT h hW hF
          obtain ⟨rfl, hT⟩ := hT
          refine x_goto (tgt := 219) dX7_stretch_204 rfl ?_
          obtain ⟨k50, hc, hv, hck, hT⟩ := hT
          obtain ⟨hb, hz, hT⟩ := hT
          refine c_faastG dX7_stretch_219 hc (by decide) hv hck hb hz hW hF ?_
          intro f49 ef49 h hW hF
          replace hT := hT f49 ef49
          refine x_iinc (lo' := [some (.ref (w.1 7)), some (.ref b1), some (.int b2), some (.int b3), some (.int b4), some (.int b5), some (.ref b6), some (.int (b7 + 1)), none]) dX7_stretch_220 rfl (show _ = (b7 + 1) from rfl) rfl ?_
          refine x_goto (tgt := 170) dX7_stretch_223 rfl ?_
          exact hT f0 h hW hF
        · intro k s47 f48 hT h a hW hx hF
          exact c_out (rfl) hW hx hF hT
theorem vNX6_things_0 {l : Launch} {E : EN} {w : CO} {d : Nat} {s : CS} {f : RH} {Q : KO → CS → RH → Prop} {x1 : Int32} {x2 : Int32}  (hT : ((x1 ≤ 20 → ((¬ x1 < 0 → x1.toNatClampNeg ≤ 60000000 ∧ rmF E f 1 x1.toNatClampNeg ∧ ∀ (a1 : Nat) (f2 : RH), a1 = f.1 → f2 = fnewA f 4 x1.toNatClampNeg → ExC l E w (d + 1) MX6_things 39 [none, some (.int x1), none, some (.ref a1), some (.int 0)] [] s f2 Q) ∧ (x1 < 0 → (rmF E f 3 222 ∧ (∀ (a4 : Nat) (f3 : RH), f3 = fexc f → (EvC l E w d MX3_wrong [.ref (w.1 3), .int 1, .int x2] s f3 (fun o s5 f6 => KP o (fun r => r = some (.ref (w.1 9)) ∧ Q (.inr 9) s5 f6) (fun k => Q (.inr k) s5 f6)))))))) ∧ (¬ x1 ≤ 20 → (EvC l E w d MX3_wrong [.ref (w.1 3), .int 2, .int x2] s f (fun o s7 f8 => KP o (fun r => r = some (.ref (w.1 9)) ∧ Q (.inr 9) s7 f8) (fun k => Q (.inr k) s7 f8)))))) : ExC l E w (d + 1) MX6_things 0 [some (.ref (w.1 6)), some (.int x1), some (.int x2), none, none] [] s f Q := by
  intro f0 h hW hF
  refine x_iload_n dX6_things_0 rfl rfl ?_
  refine x_bipush (v := 20) dX6_things_1 rfl ?_
  refine x_icmp_le (tgt := 16) dX6_things_3 rfl (fun c => ?_) (fun c => ?_)
  · replace hT := hT.1 c
    refine x_iload_n dX6_things_16 rfl rfl ?_
    by_cases hn : x1 < 0
    · obtain ⟨hr, hT⟩ := hT.2 hn
      refine c_anewarrayX (t := 4) dX6_things_17 q337 rfl q1551 hn hr (Nat.le_of_ble_eq_true rfl) rfl hW hF ?_
      intro f3 ef3 h a4 hW hx hF
      replace hT := hT a4 f3 ef3
      refine c_catch (hsr_yes (by decide) (by decide) q1704 (Or.inl rfl)) hW hx ?_
      refine x_astore (lo' := [some (.ref (w.1 6)), some (.int x1), some (.int x2), none, some (.ref a4)]) dX6_things_24 (Nat.le_of_ble_eq_true rfl) rfl rfl ?_
      refine x_aload_n dX6_things_26 rfl rfl rfl ?_
      refine c_getO dX6_things_27 f_TallySlate_Maker_9 (by decide) (by decide) rfl hW ?_
      refine x_iconst (v := 1) dX6_things_30 rfl ?_
      refine x_iload_n dX6_things_31 rfl rfl ?_
      obtain ⟨-, -, cc, hcc, -⟩ := hW.ob 3 (by decide)
      refine c_invV (vs := [.int 1, .int x2]) dX6_things_32 oX3_wrong q1323 q1550 hcc q1324 (Or.inl rfl) rfl rfl (Nat.le_of_ble_eq_true rfl) rfl hW hF hT ?_ ?_
      · intro _ s5 f6 hT h hW hF
        obtain ⟨rfl, hT⟩ := hT
        refine x_athrow dX6_things_35 ?_
        exact c_out (hsr_skip (by decide) (rfl)) hW (Or.inl ⟨rfl, rfl⟩) hF hT
      · intro k s5 f6 hT h a hW hx hF
        exact c_out (hsr_skip (by decide) (rfl)) hW hx hF hT
    · replace hT := hT.1 hn
      obtain ⟨hb, hr, hT⟩ := hT
      refine c_anewarrayG (t := 4) dX6_things_17 (by decide) (by decide) (by decide) rfl q337 (Or.inl ⟨_, rfl, q1551⟩) hn hb hr hW hF ?_
      intro a1 f2 ea1 ef2 h hW hF
      replace hT := hT a1 f2 ea1 ef2
      refine x_astore_n (lo' := [some (.ref (w.1 6)), some (.int x1), some (.int x2), some (.ref a1), none]) dX6_things_20 rfl (Nat.le_of_ble_eq_true rfl) rfl rfl ?_
      refine x_goto (tgt := 36) dX6_things_21 rfl ?_
      refine x_iconst (v := 0) dX6_things_36 rfl ?_
      refine x_istore (lo' := [some (.ref (w.1 6)), some (.int x1), some (.int x2), some (.ref a1), some (.int 0)]) dX6_things_37 (Nat.le_of_ble_eq_true rfl) rfl ?_
      refine Ex.wkl (lo' := [none, some (.int x1), none, some (.ref a1), some (.int 0)]) ⟨rfl, rfl, rfl, trivial⟩ ?_
      exact hT f0 h hW hF
  · replace hT := hT.2 c
    refine x_aload_n dX6_things_6 rfl rfl rfl ?_
    refine c_getO dX6_things_7 f_TallySlate_Maker_9 (by decide) (by decide) rfl hW ?_
    refine x_iconst (v := 2) dX6_things_10 rfl ?_
    refine x_iload_n dX6_things_11 rfl rfl ?_
    obtain ⟨-, -, cc, hcc, -⟩ := hW.ob 3 (by decide)
    refine c_invV (vs := [.int 2, .int x2]) dX6_things_12 oX3_wrong q1323 q1550 hcc q1324 (Or.inl rfl) rfl rfl (Nat.le_of_ble_eq_true rfl) rfl hW hF hT ?_ ?_
    · intro _ s7 f8 hT h hW hF
      obtain ⟨rfl, hT⟩ := hT
      refine x_athrow dX6_things_15 ?_
      exact c_out (hsr_skip (by decide) (rfl)) hW (Or.inl ⟨rfl, rfl⟩) hF hT
    · intro k s7 f8 hT h a hW hx hF
      exact c_out (hsr_skip (by decide) (rfl)) hW hx hF hT
theorem eNX6_things {l : Launch} {E : EN} {w : CO} {d : Nat} {s : CS} {f : RH} {Q : KO → CS → RH → Prop} {x1 : Int32} {x2 : Int32}  (hst : l.stackTraces = false) (hT : ((x1 ≤ 20 → ((¬ x1 < 0 → x1.toNatClampNeg ≤ 60000000 ∧ rmF E f 1 x1.toNatClampNeg ∧ ∀ (a1 : Nat) (f2 : RH), a1 = f.1 → f2 = fnewA f 4 x1.toNatClampNeg → ExC l E w (d + 1) MX6_things 39 [none, some (.int x1), none, some (.ref a1), some (.int 0)] [] s f2 Q) ∧ (x1 < 0 → (rmF E f 3 222 ∧ (∀ (a4 : Nat) (f3 : RH), f3 = fexc f → (EvC l E w d MX3_wrong [.ref (w.1 3), .int 1, .int x2] s f3 (fun o s5 f6 => KP o (fun r => r = some (.ref (w.1 9)) ∧ Q (.inr 9) s5 f6) (fun k => Q (.inr k) s5 f6)))))))) ∧ (¬ x1 ≤ 20 → (EvC l E w d MX3_wrong [.ref (w.1 3), .int 2, .int x2] s f (fun o s7 f8 => KP o (fun r => r = some (.ref (w.1 9)) ∧ Q (.inr 9) s7 f8) (fun k => Q (.inr k) s7 f8)))))) : EvC l E w (d + 1) MX6_things [.ref (w.1 6), .int x1, .int x2] s f Q :=
  EvC.of hst (by decide) (Nat.le_of_ble_eq_true rfl) (vNX6_things_0  hT)
theorem vNX6_things_39 {l : Launch} {E : EN} {w : CO} {d : Nat} {s : CS} {f : RH} {Q : KO → CS → RH → Prop} {b1 : Int32} {b3 : Nat} {b4 : Int32}  (hT : ((b1 ≤ b4 → Q (.inl (some (.ref b3))) s f) ∧ (¬ b1 ≤ b4 → (rmF E f 1 1 ∧ ∀ (a9 : Nat) (f10 : RH), a9 = f.1 → f10 = fnew f 32 → (EvC l E w d MX35_init [.ref a9, .int 0] s f10 (fun o s11 f12 => KP o (fun r => r = none ∧ (∃ k14 : Nat, (tg f12 b3 = some (.inr 4) ∧ tg f12 a9 = some (.inl k14) ∧ k14 ∈ CKs 4 ∧ inB b4 (ln f12 b3) ∧ f12.2.2.2 ≤ b3 ∧ ∀ f13 : RH, f13 = fset f12 b3 b4.toNatClampNeg (.ref a9) → ExC l E w (d + 1) MX6_things 39 [none, some (.int b1), none, some (.ref b3), some (.int (b4 + 1))] [] s11 f13 Q))) (fun k => Q (.inr k) s11 f12))))))) : ExC l E w (d + 1) MX6_things 39 [none, some (.int b1), none, some (.ref b3), some (.int b4)] [] s f Q := by
  intro f0 h hW hF
  refine x_iload dX6_things_39 rfl ?_
  refine x_iload_n dX6_things_41 rfl rfl ?_
  refine x_icmp_ge (tgt := 63) dX6_things_42 rfl (fun c => ?_) (fun c => ?_)
  · replace hT := hT.1 c
    refine x_aload_n dX6_things_63 rfl rfl rfl ?_
    exact x_aret dX6_things_64 rfl (by first | exact Or.inl ⟨_, rfl⟩ | exact Or.inr ⟨_, rfl⟩) rfl ⟨_, _, hW, hF, Or.inl ⟨_, rfl, hT⟩⟩
  · replace hT := hT.2 c
    refine x_aload_n dX6_things_45 rfl rfl rfl ?_
    refine x_iload dX6_things_46 rfl ?_
    obtain ⟨hr, hT⟩ := hT
    refine c_newG (k := 32) dX6_things_48 (by decide) q1723 q211 hr hW hF ?_
    intro a9 f10 ea9 ef10 h hW hF
    replace hT := hT a9 f10 ea9 ef10
    refine x_dup dX6_things_51 rfl ?_
    refine x_iconst (v := 0) dX6_things_52 rfl ?_
    refine c_invI (b := a9) (vs := [.int 0]) dX6_things_53 oX35_init rfl rfl rfl q1666 (Or.inl q1724) rfl rfl (Nat.le_of_ble_eq_true rfl) rfl hW hF hT ?_ ?_
    · intro _ s11 f12 hT h hW hF
      obtain ⟨rfl, hT⟩ := hT
      obtain ⟨k14, hc, hv, hck, hT⟩ := hT
      obtain ⟨hb, hz, hT⟩ := hT
      refine c_faastG dX6_things_56 hc (by decide) hv hck hb hz hW hF ?_
      intro f13 ef13 h hW hF
      replace hT := hT f13 ef13
      refine x_iinc (lo' := [none, some (.int b1), none, some (.ref b3), some (.int (b4 + 1))]) dX6_things_57 rfl (show _ = (b4 + 1) from rfl) rfl ?_
      refine x_goto (tgt := 39) dX6_things_60 rfl ?_
      exact hT f0 h hW hF
    · intro k s11 f12 hT h a hW hx hF
      exact c_out (hsr_skip (by decide) (rfl)) hW hx hF hT
