/-! weakest preconditions of methods of the component: printed by wpc.py -/
set_option maxRecDepth 100000
set_option maxHeartbeats 16000000 in
theorem vX5_of_0 {l : Launch} {E : EN} {w : CO} {d : Nat} {s : CS} {f : RH} {Q : KO → CS → RH → Prop} {x1 : Int32} {x2 : Int32} {x3 : Int32}  (hT : ((x1 = 37 → ((¬ x3 = 0 → Q (.inl (some (.int (x2 - x2 / x3 * x3)))) s f) ∧ (x3 = 0 → (rmF E f 3 222 ∧ (∀ (a2 : Nat) (f1 : RH), f1 = fexc f → Q (.inr 36) s f1))))) ∧ (¬ x1 = 37 → ((x1 = 38 → Q (.inl (some (.int (x2 &&& x3)))) s f) ∧ (¬ x1 = 38 → ((x1 = 42 → Q (.inl (some (.int (x2 * x3)))) s f) ∧ (¬ x1 = 42 → ((x1 = 43 → Q (.inl (some (.int (x2 + x3)))) s f) ∧ (¬ x1 = 43 → ((x1 = 45 → Q (.inl (some (.int (x2 - x3)))) s f) ∧ (¬ x1 = 45 → ((x1 = 47 → ((¬ x3 = 0 → Q (.inl (some (.int (x2 / x3)))) s f) ∧ (x3 = 0 → (rmF E f 3 222 ∧ (∀ (a4 : Nat) (f3 : RH), f3 = fexc f → Q (.inr 36) s f3))))) ∧ (¬ x1 = 47 → ((x1 = 60 → ((x3 ≤ x2 → Q (.inl (some (.int 0))) s f) ∧ (¬ x3 ≤ x2 → Q (.inl (some (.int 1))) s f))) ∧ (¬ x1 = 60 → ((x1 = 62 → ((x2 ≤ x3 → Q (.inl (some (.int 0))) s f) ∧ (¬ x2 ≤ x3 → Q (.inl (some (.int 1))) s f))) ∧ (¬ x1 = 62 → ((x1 = 124 → Q (.inl (some (.int (x2 ||| x3)))) s f) ∧ (¬ x1 = 124 → ((x1 = 289 → ((x2 = x3 → Q (.inl (some (.int 0))) s f) ∧ (¬ x2 = x3 → Q (.inl (some (.int 1))) s f))) ∧ (¬ x1 = 289 → ((x1 = 316 → ((x3 < x2 → Q (.inl (some (.int 0))) s f) ∧ (¬ x3 < x2 → Q (.inl (some (.int 1))) s f))) ∧ (¬ x1 = 316 → ((x1 = 317 → ((¬ x2 = x3 → Q (.inl (some (.int 0))) s f) ∧ (x2 = x3 → Q (.inl (some (.int 1))) s f))) ∧ (¬ x1 = 317 → (((x2 < x3 → Q (.inl (some (.int 0))) s f) ∧ (¬ x2 < x3 → Q (.inl (some (.int 1))) s f)))))))))))))))))))))))))))) : ExC l E w d MX5_of 0 [some (.int x1), some (.int x2), some (.int x3)] [] s f Q := by
  intro f0 h hW hF
  refine x_iload_n dX5_of_0 rfl rfl ?_
  by_cases c : x1 = 37
  · replace hT := hT.1 c
    refine x_lookup (tgt := 124) (off := 123) dX5_of_1 (by decide) (by rw [c]; decide) rfl ?_
    refine x_iload_n dX5_of_124 rfl rfl ?_
    refine x_iload_n dX5_of_125 rfl rfl ?_
    by_cases hb : x3 = 0
    · replace hT := hT.2 hb
      subst hb
      obtain ⟨hr, hT⟩ := hT
      refine c_iremX dX5_of_126 hr (Nat.le_of_ble_eq_true rfl) rfl hW hF ?_
      intro f1 ef1 h a2 hW hx hF
      replace hT := hT a2 f1 ef1
      exact c_out (rfl) hW hx hF hT
    · replace hT := hT.1 hb
      refine x_irem dX5_of_126 hb ?_
      exact x_iret dX5_of_127 rfl rfl ⟨_, _, hW, hF, Or.inl ⟨_, rfl, hT⟩⟩
  · replace hT := hT.2 c
    have cs0 := c
    by_cases c : x1 = 38
    · replace hT := hT.1 c
      refine x_lookup (tgt := 128) (off := 127) dX5_of_1 (by decide) (by rw [c]; decide) rfl ?_
      refine x_iload_n dX5_of_128 rfl rfl ?_
      refine x_iload_n dX5_of_129 rfl rfl ?_
      refine x_iand dX5_of_130 ?_
      exact x_iret dX5_of_131 rfl rfl ⟨_, _, hW, hF, Or.inl ⟨_, rfl, hT⟩⟩
    · replace hT := hT.2 c
      have cs1 := c
      by_cases c : x1 = 42
      · replace hT := hT.1 c
        refine x_lookup (tgt := 116) (off := 115) dX5_of_1 (by decide) (by rw [c]; decide) rfl ?_
        refine x_iload_n dX5_of_116 rfl rfl ?_
        refine x_iload_n dX5_of_117 rfl rfl ?_
        refine x_imul dX5_of_118 ?_
        exact x_iret dX5_of_119 rfl rfl ⟨_, _, hW, hF, Or.inl ⟨_, rfl, hT⟩⟩
      · replace hT := hT.2 c
        have cs2 := c
        by_cases c : x1 = 43
        · replace hT := hT.1 c
          refine x_lookup (tgt := 108) (off := 107) dX5_of_1 (by decide) (by rw [c]; decide) rfl ?_
          refine x_iload_n dX5_of_108 rfl rfl ?_
          refine x_iload_n dX5_of_109 rfl rfl ?_
          refine x_iadd dX5_of_110 ?_
          exact x_iret dX5_of_111 rfl rfl ⟨_, _, hW, hF, Or.inl ⟨_, rfl, hT⟩⟩
        · replace hT := hT.2 c
          have cs3 := c
          by_cases c : x1 = 45
          · replace hT := hT.1 c
            refine x_lookup (tgt := 112) (off := 111) dX5_of_1 (by decide) (by rw [c]; decide) rfl ?_
            refine x_iload_n dX5_of_112 rfl rfl ?_
            refine x_iload_n dX5_of_113 rfl rfl ?_
            refine x_isub dX5_of_114 ?_
            exact x_iret dX5_of_115 rfl rfl ⟨_, _, hW, hF, Or.inl ⟨_, rfl, hT⟩⟩
          · replace hT := hT.2 c
            have cs4 := c
            by_cases c : x1 = 47
            · replace hT := hT.1 c
              refine x_lookup (tgt := 120) (off := 119) dX5_of_1 (by decide) (by rw [c]; decide) rfl ?_
              refine x_iload_n dX5_of_120 rfl rfl ?_
              refine x_iload_n dX5_of_121 rfl rfl ?_
              by_cases hb : x3 = 0
              · replace hT := hT.2 hb
                subst hb
                obtain ⟨hr, hT⟩ := hT
                refine c_idivX dX5_of_122 hr (Nat.le_of_ble_eq_true rfl) rfl hW hF ?_
                intro f3 ef3 h a4 hW hx hF
                replace hT := hT a4 f3 ef3
                exact c_out (rfl) hW hx hF hT
              · replace hT := hT.1 hb
                refine x_idiv dX5_of_122 hb ?_
                exact x_iret dX5_of_123 rfl rfl ⟨_, _, hW, hF, Or.inl ⟨_, rfl, hT⟩⟩
            · replace hT := hT.2 c
              have cs5 := c
              by_cases c : x1 = 60
              · replace hT := hT.1 c
                refine x_lookup (tgt := 136) (off := 135) dX5_of_1 (by decide) (by rw [c]; decide) rfl ?_
                refine x_iload_n dX5_of_136 rfl rfl ?_
                refine x_iload_n dX5_of_137 rfl rfl ?_
                refine x_icmp_ge (tgt := 145) dX5_of_138 rfl (fun c => ?_) (fun c => ?_)
                · replace hT := hT.1 c
                  refine x_iconst (v := 0) dX5_of_145 rfl ?_
                  exact x_iret dX5_of_146 rfl rfl ⟨_, _, hW, hF, Or.inl ⟨_, rfl, hT⟩⟩
                · replace hT := hT.2 c
                  refine x_iconst (v := 1) dX5_of_141 rfl ?_
                  refine x_goto (tgt := 146) dX5_of_142 rfl ?_
                  exact x_iret dX5_of_146 rfl rfl ⟨_, _, hW, hF, Or.inl ⟨_, rfl, hT⟩⟩
              · replace hT := hT.2 c
                have cs6 := c
                by_cases c : x1 = 62
                · replace hT := hT.1 c
                  refine x_lookup (tgt := 147) (off := 146) dX5_of_1 (by decide) (by rw [c]; decide) rfl ?_
                  refine x_iload_n dX5_of_147 rfl rfl ?_
                  refine x_iload_n dX5_of_148 rfl rfl ?_
                  refine x_icmp_le (tgt := 156) dX5_of_149 rfl (fun c => ?_) (fun c => ?_)
                  · replace hT := hT.1 c
                    refine x_iconst (v := 0) dX5_of_156 rfl ?_
                    exact x_iret dX5_of_157 rfl rfl ⟨_, _, hW, hF, Or.inl ⟨_, rfl, hT⟩⟩
                  · replace hT := hT.2 c
                    refine x_iconst (v := 1) dX5_of_152 rfl ?_
                    refine x_goto (tgt := 157) dX5_of_153 rfl ?_
                    exact x_iret dX5_of_157 rfl rfl ⟨_, _, hW, hF, Or.inl ⟨_, rfl, hT⟩⟩
                · replace hT := hT.2 c
                  have cs7 := c
                  by_cases c : x1 = 124
                  · replace hT := hT.1 c
                    refine x_lookup (tgt := 132) (off := 131) dX5_of_1 (by decide) (by rw [c]; decide) rfl ?_
                    refine x_iload_n dX5_of_132 rfl rfl ?_
                    refine x_iload_n dX5_of_133 rfl rfl ?_
                    refine x_ior dX5_of_134 ?_
                    exact x_iret dX5_of_135 rfl rfl ⟨_, _, hW, hF, Or.inl ⟨_, rfl, hT⟩⟩
                  · replace hT := hT.2 c
                    have cs8 := c
                    by_cases c : x1 = 289
                    · replace hT := hT.1 c
                      refine x_lookup (tgt := 169) (off := 168) dX5_of_1 (by decide) (by rw [c]; decide) rfl ?_
                      refine x_iload_n dX5_of_169 rfl rfl ?_
                      refine x_iload_n dX5_of_170 rfl rfl ?_
                      refine x_icmp_eq (tgt := 178) dX5_of_171 rfl (fun c => ?_) (fun c => ?_)
                      · replace hT := hT.1 c
                        refine x_iconst (v := 0) dX5_of_178 rfl ?_
                        exact x_iret dX5_of_179 rfl rfl ⟨_, _, hW, hF, Or.inl ⟨_, rfl, hT⟩⟩
                      · replace hT := hT.2 c
                        refine x_iconst (v := 1) dX5_of_174 rfl ?_
                        refine x_goto (tgt := 179) dX5_of_175 rfl ?_
                        exact x_iret dX5_of_179 rfl rfl ⟨_, _, hW, hF, Or.inl ⟨_, rfl, hT⟩⟩
                    · replace hT := hT.2 c
                      have cs9 := c
                      by_cases c : x1 = 316
                      · replace hT := hT.1 c
                        refine x_lookup (tgt := 180) (off := 179) dX5_of_1 (by decide) (by rw [c]; decide) rfl ?_
                        refine x_iload_n dX5_of_180 rfl rfl ?_
                        refine x_iload_n dX5_of_181 rfl rfl ?_
                        refine x_icmp_gt (tgt := 189) dX5_of_182 rfl (fun c => ?_) (fun c => ?_)
                        · replace hT := hT.1 c
                          refine x_iconst (v := 0) dX5_of_189 rfl ?_
                          exact x_iret dX5_of_190 rfl rfl ⟨_, _, hW, hF, Or.inl ⟨_, rfl, hT⟩⟩
                        · replace hT := hT.2 c
                          refine x_iconst (v := 1) dX5_of_185 rfl ?_
                          refine x_goto (tgt := 190) dX5_of_186 rfl ?_
                          exact x_iret dX5_of_190 rfl rfl ⟨_, _, hW, hF, Or.inl ⟨_, rfl, hT⟩⟩
                      · replace hT := hT.2 c
                        have cs10 := c
                        by_cases c : x1 = 317
                        · replace hT := hT.1 c
                          refine x_lookup (tgt := 158) (off := 157) dX5_of_1 (by decide) (by rw [c]; decide) rfl ?_
                          refine x_iload_n dX5_of_158 rfl rfl ?_
                          refine x_iload_n dX5_of_159 rfl rfl ?_
                          refine x_icmp_ne (tgt := 167) dX5_of_160 rfl (fun c => ?_) (fun c => ?_)
                          · replace hT := hT.1 c
                            refine x_iconst (v := 0) dX5_of_167 rfl ?_
                            exact x_iret dX5_of_168 rfl rfl ⟨_, _, hW, hF, Or.inl ⟨_, rfl, hT⟩⟩
                          · replace hT := hT.2 c
                            refine x_iconst (v := 1) dX5_of_163 rfl ?_
                            refine x_goto (tgt := 168) dX5_of_164 rfl ?_
                            exact x_iret dX5_of_168 rfl rfl ⟨_, _, hW, hF, Or.inl ⟨_, rfl, hT⟩⟩
                        · replace hT := hT.2 c
                          have cs11 := c
                          refine x_lookup (tgt := 191) (off := 190) dX5_of_1 (by decide) (lkd _ _ _ (fun q hq => by
                            simp only [List.mem_cons, List.not_mem_nil, or_false] at hq
                            rcases hq with rfl | rfl | rfl | rfl | rfl | rfl | rfl | rfl | rfl | rfl | rfl | rfl
                            · exact fun h => cs0 (i32_of (h.symm.trans (show (37 : Int) = (37 : Int32).toInt from by decide)))
                            · exact fun h => cs1 (i32_of (h.symm.trans (show (38 : Int) = (38 : Int32).toInt from by decide)))
                            · exact fun h => cs2 (i32_of (h.symm.trans (show (42 : Int) = (42 : Int32).toInt from by decide)))
                            · exact fun h => cs3 (i32_of (h.symm.trans (show (43 : Int) = (43 : Int32).toInt from by decide)))
                            · exact fun h => cs4 (i32_of (h.symm.trans (show (45 : Int) = (45 : Int32).toInt from by decide)))
                            · exact fun h => cs5 (i32_of (h.symm.trans (show (47 : Int) = (47 : Int32).toInt from by decide)))
                            · exact fun h => cs6 (i32_of (h.symm.trans (show (60 : Int) = (60 : Int32).toInt from by decide)))
                            · exact fun h => cs7 (i32_of (h.symm.trans (show (62 : Int) = (62 : Int32).toInt from by decide)))
                            · exact fun h => cs8 (i32_of (h.symm.trans (show (124 : Int) = (124 : Int32).toInt from by decide)))
                            · exact fun h => cs9 (i32_of (h.symm.trans (show (289 : Int) = (289 : Int32).toInt from by decide)))
                            · exact fun h => cs10 (i32_of (h.symm.trans (show (316 : Int) = (316 : Int32).toInt from by decide)))
                            · exact fun h => cs11 (i32_of (h.symm.trans (show (317 : Int) = (317 : Int32).toInt from by decide))))) rfl ?_
                          refine x_iload_n dX5_of_191 rfl rfl ?_
                          refine x_iload_n dX5_of_192 rfl rfl ?_
                          refine x_icmp_lt (tgt := 200) dX5_of_193 rfl (fun c => ?_) (fun c => ?_)
                          · replace hT := hT.1 c
                            refine x_iconst (v := 0) dX5_of_200 rfl ?_
                            exact x_iret dX5_of_201 rfl rfl ⟨_, _, hW, hF, Or.inl ⟨_, rfl, hT⟩⟩
                          · replace hT := hT.2 c
                            refine x_iconst (v := 1) dX5_of_196 rfl ?_
                            refine x_goto (tgt := 201) dX5_of_197 rfl ?_
                            exact x_iret dX5_of_201 rfl rfl ⟨_, _, hW, hF, Or.inl ⟨_, rfl, hT⟩⟩
theorem eX5_of {l : Launch} {E : EN} {w : CO} {d : Nat} {s : CS} {f : RH} {Q : KO → CS → RH → Prop} {x1 : Int32} {x2 : Int32} {x3 : Int32}  (hst : l.stackTraces = false) (hT : ((x1 = 37 → ((¬ x3 = 0 → Q (.inl (some (.int (x2 - x2 / x3 * x3)))) s f) ∧ (x3 = 0 → (rmF E f 3 222 ∧ (∀ (a2 : Nat) (f1 : RH), f1 = fexc f → Q (.inr 36) s f1))))) ∧ (¬ x1 = 37 → ((x1 = 38 → Q (.inl (some (.int (x2 &&& x3)))) s f) ∧ (¬ x1 = 38 → ((x1 = 42 → Q (.inl (some (.int (x2 * x3)))) s f) ∧ (¬ x1 = 42 → ((x1 = 43 → Q (.inl (some (.int (x2 + x3)))) s f) ∧ (¬ x1 = 43 → ((x1 = 45 → Q (.inl (some (.int (x2 - x3)))) s f) ∧ (¬ x1 = 45 → ((x1 = 47 → ((¬ x3 = 0 → Q (.inl (some (.int (x2 / x3)))) s f) ∧ (x3 = 0 → (rmF E f 3 222 ∧ (∀ (a4 : Nat) (f3 : RH), f3 = fexc f → Q (.inr 36) s f3))))) ∧ (¬ x1 = 47 → ((x1 = 60 → ((x3 ≤ x2 → Q (.inl (some (.int 0))) s f) ∧ (¬ x3 ≤ x2 → Q (.inl (some (.int 1))) s f))) ∧ (¬ x1 = 60 → ((x1 = 62 → ((x2 ≤ x3 → Q (.inl (some (.int 0))) s f) ∧ (¬ x2 ≤ x3 → Q (.inl (some (.int 1))) s f))) ∧ (¬ x1 = 62 → ((x1 = 124 → Q (.inl (some (.int (x2 ||| x3)))) s f) ∧ (¬ x1 = 124 → ((x1 = 289 → ((x2 = x3 → Q (.inl (some (.int 0))) s f) ∧ (¬ x2 = x3 → Q (.inl (some (.int 1))) s f))) ∧ (¬ x1 = 289 → ((x1 = 316 → ((x3 < x2 → Q (.inl (some (.int 0))) s f) ∧ (¬ x3 < x2 → Q (.inl (some (.int 1))) s f))) ∧ (¬ x1 = 316 → ((x1 = 317 → ((¬ x2 = x3 → Q (.inl (some (.int 0))) s f) ∧ (x2 = x3 → Q (.inl (some (.int 1))) s f))) ∧ (¬ x1 = 317 → (((x2 < x3 → Q (.inl (some (.int 0))) s f) ∧ (¬ x2 < x3 → Q (.inl (some (.int 1))) s f)))))))))))))))))))))))))))) : EvC l E w d MX5_of [.int x1, .int x2, .int x3] s f Q :=
  EvC.of hst (by decide) (Nat.le_of_ble_eq_true rfl) (vX5_of_0  hT)
set_option maxHeartbeats 16000000 in
theorem vX5_tables_0 {l : Launch} {E : EN} {w : CO} {d : Nat} {s : CS} {f : RH} {Q : KO → CS → RH → Prop} {x1 : Int32} {x2 : Value} {x3 : Int32} {x4 : Value} {x5 : Int32} (ix2 : isR x2 = true) (ix4 : isR x4 = true) (hT : (isT f x2 ∧ ((∀ a2 : Nat, x2 = .ref a2 → tg f a2 = some (.inl 30) → (∃ P9 : KO → CS → RH → Prop, (∀ o s3 f4, P9 o s3 f4 → KP o (fun r => ∃ v5 : Int32, r = some (.int v5) ∧ (¬ v5 < 0 ∧ v5.toNatClampNeg ≤ 60000000 ∧ rmF E f4 1 v5.toNatClampNeg ∧ ∀ (a6 : Nat) (f7 : RH), a6 = f4.1 → f7 = fnewA f4 11 v5.toNatClampNeg → ExC l E w (d + 1) MX5_tables 30 [some (.int x1), some (.ref a2), some (.int x3), some (x4), some (.int x5), some (.int v5), some (.ref a6), some (.int 0)] [] s3 f7 Q)) (fun k => Q (.inr k) s3 f4)) ∧ ∃ k8 : Nat, oc f a2 k8 ∧ ((k8 = 29 ∧ EvC l E w d MX32_size [.ref a2] s f P9) ∨ (k8 = 30 ∧ EvC l E w d MX33_size [.ref a2] s f P9) ∨ (k8 = 31 ∧ EvC l E w d MX34_size [.ref a2] s f P9) ∨ (k8 = 32 ∧ EvC l E w d MX35_size [.ref a2] s f P9)))) ∧ ((∀ z : Nat, x2 = .ref z → ¬ tg f z = some (.inl 30)) → (∃ a12 : Nat, x4 = .ref a12 ∧ (∃ P17 : KO → CS → RH → Prop, (∀ o s10 f11, P17 o s10 f11 → KP o (fun r => ∃ v13 : Int32, r = some (.int v13) ∧ (¬ v13 < 0 ∧ v13.toNatClampNeg ≤ 60000000 ∧ rmF E f11 1 v13.toNatClampNeg ∧ ∀ (a14 : Nat) (f15 : RH), a14 = f11.1 → f15 = fnewA f11 11 v13.toNatClampNeg → ExC l E w (d + 1) MX5_tables 30 [some (.int x1), some (x2), some (.int x3), some (.ref a12), some (.int x5), some (.int v13), some (.ref a14), some (.int 0)] [] s10 f15 Q)) (fun k => Q (.inr k) s10 f11)) ∧ ∃ k16 : Nat, oc f a12 k16 ∧ ((k16 = 29 ∧ EvC l E w d MX32_size [.ref a12] s f P17) ∨ (k16 = 30 ∧ EvC l E w d MX33_size [.ref a12] s f P17) ∨ (k16 = 31 ∧ EvC l E w d MX34_size [.ref a12] s f P17) ∨ (k16 = 32 ∧ EvC l E w d MX35_size [.ref a12] s f P17)))))))) : ExC l E w (d + 1) MX5_tables 0 [some (.int x1), some (x2), some (.int x3), some (x4), some (.int x5), none, none, none] [] s f Q := by
  intro f0 h hW hF
  refine x_aload_n dX5_tables_0 rfl rfl ix2 ?_
  obtain ⟨ht, hT⟩ := hT
  refine c_instV (K := 30) dX5_tables_1 (by decide) q1446 ht hW (fun a2 ec hi1 => ?_) (fun hi1 => ?_)
  · subst ec
    replace hT := hT.1 a2 rfl hi1
    refine x_if_eq (tgt := 14) dX5_tables_4 rfl (fun c => absurd c (by decide)) (fun _ => ?_)
    refine x_aload_n dX5_tables_7 rfl rfl rfl ?_
    obtain ⟨P9, hP, k8, hc, hT⟩ := hT
    have kr : ∀ r s3 f4, P9 (.inl r) s3 f4 → ∀ h, CW E w s3 f4 h → Frz f0 f4 → Ex l E (d + 1) MX5_tables (8 + 3) [some (.int x1), some (.ref a2), some (.int x3), some (x4), some (.int x5), none, none, none] (r.toList ++ []) h (PoC E w f0 Q) := by
      intro r s3 f4 h0 h hW hF
      have hT := hP _ _ _ h0
      clear h0
      obtain ⟨v5, rfl, hT⟩ := hT
      refine x_goto (tgt := 18) dX5_tables_11 rfl ?_
      refine x_istore (lo' := [some (.int x1), some (.ref a2), some (.int x3), some (x4), some (.int x5), some (.int v5), none, none]) dX5_tables_18 (Nat.le_of_ble_eq_true rfl) rfl ?_
      refine x_iload dX5_tables_20 rfl ?_
      obtain ⟨hn, hT⟩ := hT
      obtain ⟨hb, hr, hT⟩ := hT
      refine c_anewarrayG (t := 11) dX5_tables_22 (by decide) (by decide) (by decide) rfl q1463 (Or.inr ⟨_, rfl, q1462⟩) hn hb hr hW hF ?_
      intro a6 f7 ea6 ef7 h hW hF
      replace hT := hT a6 f7 ea6 ef7
      refine x_astore (lo' := [some (.int x1), some (.ref a2), some (.int x3), some (x4), some (.int x5), some (.int v5), some (.ref a6), none]) dX5_tables_25 (Nat.le_of_ble_eq_true rfl) rfl rfl ?_
      refine x_iconst (v := 0) dX5_tables_27 rfl ?_
      refine x_istore (lo' := [some (.int x1), some (.ref a2), some (.int x3), some (x4), some (.int x5), some (.int v5), some (.ref a6), some (.int 0)]) dX5_tables_28 (Nat.le_of_ble_eq_true rfl) rfl ?_
      exact hT f0 h hW hF
    have kt : ∀ k s3 f4, P9 (.inr k) s3 f4 → ∀ h a, CW E w s3 f4 h → xA w h k a → Frz f0 f4 → ExT l E (d + 1) MX5_tables 8 [some (.int x1), some (.ref a2), some (.int x3), some (x4), some (.int x5), none, none, none] [] a h (PoC E w f0 Q) := by
      intro k s3 f4 h0 h a hW hx hF
      have hT := hP _ _ _ h0
      clear h0
      exact c_out (rfl) hW hx hF hT
    obtain ⟨cc, hcc⟩ := hW.ocell hc
    rcases hT with ⟨rfl, hT⟩ | ⟨rfl, hT⟩ | ⟨rfl, hT⟩ | ⟨rfl, hT⟩
    · exact c_invV (vs := []) dX5_tables_8 oX32_size q1454 q1447 hcc q1453 (Or.inr hy_Thing_size) rfl rfl (Nat.le_of_ble_eq_true rfl) rfl hW hF hT kr kt
    · exact c_invV (vs := []) dX5_tables_8 oX33_size q1457 q1447 hcc q1456 (Or.inr hy_Thing_size) rfl rfl (Nat.le_of_ble_eq_true rfl) rfl hW hF hT kr kt
    · exact c_invV (vs := []) dX5_tables_8 oX34_size q1451 q1447 hcc q1450 (Or.inr hy_Thing_size) rfl rfl (Nat.le_of_ble_eq_true rfl) rfl hW hF hT kr kt
    · exact c_invV (vs := []) dX5_tables_8 oX35_size q1460 q1447 hcc q1459 (Or.inr hy_Thing_size) rfl rfl (Nat.le_of_ble_eq_true rfl) rfl hW hF hT kr kt
  · replace hT := hT.2 hi1
    refine x_if_eq (tgt := 14) dX5_tables_4 rfl (fun _ => ?_) (fun c => absurd c (by decide))
    refine x_aload_n dX5_tables_14 rfl rfl ix4 ?_
    obtain ⟨a12, rfl, hT⟩ := hT
    obtain ⟨P17, hP, k16, hc, hT⟩ := hT
    have kr : ∀ r s10 f11, P17 (.inl r) s10 f11 → ∀ h, CW E w s10 f11 h → Frz f0 f11 → Ex l E (d + 1) MX5_tables (15 + 3) [some (.int x1), some (x2), some (.int x3), some (.ref a12), some (.int x5), none, none, none] (r.toList ++ []) h (PoC E w f0 Q) := by
      intro r s10 f11 h0 h hW hF
      have hT := hP _ _ _ h0
      clear h0
      obtain ⟨v13, rfl, hT⟩ := hT
      refine x_istore (lo' := [some (.int x1), some (x2), some (.int x3), some (.ref a12), some (.int x5), some (.int v13), none, none]) dX5_tables_18 (Nat.le_of_ble_eq_true rfl) rfl ?_
      refine x_iload dX5_tables_20 rfl ?_
      obtain ⟨hn, hT⟩ := hT
      obtain ⟨hb, hr, hT⟩ := hT
      refine c_anewarrayG (t := 11) dX5_tables_22 (by decide) (by decide) (by decide) rfl q1463 (Or.inr ⟨_, rfl, q1462⟩) hn hb hr hW hF ?_
      intro a14 f15 ea14 ef15 h hW hF
      replace hT := hT a14 f15 ea14 ef15
      refine x_astore (lo' := [some (.int x1), some (x2), some (.int x3), some (.ref a12), some (.int x5), some (.int v13), some (.ref a14), none]) dX5_tables_25 (Nat.le_of_ble_eq_true rfl) rfl rfl ?_
      refine x_iconst (v := 0) dX5_tables_27 rfl ?_
      refine x_istore (lo' := [some (.int x1), some (x2), some (.int x3), some (.ref a12), some (.int x5), some (.int v13), some (.ref a14), some (.int 0)]) dX5_tables_28 (Nat.le_of_ble_eq_true rfl) rfl ?_
      exact hT f0 h hW hF
    have kt : ∀ k s10 f11, P17 (.inr k) s10 f11 → ∀ h a, CW E w s10 f11 h → xA w h k a → Frz f0 f11 → ExT l E (d + 1) MX5_tables 15 [some (.int x1), some (x2), some (.int x3), some (.ref a12), some (.int x5), none, none, none] [] a h (PoC E w f0 Q) := by
      intro k s10 f11 h0 h a hW hx hF
      have hT := hP _ _ _ h0
      clear h0
      exact c_out (rfl) hW hx hF hT
    obtain ⟨cc, hcc⟩ := hW.ocell hc
    rcases hT with ⟨rfl, hT⟩ | ⟨rfl, hT⟩ | ⟨rfl, hT⟩ | ⟨rfl, hT⟩
    · exact c_invV (vs := []) dX5_tables_15 oX32_size q1454 q1447 hcc q1453 (Or.inr hy_Thing_size) rfl rfl (Nat.le_of_ble_eq_true rfl) rfl hW hF hT kr kt
    · exact c_invV (vs := []) dX5_tables_15 oX33_size q1457 q1447 hcc q1456 (Or.inr hy_Thing_size) rfl rfl (Nat.le_of_ble_eq_true rfl) rfl hW hF hT kr kt
    · exact c_invV (vs := []) dX5_tables_15 oX34_size q1451 q1447 hcc q1450 (Or.inr hy_Thing_size) rfl rfl (Nat.le_of_ble_eq_true rfl) rfl hW hF hT kr kt
    · exact c_invV (vs := []) dX5_tables_15 oX35_size q1460 q1447 hcc q1459 (Or.inr hy_Thing_size) rfl rfl (Nat.le_of_ble_eq_true rfl) rfl hW hF hT kr kt
theorem eX5_tables {l : Launch} {E : EN} {w : CO} {d : Nat} {s : CS} {f : RH} {Q : KO → CS → RH → Prop} {x1 : Int32} {x2 : Value} {x3 : Int32} {x4 : Value} {x5 : Int32} (ix2 : isR x2 = true) (ix4 : isR x4 = true) (hst : l.stackTraces = false) (hT : (isT f x2 ∧ ((∀ a2 : Nat, x2 = .ref a2 → tg f a2 = some (.inl 30) → (∃ P9 : KO → CS → RH → Prop, (∀ o s3 f4, P9 o s3 f4 → KP o (fun r => ∃ v5 : Int32, r = some (.int v5) ∧ (¬ v5 < 0 ∧ v5.toNatClampNeg ≤ 60000000 ∧ rmF E f4 1 v5.toNatClampNeg ∧ ∀ (a6 : Nat) (f7 : RH), a6 = f4.1 → f7 = fnewA f4 11 v5.toNatClampNeg → ExC l E w (d + 1) MX5_tables 30 [some (.int x1), some (.ref a2), some (.int x3), some (x4), some (.int x5), some (.int v5), some (.ref a6), some (.int 0)] [] s3 f7 Q)) (fun k => Q (.inr k) s3 f4)) ∧ ∃ k8 : Nat, oc f a2 k8 ∧ ((k8 = 29 ∧ EvC l E w d MX32_size [.ref a2] s f P9) ∨ (k8 = 30 ∧ EvC l E w d MX33_size [.ref a2] s f P9) ∨ (k8 = 31 ∧ EvC l E w d MX34_size [.ref a2] s f P9) ∨ (k8 = 32 ∧ EvC l E w d MX35_size [.ref a2] s f P9)))) ∧ ((∀ z : Nat, x2 = .ref z → ¬ tg f z = some (.inl 30)) → (∃ a12 : Nat, x4 = .ref a12 ∧ (∃ P17 : KO → CS → RH → Prop, (∀ o s10 f11, P17 o s10 f11 → KP o (fun r => ∃ v13 : Int32, r = some (.int v13) ∧ (¬ v13 < 0 ∧ v13.toNatClampNeg ≤ 60000000 ∧ rmF E f11 1 v13.toNatClampNeg ∧ ∀ (a14 : Nat) (f15 : RH), a14 = f11.1 → f15 = fnewA f11 11 v13.toNatClampNeg → ExC l E w (d + 1) MX5_tables 30 [some (.int x1), some (x2), some (.int x3), some (.ref a12), some (.int x5), some (.int v13), some (.ref a14), some (.int 0)] [] s10 f15 Q)) (fun k => Q (.inr k) s10 f11)) ∧ ∃ k16 : Nat, oc f a12 k16 ∧ ((k16 = 29 ∧ EvC l E w d MX32_size [.ref a12] s f P17) ∨ (k16 = 30 ∧ EvC l E w d MX33_size [.ref a12] s f P17) ∨ (k16 = 31 ∧ EvC l E w d MX34_size [.ref a12] s f P17) ∨ (k16 = 32 ∧ EvC l E w d MX35_size [.ref a12] s f P17)))))))) : EvC l E w (d + 1) MX5_tables [.int x1, x2, .int x3, x4, .int x5] s f Q :=by
  rcases isR_cases ix2 with rfl | ⟨_, rfl⟩ <;> rcases isR_cases ix4 with rfl | ⟨_, rfl⟩ <;> exact
  
  EvC.of hst (by decide) (Nat.le_of_ble_eq_true rfl) (vX5_tables_0 ix2 ix4 hT)
theorem vX5_tables_30 {l : Launch} {E : EN} {w : CO} {d : Nat} {s : CS} {f : RH} {Q : KO → CS → RH → Prop} {b0 : Int32} {b1 : Value} {b2 : Int32} {b3 : Value} {b4 : Int32} {b5 : Int32} {b6 : Nat} {b7 : Int32} (ib1 : isR b1 = true) (ib3 : isR b3 = true) (hT : ((b5 ≤ b7 → (rmF E f 1 2 ∧ ∀ (a18 : Nat) (f19 : RH), a18 = f.1 → f19 = fnew f 30 → (EvC l E w d MX33_init [.ref a18, .ref b6] s f19 (fun o s20 f21 => KP o (fun r => r = none ∧ Q (.inl (some (.ref a18))) s20 f21) (fun k => Q (.inr k) s20 f21))))) ∧ (¬ b5 ≤ b7 → (EvC l E w d MX5_rowOf [b1, .int b7] s f (fun o s22 f23 => KP o (fun r => ∃ v24 : Value, r = some v24 ∧ isR v24 = true ∧ (EvC l E w d MX5_rowOf [b3, .int b7] s22 f23 (fun o s25 f26 => KP o (fun r => ∃ v27 : Value, r = some v27 ∧ isR v27 = true ∧ (EvC l E w d MX5_rows [.int b0, v24, .int b2, v27, .int b4] s25 f26 (fun o s28 f29 => KP o (fun r => ∃ a30 : Nat, r = some (.ref a30) ∧ (tg f29 b6 = some (.inr 11) ∧ tg f29 a30 = some (.inr 0) ∧ ez E ≤ a30 ∧ inB b7 (ln f29 b6) ∧ f29.2.2.2 ≤ b6 ∧ ∀ f31 : RH, f31 = fset f29 b6 b7.toNatClampNeg (.ref a30) → ExC l E w (d + 1) MX5_tables 30 [some (.int b0), some (b1), some (.int b2), some (b3), some (.int b4), some (.int b5), some (.ref b6), some (.int (b7 + 1))] [] s28 f31 Q)) (fun k => Q (.inr k) s28 f29)))) (fun k => Q (.inr k) s25 f26)))) (fun k => Q (.inr k) s22 f23)))))) : ExC l E w (d + 1) MX5_tables 30 [some (.int b0), some (b1), some (.int b2), some (b3), some (.int b4), some (.int b5), some (.ref b6), some (.int b7)] [] s f Q := by
  intro f0 h hW hF
  refine x_iload dX5_tables_30 rfl ?_
  refine x_iload dX5_tables_32 rfl ?_
  refine x_icmp_ge (tgt := 67) dX5_tables_34 rfl (fun c => ?_) (fun c => ?_)
  · replace hT := hT.1 c
    obtain ⟨hr, hT⟩ := hT
    refine c_newG (k := 30) dX5_tables_67 (by decide) q1446 q206 hr hW hF ?_
    intro a18 f19 ea18 ef19 h hW hF
    replace hT := hT a18 f19 ea18 ef19
    refine x_dup dX5_tables_70 rfl ?_
    refine x_aload dX5_tables_71 rfl rfl ?_
    refine c_invI (b := a18) (vs := [.ref b6]) dX5_tables_73 oX33_init rfl rfl rfl q1469 (Or.inl q1468) rfl rfl (Nat.le_of_ble_eq_true rfl) rfl hW hF hT ?_ ?_
    · intro _ s20 f21 hT h hW hF
      obtain ⟨rfl, hT⟩ := hT
      exact x_aret dX5_tables_76 rfl (by first | exact Or.inl ⟨_, rfl⟩ | exact Or.inr ⟨_, rfl⟩) rfl ⟨_, _, hW, hF, Or.inl ⟨_, rfl, hT⟩⟩
    · intro k s20 f21 hT h a hW hx hF
      exact c_out (rfl) hW hx hF hT
  · replace hT := hT.2 c
    refine x_aload dX5_tables_37 rfl rfl ?_
    refine x_iload dX5_tables_39 rfl ?_
    refine x_iload_n dX5_tables_41 rfl rfl ?_
    refine x_aload_n dX5_tables_42 rfl rfl ib1 ?_
    refine x_iload dX5_tables_43 rfl ?_
    refine c_invS (vs := [b1, .int b7]) dX5_tables_45 oX5_rowOf q1465 (Or.inl q1464) rfl rfl (Nat.le_of_ble_eq_true rfl) rfl hW hF hT ?_ ?_
    · intro _ s22 f23 hT h hW hF
      obtain ⟨v24, rfl, iv24, hT⟩ := hT
      refine x_iload_n dX5_tables_48 rfl rfl ?_
      refine x_aload_n dX5_tables_49 rfl rfl ib3 ?_
      refine x_iload dX5_tables_50 rfl ?_
      refine c_invS (vs := [b3, .int b7]) dX5_tables_52 oX5_rowOf q1465 (Or.inl q1464) rfl rfl (by rcases isR_cases iv24 with rfl | ⟨_, rfl⟩ <;> exact Nat.le_of_ble_eq_true rfl) rfl hW hF hT ?_ ?_
      · intro _ s25 f26 hT h hW hF
        obtain ⟨v27, rfl, iv27, hT⟩ := hT
        refine x_iload dX5_tables_55 rfl ?_
        refine c_invS (vs := [.int b0, v24, .int b2, v27, .int b4]) dX5_tables_57 oX5_rows q1390 (Or.inl q1389) rfl rfl (Nat.le_of_ble_eq_true rfl) rfl hW hF hT ?_ ?_
        · intro _ s28 f29 hT h hW hF
          obtain ⟨a30, rfl, hT⟩ := hT
          obtain ⟨hc, hv, hzb, hT⟩ := hT
          obtain ⟨hb, hz, hT⟩ := hT
          refine c_faastAG dX5_tables_60 hc hv hzb hb hz hW hF ?_
          intro f31 ef31 h hW hF
          replace hT := hT f31 ef31
          refine x_iinc (lo' := [some (.int b0), some (b1), some (.int b2), some (b3), some (.int b4), some (.int b5), some (.ref b6), some (.int (b7 + 1))]) dX5_tables_61 rfl (show _ = (b7 + 1) from rfl) rfl ?_
          refine x_goto (tgt := 30) dX5_tables_64 rfl ?_
          exact hT f0 h hW hF
        · intro k s28 f29 hT h a hW hx hF
          exact c_out (rfl) hW hx hF hT
      · intro k s25 f26 hT h a hW hx hF
        exact c_out (rfl) hW hx hF hT
    · intro k s22 f23 hT h a hW hx hF
      exact c_out (rfl) hW hx hF hT
theorem vX5_rowOf_0 {l : Launch} {E : EN} {w : CO} {d : Nat} {s : CS} {f : RH} {Q : KO → CS → RH → Prop} {x1 : Value} {x2 : Int32} (ix1 : isR x1 = true) (hT : (isT f x1 ∧ ((∀ a2 : Nat, x1 = .ref a2 → tg f a2 = some (.inl 30) → (tg f a2 = some (.inl 30) ∧ (oc f a2 30 ∧ (∃ a3 : Nat, vl f a2 204 = .ref a3 ∧ (∃ t4 : Nat, 4 ≤ t4 ∧ (tg f a3 = some (.inr t4) ∧ inB x2 (ln f a3) ∧ (∃ a5 : Nat, vl f a3 x2.toNatClampNeg = .ref a5 ∧ Q (.inl (some (.ref a5))) s f))))))) ∧ ((∀ z : Nat, x1 = .ref z → ¬ tg f z = some (.inl 30)) → (isT f x1 ∧ ((∀ a7 : Nat, x1 = .ref a7 → tg f a7 = some (.inl 29) → (tg f a7 = some (.inl 29) ∧ (oc f a7 29 ∧ (∃ a8 : Nat, vl f a7 203 = .ref a8 ∧ Q (.inl (some (.ref a8))) s f)))) ∧ ((∀ z : Nat, x1 = .ref z → ¬ tg f z = some (.inl 29)) → Q (.inl (some (.null))) s f))))))) : ExC l E w d MX5_rowOf 0 [some (x1), some (.int x2), none, none] [] s f Q := by
  intro f0 h hW hF
  refine x_aload_n dX5_rowOf_0 rfl rfl ix1 ?_
  obtain ⟨ht, hT⟩ := hT
  refine c_instV (K := 30) dX5_rowOf_1 (by decide) q1446 ht hW (fun a2 ec hi1 => ?_) (fun hi1 => ?_)
  · subst ec
    replace hT := hT.1 a2 rfl hi1
    refine x_if_eq (tgt := 21) dX5_rowOf_4 rfl (fun c => absurd c (by decide)) (fun _ => ?_)
    refine x_aload_n dX5_rowOf_7 rfl rfl rfl ?_
    obtain ⟨hc, hT⟩ := hT
    refine c_cast (K := 30) dX5_rowOf_8 q1446 hc hW ?_
    refine x_astore_n (lo' := [some (.ref a2), some (.int x2), none, some (.ref a2)]) dX5_rowOf_11 rfl (Nat.le_of_ble_eq_true rfl) rfl rfl ?_
    refine x_aload_n dX5_rowOf_12 rfl rfl rfl ?_
    obtain ⟨hc, hT⟩ := hT
    obtain ⟨a3, ev, hT⟩ := hT
    refine c_fgetG dX5_rowOf_13 f_TallySlate_Signs_21 hc (by decide) (by decide) hW ev ?_
    refine x_iload_n dX5_rowOf_16 rfl rfl ?_
    obtain ⟨t4, ht2, hc, hT⟩ := hT
    obtain ⟨hb, hT⟩ := hT
    obtain ⟨a5, ev, hT⟩ := hT
    refine c_faald dX5_rowOf_17 hc ht2 hb hW ev ?_
    refine x_goto (tgt := 41) dX5_rowOf_18 rfl ?_
    exact x_aret dX5_rowOf_41 rfl (by first | exact Or.inl ⟨_, rfl⟩ | exact Or.inr ⟨_, rfl⟩) rfl ⟨_, _, hW, hF, Or.inl ⟨_, rfl, hT⟩⟩
  · replace hT := hT.2 hi1
    refine x_if_eq (tgt := 21) dX5_rowOf_4 rfl (fun _ => ?_) (fun c => absurd c (by decide))
    refine x_aload_n dX5_rowOf_21 rfl rfl ix1 ?_
    obtain ⟨ht, hT⟩ := hT
    refine c_instV (K := 29) dX5_rowOf_22 (by decide) q1387 ht hW (fun a7 ec hi6 => ?_) (fun hi6 => ?_)
    · subst ec
      replace hT := hT.1 a7 rfl hi6
      refine x_if_eq (tgt := 40) dX5_rowOf_25 rfl (fun c => absurd c (by decide)) (fun _ => ?_)
      refine x_aload_n dX5_rowOf_28 rfl rfl rfl ?_
      obtain ⟨hc, hT⟩ := hT
      refine c_cast (K := 29) dX5_rowOf_29 q1387 hc hW ?_
      refine x_astore_n (lo' := [some (.ref a7), some (.int x2), some (.ref a7), none]) dX5_rowOf_32 rfl (Nat.le_of_ble_eq_true rfl) rfl rfl ?_
      refine x_aload_n dX5_rowOf_33 rfl rfl rfl ?_
      obtain ⟨hc, hT⟩ := hT
      obtain ⟨a8, ev, hT⟩ := hT
      refine c_fgetG dX5_rowOf_34 f_TallySlate_Signs_27 hc (by decide) (by decide) hW ev ?_
      refine x_goto (tgt := 41) dX5_rowOf_37 rfl ?_
      exact x_aret dX5_rowOf_41 rfl (by first | exact Or.inl ⟨_, rfl⟩ | exact Or.inr ⟨_, rfl⟩) rfl ⟨_, _, hW, hF, Or.inl ⟨_, rfl, hT⟩⟩
    · replace hT := hT.2 hi6
      refine x_if_eq (tgt := 40) dX5_rowOf_25 rfl (fun _ => ?_) (fun c => absurd c (by decide))
      refine x_null dX5_rowOf_40 ?_
      exact x_aret dX5_rowOf_41 rfl (by first | exact Or.inl ⟨_, rfl⟩ | exact Or.inr ⟨_, rfl⟩) rfl ⟨_, _, hW, hF, Or.inl ⟨_, rfl, hT⟩⟩
theorem eX5_rowOf {l : Launch} {E : EN} {w : CO} {d : Nat} {s : CS} {f : RH} {Q : KO → CS → RH → Prop} {x1 : Value} {x2 : Int32} (ix1 : isR x1 = true) (hst : l.stackTraces = false) (hT : (isT f x1 ∧ ((∀ a2 : Nat, x1 = .ref a2 → tg f a2 = some (.inl 30) → (tg f a2 = some (.inl 30) ∧ (oc f a2 30 ∧ (∃ a3 : Nat, vl f a2 204 = .ref a3 ∧ (∃ t4 : Nat, 4 ≤ t4 ∧ (tg f a3 = some (.inr t4) ∧ inB x2 (ln f a3) ∧ (∃ a5 : Nat, vl f a3 x2.toNatClampNeg = .ref a5 ∧ Q (.inl (some (.ref a5))) s f))))))) ∧ ((∀ z : Nat, x1 = .ref z → ¬ tg f z = some (.inl 30)) → (isT f x1 ∧ ((∀ a7 : Nat, x1 = .ref a7 → tg f a7 = some (.inl 29) → (tg f a7 = some (.inl 29) ∧ (oc f a7 29 ∧ (∃ a8 : Nat, vl f a7 203 = .ref a8 ∧ Q (.inl (some (.ref a8))) s f)))) ∧ ((∀ z : Nat, x1 = .ref z → ¬ tg f z = some (.inl 29)) → Q (.inl (some (.null))) s f))))))) : EvC l E w d MX5_rowOf [x1, .int x2] s f Q :=by
  rcases isR_cases ix1 with rfl | ⟨_, rfl⟩ <;> exact
  
  EvC.of hst (by decide) (Nat.le_of_ble_eq_true rfl) (vX5_rowOf_0 ix1 hT)
set_option maxHeartbeats 16000000 in
theorem vX5_two_0 {l : Launch} {E : EN} {w : CO} {d : Nat} {s : CS} {f : RH} {Q : KO → CS → RH → Prop} {x1 : Int32} {x2 : Int32}  (hT : (inB ((s.1 26) - 2) 8400 ∧ ∃ v1 : Value, (s.2.2.2 25 ((s.1 26) - 2).toNatClampNeg) = v1 ∧ isR v1 = true ∧ (inB ((s.1 26) - 1) 8400 ∧ ∃ v2 : Value, (s.2.2.2 25 ((s.1 26) - 1).toNatClampNeg) = v2 ∧ isR v2 = true ∧ (inB ((s.1 26) - 2) 8400 ∧ (∀ y3 : Int32, y3 = (s.2.2.1 24 ((s.1 26) - 2).toNatClampNeg) → (inB ((s.1 26) - 1) 8400 ∧ (∀ y4 : Int32, y4 = (s.2.2.1 24 ((s.1 26) - 1).toNatClampNeg) → (isT f v1 ∧ ((∀ a6 : Nat, v1 = .ref a6 → tg f a6 = some (.inl 31) → (EvC l E w d MX3_wrong [.ref (w.1 3), .int 3, .int x2] s f (fun o s7 f8 => KP o (fun r => r = some (.ref (w.1 9)) ∧ Q (.inr 9) s7 f8) (fun k => Q (.inr k) s7 f8)))) ∧ ((∀ z : Nat, v1 = .ref z → ¬ tg f z = some (.inl 31)) → (isT f v2 ∧ ((∀ a10 : Nat, v2 = .ref a10 → tg f a10 = some (.inl 31) → (EvC l E w d MX3_wrong [.ref (w.1 3), .int 3, .int x2] s f (fun o s11 f12 => KP o (fun r => r = some (.ref (w.1 9)) ∧ Q (.inr 9) s11 f12) (fun k => Q (.inr k) s11 f12)))) ∧ ((∀ z : Nat, v2 = .ref z → ¬ tg f z = some (.inl 31)) → (EvC l E w d MX5_areAlike [v1, v2] s f (fun o s13 f14 => KP o (fun r => ∃ v15 : Int32, r = some (.int v15) ∧ ((¬ v15 = 0 → ((v1 = .null → ((v2 = .null → (EvC l E w d MX5_of [.int x1, .int y3, .int y4] s13 f14 (fun o s18 f19 => KP o (fun r => ∃ v20 : Int32, r = some (.int v20) ∧ (EvC l E w d MX3_give [.ref (w.1 3), .int v20, .int 2] s18 f19 (fun o s21 f22 => KP o (fun r => r = none ∧ Q (.inl none) s21 f22) (fun k => (k = 36 ∧ (∀ a23 : Nat, (EvC l E w d MX3_wrong [.ref (w.1 3), .int 6, .int x2] s21 f22 (fun o s24 f25 => KP o (fun r => r = some (.ref (w.1 9)) ∧ Q (.inr 9) s24 f25) (fun k => Q (.inr k) s24 f25))))) ∨ (k = 9 ∧ Q (.inr 9) s21 f22))))) (fun k => (k = 36 ∧ (∀ a26 : Nat, (EvC l E w d MX3_wrong [.ref (w.1 3), .int 6, .int x2] s18 f19 (fun o s27 f28 => KP o (fun r => r = some (.ref (w.1 9)) ∧ Q (.inr 9) s27 f28) (fun k => Q (.inr k) s27 f28))))) ∨ (k = 9 ∧ Q (.inr 9) s18 f19))))) ∧ (∀ a17 : Nat, v2 = .ref a17 → (isT f14 (.ref a17) ∧ ((tg f14 a17 = some (.inl 30) → (EvC l E w d MX5_tables [.int x1, .null, .int y3, .ref a17, .int y4] s13 f14 (fun o s31 f32 => KP o (fun r => ∃ a33 : Nat, r = some (.ref a33) ∧ (EvC l E w d MX3_give_2 [.ref (w.1 3), .ref a33, .int 2, .int x2] s31 f32 (fun o s34 f35 => KP o (fun r => r = none ∧ Q (.inl none) s34 f35) (fun k => (k = 36 ∧ (∀ a36 : Nat, (EvC l E w d MX3_wrong [.ref (w.1 3), .int 6, .int x2] s34 f35 (fun o s37 f38 => KP o (fun r => r = some (.ref (w.1 9)) ∧ Q (.inr 9) s37 f38) (fun k => Q (.inr k) s37 f38))))) ∨ (k = 9 ∧ Q (.inr 9) s34 f35))))) (fun k => (k = 36 ∧ (∀ a39 : Nat, (EvC l E w d MX3_wrong [.ref (w.1 3), .int 6, .int x2] s31 f32 (fun o s40 f41 => KP o (fun r => r = some (.ref (w.1 9)) ∧ Q (.inr 9) s40 f41) (fun k => Q (.inr k) s40 f41))))) ∨ (k = 9 ∧ Q (.inr 9) s31 f32))))) ∧ (¬ tg f14 a17 = some (.inl 30) → (rmF E f14 1 1 ∧ ∀ (a42 : Nat) (f43 : RH), a42 = f14.1 → f43 = fnew f14 29 → (EvC l E w d MX5_rowOf [.null, .int 0] s13 f43 (fun o s44 f45 => KP o (fun r => ∃ v46 : Value, r = some v46 ∧ isR v46 = true ∧ (EvC l E w d MX5_rowOf [.ref a17, .int 0] s44 f45 (fun o s47 f48 => KP o (fun r => ∃ v49 : Value, r = some v49 ∧ isR v49 = true ∧ (EvC l E w d MX5_rows [.int x1, v46, .int y3, v49, .int y4] s47 f48 (fun o s50 f51 => KP o (fun r => ∃ a52 : Nat, r = some (.ref a52) ∧ (EvC l E w d MX32_init [.ref a42, .ref a52] s50 f51 (fun o s53 f54 => KP o (fun r => r = none ∧ (EvC l E w d MX3_give_2 [.ref (w.1 3), .ref a42, .int 2, .int x2] s53 f54 (fun o s55 f56 => KP o (fun r => r = none ∧ Q (.inl none) s55 f56) (fun k => (k = 36 ∧ (∀ a57 : Nat, (EvC l E w d MX3_wrong [.ref (w.1 3), .int 6, .int x2] s55 f56 (fun o s58 f59 => KP o (fun r => r = some (.ref (w.1 9)) ∧ Q (.inr 9) s58 f59) (fun k => Q (.inr k) s58 f59))))) ∨ (k = 9 ∧ Q (.inr 9) s55 f56))))) (fun k => (k = 36 ∧ (∀ a60 : Nat, (EvC l E w d MX3_wrong [.ref (w.1 3), .int 6, .int x2] s53 f54 (fun o s61 f62 => KP o (fun r => r = some (.ref (w.1 9)) ∧ Q (.inr 9) s61 f62) (fun k => Q (.inr k) s61 f62))))) ∨ (k = 9 ∧ Q (.inr 9) s53 f54))))) (fun k => (k = 36 ∧ (∀ a63 : Nat, (EvC l E w d MX3_wrong [.ref (w.1 3), .int 6, .int x2] s50 f51 (fun o s64 f65 => KP o (fun r => r = some (.ref (w.1 9)) ∧ Q (.inr 9) s64 f65) (fun k => Q (.inr k) s64 f65))))) ∨ (k = 9 ∧ Q (.inr 9) s50 f51))))) (fun k => (k = 36 ∧ (∀ a66 : Nat, (EvC l E w d MX3_wrong [.ref (w.1 3), .int 6, .int x2] s47 f48 (fun o s67 f68 => KP o (fun r => r = some (.ref (w.1 9)) ∧ Q (.inr 9) s67 f68) (fun k => Q (.inr k) s67 f68))))) ∨ (k = 9 ∧ Q (.inr 9) s47 f48))))) (fun k => (k = 36 ∧ (∀ a69 : Nat, (EvC l E w d MX3_wrong [.ref (w.1 3), .int 6, .int x2] s44 f45 (fun o s70 f71 => KP o (fun r => r = some (.ref (w.1 9)) ∧ Q (.inr 9) s70 f71) (fun k => Q (.inr k) s70 f71))))) ∨ (k = 9 ∧ Q (.inr 9) s44 f45))))))))))) ∧ (∀ a16 : Nat, v1 = .ref a16 → (isT f14 (.ref a16) ∧ ((tg f14 a16 = some (.inl 30) → (EvC l E w d MX5_tables [.int x1, .ref a16, .int y3, v2, .int y4] s13 f14 (fun o s73 f74 => KP o (fun r => ∃ a75 : Nat, r = some (.ref a75) ∧ (EvC l E w d MX3_give_2 [.ref (w.1 3), .ref a75, .int 2, .int x2] s73 f74 (fun o s76 f77 => KP o (fun r => r = none ∧ Q (.inl none) s76 f77) (fun k => (k = 36 ∧ (∀ a78 : Nat, (EvC l E w d MX3_wrong [.ref (w.1 3), .int 6, .int x2] s76 f77 (fun o s79 f80 => KP o (fun r => r = some (.ref (w.1 9)) ∧ Q (.inr 9) s79 f80) (fun k => Q (.inr k) s79 f80))))) ∨ (k = 9 ∧ Q (.inr 9) s76 f77))))) (fun k => (k = 36 ∧ (∀ a81 : Nat, (EvC l E w d MX3_wrong [.ref (w.1 3), .int 6, .int x2] s73 f74 (fun o s82 f83 => KP o (fun r => r = some (.ref (w.1 9)) ∧ Q (.inr 9) s82 f83) (fun k => Q (.inr k) s82 f83))))) ∨ (k = 9 ∧ Q (.inr 9) s73 f74))))) ∧ (¬ tg f14 a16 = some (.inl 30) → (isT f14 v2 ∧ ((∀ a85 : Nat, v2 = .ref a85 → tg f14 a85 = some (.inl 30) → (EvC l E w d MX5_tables [.int x1, .ref a16, .int y3, .ref a85, .int y4] s13 f14 (fun o s86 f87 => KP o (fun r => ∃ a88 : Nat, r = some (.ref a88) ∧ (EvC l E w d MX3_give_2 [.ref (w.1 3), .ref a88, .int 2, .int x2] s86 f87 (fun o s89 f90 => KP o (fun r => r = none ∧ Q (.inl none) s89 f90) (fun k => (k = 36 ∧ (∀ a91 : Nat, (EvC l E w d MX3_wrong [.ref (w.1 3), .int 6, .int x2] s89 f90 (fun o s92 f93 => KP o (fun r => r = some (.ref (w.1 9)) ∧ Q (.inr 9) s92 f93) (fun k => Q (.inr k) s92 f93))))) ∨ (k = 9 ∧ Q (.inr 9) s89 f90))))) (fun k => (k = 36 ∧ (∀ a94 : Nat, (EvC l E w d MX3_wrong [.ref (w.1 3), .int 6, .int x2] s86 f87 (fun o s95 f96 => KP o (fun r => r = some (.ref (w.1 9)) ∧ Q (.inr 9) s95 f96) (fun k => Q (.inr k) s95 f96))))) ∨ (k = 9 ∧ Q (.inr 9) s86 f87))))) ∧ ((∀ z : Nat, v2 = .ref z → ¬ tg f14 z = some (.inl 30)) → (rmF E f14 1 1 ∧ ∀ (a97 : Nat) (f98 : RH), a97 = f14.1 → f98 = fnew f14 29 → (EvC l E w d MX5_rowOf [.ref a16, .int 0] s13 f98 (fun o s99 f100 => KP o (fun r => ∃ v101 : Value, r = some v101 ∧ isR v101 = true ∧ (EvC l E w d MX5_rowOf [v2, .int 0] s99 f100 (fun o s102 f103 => KP o (fun r => ∃ v104 : Value, r = some v104 ∧ isR v104 = true ∧ (EvC l E w d MX5_rows [.int x1, v101, .int y3, v104, .int y4] s102 f103 (fun o s105 f106 => KP o (fun r => ∃ a107 : Nat, r = some (.ref a107) ∧ (EvC l E w d MX32_init [.ref a97, .ref a107] s105 f106 (fun o s108 f109 => KP o (fun r => r = none ∧ (EvC l E w d MX3_give_2 [.ref (w.1 3), .ref a97, .int 2, .int x2] s108 f109 (fun o s110 f111 => KP o (fun r => r = none ∧ Q (.inl none) s110 f111) (fun k => (k = 36 ∧ (∀ a112 : Nat, (EvC l E w d MX3_wrong [.ref (w.1 3), .int 6, .int x2] s110 f111 (fun o s113 f114 => KP o (fun r => r = some (.ref (w.1 9)) ∧ Q (.inr 9) s113 f114) (fun k => Q (.inr k) s113 f114))))) ∨ (k = 9 ∧ Q (.inr 9) s110 f111))))) (fun k => (k = 36 ∧ (∀ a115 : Nat, (EvC l E w d MX3_wrong [.ref (w.1 3), .int 6, .int x2] s108 f109 (fun o s116 f117 => KP o (fun r => r = some (.ref (w.1 9)) ∧ Q (.inr 9) s116 f117) (fun k => Q (.inr k) s116 f117))))) ∨ (k = 9 ∧ Q (.inr 9) s108 f109))))) (fun k => (k = 36 ∧ (∀ a118 : Nat, (EvC l E w d MX3_wrong [.ref (w.1 3), .int 6, .int x2] s105 f106 (fun o s119 f120 => KP o (fun r => r = some (.ref (w.1 9)) ∧ Q (.inr 9) s119 f120) (fun k => Q (.inr k) s119 f120))))) ∨ (k = 9 ∧ Q (.inr 9) s105 f106))))) (fun k => (k = 36 ∧ (∀ a121 : Nat, (EvC l E w d MX3_wrong [.ref (w.1 3), .int 6, .int x2] s102 f103 (fun o s122 f123 => KP o (fun r => r = some (.ref (w.1 9)) ∧ Q (.inr 9) s122 f123) (fun k => Q (.inr k) s122 f123))))) ∨ (k = 9 ∧ Q (.inr 9) s102 f103))))) (fun k => (k = 36 ∧ (∀ a124 : Nat, (EvC l E w d MX3_wrong [.ref (w.1 3), .int 6, .int x2] s99 f100 (fun o s125 f126 => KP o (fun r => r = some (.ref (w.1 9)) ∧ Q (.inr 9) s125 f126) (fun k => Q (.inr k) s125 f126))))) ∨ (k = 9 ∧ Q (.inr 9) s99 f100)))))))))))))) ∧ (v15 = 0 → (EvC l E w d MX3_wrong [.ref (w.1 3), .int 4, .int x2] s13 f14 (fun o s127 f128 => KP o (fun r => r = some (.ref (w.1 9)) ∧ Q (.inr 9) s127 f128) (fun k => Q (.inr k) s127 f128)))))) (fun k => Q (.inr k) s13 f14)))))))))))))))) : ExC l E w (d + 1) MX5_two 0 [some (.ref (w.1 5)), some (.int x1), some (.int x2), none, none, none, none, none] [] s f Q := by
  intro f0 h hW hF
  refine x_aload_n dX5_two_0 rfl rfl rfl ?_
  refine c_getO dX5_two_1 f_TallySlate_Signs_9 (by decide) (by decide) rfl hW ?_
  refine c_getA dX5_two_4 f_TallySlate_Signs_30 (by decide) (by decide) rfl hW ?_
  refine x_aload_n dX5_two_7 rfl rfl rfl ?_
  refine c_getO dX5_two_8 f_TallySlate_Signs_9 (by decide) (by decide) rfl hW ?_
  refine c_getI (v := (s.1 26)) dX5_two_11 f_TallySlate_Signs_36 (by decide) (by decide) rfl hW rfl ?_
  refine x_iconst (v := 2) dX5_two_14 rfl ?_
  refine x_isub dX5_two_15 ?_
  obtain ⟨hb, v1, ev, iv1, hT⟩ := hT
  refine c_aald (v := v1) dX5_two_16 rfl hb hW ev ?_
  refine x_astore_n (lo' := [some (.ref (w.1 5)), some (.int x1), some (.int x2), some (v1), none, none, none, none]) dX5_two_17 rfl (Nat.le_of_ble_eq_true rfl) iv1 rfl ?_
  refine x_aload_n dX5_two_18 rfl rfl rfl ?_
  refine c_getO dX5_two_19 f_TallySlate_Signs_9 (by decide) (by decide) rfl hW ?_
  refine c_getA dX5_two_22 f_TallySlate_Signs_30 (by decide) (by decide) rfl hW ?_
  refine x_aload_n dX5_two_25 rfl rfl rfl ?_
  refine c_getO dX5_two_26 f_TallySlate_Signs_9 (by decide) (by decide) rfl hW ?_
  refine c_getI (v := (s.1 26)) dX5_two_29 f_TallySlate_Signs_36 (by decide) (by decide) rfl hW rfl ?_
  refine x_iconst (v := 1) dX5_two_32 rfl ?_
  refine x_isub dX5_two_33 ?_
  obtain ⟨hb, v2, ev, iv2, hT⟩ := hT
  refine c_aald (v := v2) dX5_two_34 rfl hb hW ev ?_
  refine x_astore (lo' := [some (.ref (w.1 5)), some (.int x1), some (.int x2), some (v1), some (v2), none, none, none]) dX5_two_35 (Nat.le_of_ble_eq_true rfl) iv2 ((st1_V (k := 3) rfl iv1).trans rfl) ?_
  refine x_aload_n dX5_two_37 rfl rfl rfl ?_
  refine c_getO dX5_two_38 f_TallySlate_Signs_9 (by decide) (by decide) rfl hW ?_
  refine c_getA dX5_two_41 f_TallySlate_Signs_40 (by decide) (by decide) rfl hW ?_
  refine x_aload_n dX5_two_44 rfl rfl rfl ?_
  refine c_getO dX5_two_45 f_TallySlate_Signs_9 (by decide) (by decide) rfl hW ?_
  refine c_getI (v := (s.1 26)) dX5_two_48 f_TallySlate_Signs_36 (by decide) (by decide) rfl hW rfl ?_
  refine x_iconst (v := 2) dX5_two_51 rfl ?_
  refine x_isub dX5_two_52 ?_
  obtain ⟨hb, hT⟩ := hT
  refine c_iald (v := (s.2.2.1 24 ((s.1 26) - 2).toNatClampNeg)) dX5_two_53 rfl hb hW rfl ?_
  obtain ⟨y3, ey3⟩ : ∃ z : Int32, z = (s.2.2.1 24 ((s.1 26) - 2).toNatClampNeg) := ⟨_, rfl⟩
  replace hT := hT y3 ey3
  refine x_istore (lo' := [some (.ref (w.1 5)), some (.int x1), some (.int x2), some (v1), some (v2), some (.int y3), none, none]) dX5_two_54 (Nat.le_of_ble_eq_true rfl) (by rw [ey3]; exact ((st1_V (k := 4) rfl iv2).trans rfl)) ?_
  refine x_aload_n dX5_two_56 rfl rfl rfl ?_
  refine c_getO dX5_two_57 f_TallySlate_Signs_9 (by decide) (by decide) rfl hW ?_
  refine c_getA dX5_two_60 f_TallySlate_Signs_40 (by decide) (by decide) rfl hW ?_
  refine x_aload_n dX5_two_63 rfl rfl rfl ?_
  refine c_getO dX5_two_64 f_TallySlate_Signs_9 (by decide) (by decide) rfl hW ?_
  refine c_getI (v := (s.1 26)) dX5_two_67 f_TallySlate_Signs_36 (by decide) (by decide) rfl hW rfl ?_
  refine x_iconst (v := 1) dX5_two_70 rfl ?_
  refine x_isub dX5_two_71 ?_
  obtain ⟨hb, hT⟩ := hT
  refine c_iald (v := (s.2.2.1 24 ((s.1 26) - 1).toNatClampNeg)) dX5_two_72 rfl hb hW rfl ?_
  obtain ⟨y4, ey4⟩ : ∃ z : Int32, z = (s.2.2.1 24 ((s.1 26) - 1).toNatClampNeg) := ⟨_, rfl⟩
  replace hT := hT y4 ey4
  refine x_istore (lo' := [some (.ref (w.1 5)), some (.int x1), some (.int x2), some (v1), some (v2), some (.int y3), some (.int y4), none]) dX5_two_73 (Nat.le_of_ble_eq_true rfl) (by rw [ey4]; exact rfl) ?_
  refine x_aload_n dX5_two_75 rfl rfl iv1 ?_
  obtain ⟨ht, hT⟩ := hT
  refine c_instV (K := 31) dX5_two_76 (by decide) q1381 ht hW (fun a6 ec hi5 => ?_) (fun hi5 => ?_)
  · subst ec
    replace hT := hT.1 a6 rfl hi5
    refine x_if_ne (tgt := 90) dX5_two_79 rfl (fun _ => ?_) (fun c => absurd c (by decide))
    refine x_aload_n dX5_two_90 rfl rfl rfl ?_
    refine c_getO dX5_two_91 f_TallySlate_Signs_9 (by decide) (by decide) rfl hW ?_
    refine x_iconst (v := 3) dX5_two_94 rfl ?_
    refine x_iload_n dX5_two_95 rfl rfl ?_
    obtain ⟨-, -, cc, hcc, -⟩ := hW.ob 3 (by decide)
    refine c_invV (vs := [.int 3, .int x2]) dX5_two_96 oX3_wrong q1323 q1382 hcc q1324 (Or.inl rfl) rfl rfl (Nat.le_of_ble_eq_true rfl) rfl hW hF hT ?_ ?_
    · intro _ s7 f8 hT h hW hF
      obtain ⟨rfl, hT⟩ := hT
      refine x_athrow dX5_two_99 ?_
      exact c_out (hsr_skip (by decide) (rfl)) hW (Or.inl ⟨rfl, rfl⟩) hF hT
    · intro k s7 f8 hT h a hW hx hF
      exact c_out (hsr_skip (by decide) (rfl)) hW hx hF hT
  · replace hT := hT.2 hi5
    refine x_if_ne (tgt := 90) dX5_two_79 rfl (fun c => absurd c (by decide)) (fun _ => ?_)
    refine x_aload dX5_two_82 rfl iv2 ?_
    obtain ⟨ht, hT⟩ := hT
    refine c_instV (K := 31) dX5_two_84 (by decide) q1381 ht hW (fun a10 ec hi9 => ?_) (fun hi9 => ?_)
    · subst ec
      replace hT := hT.1 a10 rfl hi9
      refine x_if_eq (tgt := 100) dX5_two_87 rfl (fun c => absurd c (by decide)) (fun _ => ?_)
      refine x_aload_n dX5_two_90 rfl rfl rfl ?_
      refine c_getO dX5_two_91 f_TallySlate_Signs_9 (by decide) (by decide) rfl hW ?_
      refine x_iconst (v := 3) dX5_two_94 rfl ?_
      refine x_iload_n dX5_two_95 rfl rfl ?_
      obtain ⟨-, -, cc, hcc, -⟩ := hW.ob 3 (by decide)
      refine c_invV (vs := [.int 3, .int x2]) dX5_two_96 oX3_wrong q1323 q1382 hcc q1324 (Or.inl rfl) rfl rfl (Nat.le_of_ble_eq_true rfl) rfl hW hF hT ?_ ?_
      · intro _ s11 f12 hT h hW hF
        obtain ⟨rfl, hT⟩ := hT
        refine x_athrow dX5_two_99 ?_
        exact c_out (hsr_skip (by decide) (rfl)) hW (Or.inl ⟨rfl, rfl⟩) hF hT
      · intro k s11 f12 hT h a hW hx hF
        exact c_out (hsr_skip (by decide) (rfl)) hW hx hF hT
    · replace hT := hT.2 hi9
      refine x_if_eq (tgt := 100) dX5_two_87 rfl (fun _ => ?_) (fun c => absurd c (by decide))
      refine x_aload_n dX5_two_100 rfl rfl iv1 ?_
      refine x_aload dX5_two_101 rfl iv2 ?_
      refine c_invS (vs := [v1, v2]) dX5_two_103 oX5_areAlike q1641 (Or.inl q1640) rfl rfl (Nat.le_of_ble_eq_true rfl) rfl hW hF hT ?_ ?_
      · intro _ s13 f14 hT h hW hF
        obtain ⟨v15, rfl, hT⟩ := hT
        refine x_if_ne (tgt := 119) dX5_two_106 rfl (fun c => ?_) (fun c => ?_)
        · replace hT := hT.1 c
          refine x_aload_n dX5_two_119 rfl rfl iv1 ?_
          refine x_ifnonnull (tgt := 147) dX5_two_120 rfl iv1 (fun a16 e => ?_) (fun e => ?_)
          · subst e
            replace hT := hT.2 a16 rfl
            refine x_aload_n dX5_two_147 rfl rfl rfl ?_
            obtain ⟨ht, hT⟩ := hT
            refine c_inst (K := 30) dX5_two_148 (by decide) q1446 ht hW (fun hi72 => ?_) (fun hi72 => ?_)
            · replace hT := hT.1 hi72
              refine x_if_ne (tgt := 162) dX5_two_151 rfl (fun _ => ?_) (fun c => absurd c (by decide))
              refine x_aload_n dX5_two_162 rfl rfl rfl ?_
              refine c_getO dX5_two_163 f_TallySlate_Signs_9 (by decide) (by decide) rfl hW ?_
              refine x_iload_n dX5_two_166 rfl rfl ?_
              refine x_aload_n dX5_two_167 rfl rfl rfl ?_
              refine x_iload dX5_two_168 rfl ?_
              refine x_aload dX5_two_170 rfl iv2 ?_
              refine x_iload dX5_two_172 rfl ?_
              refine c_invS (vs := [.int x1, .ref a16, .int y3, v2, .int y4]) dX5_two_174 oX5_tables q1444 (Or.inl q1443) rfl rfl (Nat.le_of_ble_eq_true rfl) rfl hW hF hT ?_ ?_
              · intro _ s73 f74 hT h hW hF
                obtain ⟨a75, rfl, hT⟩ := hT
                refine x_iconst (v := 2) dX5_two_177 rfl ?_
                refine x_iload_n dX5_two_178 rfl rfl ?_
                obtain ⟨-, -, cc, hcc, -⟩ := hW.ob 3 (by decide)
                refine c_invV (vs := [.ref a75, .int 2, .int x2]) dX5_two_179 oX3_give_2 q1412 q1411 hcc q1413 (Or.inl rfl) rfl rfl (Nat.le_of_ble_eq_true rfl) rfl hW hF hT ?_ ?_
                · intro _ s76 f77 hT h hW hF
                  obtain ⟨rfl, hT⟩ := hT
                  refine x_goto (tgt := 220) dX5_two_182 rfl ?_
                  refine x_goto (tgt := 236) dX5_two_220 rfl ?_
                  exact x_vret dX5_two_236 rfl ⟨_, _, hW, hF, Or.inl ⟨_, rfl, hT⟩⟩
                · intro k s76 f77 hT h a78 hW hx hF
                  rcases hT with ⟨rfl, hT⟩ | ⟨rfl, hT⟩
                  · replace hT := hT a78
                    refine c_catch (hsr_yes (by decide) (by decide) q1626 (Or.inl rfl)) hW hx ?_
                    refine x_astore (lo' := [some (.ref (w.1 5)), some (.int x1), some (.int x2), some (.ref a16), some (v2), some (.int y3), some (.int y4), some (.ref a78)]) dX5_two_223 (Nat.le_of_ble_eq_true rfl) rfl rfl ?_
                    refine x_aload_n dX5_two_225 rfl rfl rfl ?_
                    refine c_getO dX5_two_226 f_TallySlate_Signs_9 (by decide) (by decide) rfl hW ?_
                    refine x_bipush (v := 6) dX5_two_229 rfl ?_
                    refine x_iload_n dX5_two_231 rfl rfl ?_
                    obtain ⟨-, -, cc, hcc, -⟩ := hW.ob 3 (by decide)
                    refine c_invV (vs := [.int 6, .int x2]) dX5_two_232 oX3_wrong q1323 q1382 hcc q1324 (Or.inl rfl) rfl rfl (Nat.le_of_ble_eq_true rfl) rfl hW hF hT ?_ ?_
                    · intro _ s79 f80 hT h hW hF
                      obtain ⟨rfl, hT⟩ := hT
                      refine x_athrow dX5_two_235 ?_
                      exact c_out (hsr_skip (by decide) (rfl)) hW (Or.inl ⟨rfl, rfl⟩) hF hT
                    · intro k s79 f80 hT h a hW hx hF
                      exact c_out (hsr_skip (by decide) (rfl)) hW hx hF hT
                  · exact c_out (hsr_no (by decide) (by decide) q1626 (by decide +kernel) (rfl)) hW hx hF hT
              · intro k s73 f74 hT h a81 hW hx hF
                rcases hT with ⟨rfl, hT⟩ | ⟨rfl, hT⟩
                · replace hT := hT a81
                  refine c_catch (hsr_yes (by decide) (by decide) q1626 (Or.inl rfl)) hW hx ?_
                  refine x_astore (lo' := [some (.ref (w.1 5)), some (.int x1), some (.int x2), some (.ref a16), some (v2), some (.int y3), some (.int y4), some (.ref a81)]) dX5_two_223 (Nat.le_of_ble_eq_true rfl) rfl rfl ?_
                  refine x_aload_n dX5_two_225 rfl rfl rfl ?_
                  refine c_getO dX5_two_226 f_TallySlate_Signs_9 (by decide) (by decide) rfl hW ?_
                  refine x_bipush (v := 6) dX5_two_229 rfl ?_
                  refine x_iload_n dX5_two_231 rfl rfl ?_
                  obtain ⟨-, -, cc, hcc, -⟩ := hW.ob 3 (by decide)
                  refine c_invV (vs := [.int 6, .int x2]) dX5_two_232 oX3_wrong q1323 q1382 hcc q1324 (Or.inl rfl) rfl rfl (Nat.le_of_ble_eq_true rfl) rfl hW hF hT ?_ ?_
                  · intro _ s82 f83 hT h hW hF
                    obtain ⟨rfl, hT⟩ := hT
                    refine x_athrow dX5_two_235 ?_
                    exact c_out (hsr_skip (by decide) (rfl)) hW (Or.inl ⟨rfl, rfl⟩) hF hT
                  · intro k s82 f83 hT h a hW hx hF
                    exact c_out (hsr_skip (by decide) (rfl)) hW hx hF hT
                · exact c_out (hsr_no (by decide) (by decide) q1626 (by decide +kernel) (rfl)) hW hx hF hT
            · replace hT := hT.2 hi72
              refine x_if_ne (tgt := 162) dX5_two_151 rfl (fun c => absurd c (by decide)) (fun _ => ?_)
              refine x_aload dX5_two_154 rfl iv2 ?_
              obtain ⟨ht, hT⟩ := hT
              refine c_instV (K := 30) dX5_two_156 (by decide) q1446 ht hW (fun a85 ec hi84 => ?_) (fun hi84 => ?_)
              · subst ec
                replace hT := hT.1 a85 rfl hi84
                refine x_if_eq (tgt := 185) dX5_two_159 rfl (fun c => absurd c (by decide)) (fun _ => ?_)
                refine x_aload_n dX5_two_162 rfl rfl rfl ?_
                refine c_getO dX5_two_163 f_TallySlate_Signs_9 (by decide) (by decide) rfl hW ?_
                refine x_iload_n dX5_two_166 rfl rfl ?_
                refine x_aload_n dX5_two_167 rfl rfl rfl ?_
                refine x_iload dX5_two_168 rfl ?_
                refine x_aload dX5_two_170 rfl rfl ?_
                refine x_iload dX5_two_172 rfl ?_
                refine c_invS (vs := [.int x1, .ref a16, .int y3, .ref a85, .int y4]) dX5_two_174 oX5_tables q1444 (Or.inl q1443) rfl rfl (Nat.le_of_ble_eq_true rfl) rfl hW hF hT ?_ ?_
                · intro _ s86 f87 hT h hW hF
                  obtain ⟨a88, rfl, hT⟩ := hT
                  refine x_iconst (v := 2) dX5_two_177 rfl ?_
                  refine x_iload_n dX5_two_178 rfl rfl ?_
                  obtain ⟨-, -, cc, hcc, -⟩ := hW.ob 3 (by decide)
                  refine c_invV (vs := [.ref a88, .int 2, .int x2]) dX5_two_179 oX3_give_2 q1412 q1411 hcc q1413 (Or.inl rfl) rfl rfl (Nat.le_of_ble_eq_true rfl) rfl hW hF hT ?_ ?_
                  · intro _ s89 f90 hT h hW hF
                    obtain ⟨rfl, hT⟩ := hT
                    refine x_goto (tgt := 220) dX5_two_182 rfl ?_
                    refine x_goto (tgt := 236) dX5_two_220 rfl ?_
                    exact x_vret dX5_two_236 rfl ⟨_, _, hW, hF, Or.inl ⟨_, rfl, hT⟩⟩
                  · intro k s89 f90 hT h a91 hW hx hF
                    rcases hT with ⟨rfl, hT⟩ | ⟨rfl, hT⟩
                    · replace hT := hT a91
                      refine c_catch (hsr_yes (by decide) (by decide) q1626 (Or.inl rfl)) hW hx ?_
                      refine x_astore (lo' := [some (.ref (w.1 5)), some (.int x1), some (.int x2), some (.ref a16), some (.ref a85), some (.int y3), some (.int y4), some (.ref a91)]) dX5_two_223 (Nat.le_of_ble_eq_true rfl) rfl rfl ?_
                      refine x_aload_n dX5_two_225 rfl rfl rfl ?_
                      refine c_getO dX5_two_226 f_TallySlate_Signs_9 (by decide) (by decide) rfl hW ?_
                      refine x_bipush (v := 6) dX5_two_229 rfl ?_
                      refine x_iload_n dX5_two_231 rfl rfl ?_
                      obtain ⟨-, -, cc, hcc, -⟩ := hW.ob 3 (by decide)
                      refine c_invV (vs := [.int 6, .int x2]) dX5_two_232 oX3_wrong q1323 q1382 hcc q1324 (Or.inl rfl) rfl rfl (Nat.le_of_ble_eq_true rfl) rfl hW hF hT ?_ ?_
                      · intro _ s92 f93 hT h hW hF
                        obtain ⟨rfl, hT⟩ := hT
                        refine x_athrow dX5_two_235 ?_
                        exact c_out (hsr_skip (by decide) (rfl)) hW (Or.inl ⟨rfl, rfl⟩) hF hT
                      · intro k s92 f93 hT h a hW hx hF
                        exact c_out (hsr_skip (by decide) (rfl)) hW hx hF hT
                    · exact c_out (hsr_no (by decide) (by decide) q1626 (by decide +kernel) (rfl)) hW hx hF hT
                · intro k s86 f87 hT h a94 hW hx hF
                  rcases hT with ⟨rfl, hT⟩ | ⟨rfl, hT⟩
                  · replace hT := hT a94
                    refine c_catch (hsr_yes (by decide) (by decide) q1626 (Or.inl rfl)) hW hx ?_
                    refine x_astore (lo' := [some (.ref (w.1 5)), some (.int x1), some (.int x2), some (.ref a16), some (.ref a85), some (.int y3), some (.int y4), some (.ref a94)]) dX5_two_223 (Nat.le_of_ble_eq_true rfl) rfl rfl ?_
                    refine x_aload_n dX5_two_225 rfl rfl rfl ?_
                    refine c_getO dX5_two_226 f_TallySlate_Signs_9 (by decide) (by decide) rfl hW ?_
                    refine x_bipush (v := 6) dX5_two_229 rfl ?_
                    refine x_iload_n dX5_two_231 rfl rfl ?_
                    obtain ⟨-, -, cc, hcc, -⟩ := hW.ob 3 (by decide)
                    refine c_invV (vs := [.int 6, .int x2]) dX5_two_232 oX3_wrong q1323 q1382 hcc q1324 (Or.inl rfl) rfl rfl (Nat.le_of_ble_eq_true rfl) rfl hW hF hT ?_ ?_
                    · intro _ s95 f96 hT h hW hF
                      obtain ⟨rfl, hT⟩ := hT
                      refine x_athrow dX5_two_235 ?_
                      exact c_out (hsr_skip (by decide) (rfl)) hW (Or.inl ⟨rfl, rfl⟩) hF hT
                    · intro k s95 f96 hT h a hW hx hF
                      exact c_out (hsr_skip (by decide) (rfl)) hW hx hF hT
                  · exact c_out (hsr_no (by decide) (by decide) q1626 (by decide +kernel) (rfl)) hW hx hF hT
              · replace hT := hT.2 hi84
                refine x_if_eq (tgt := 185) dX5_two_159 rfl (fun _ => ?_) (fun c => absurd c (by decide))
                refine x_aload_n dX5_two_185 rfl rfl rfl ?_
                refine c_getO dX5_two_186 f_TallySlate_Signs_9 (by decide) (by decide) rfl hW ?_
                obtain ⟨hr, hT⟩ := hT
                refine c_newG (k := 29) dX5_two_189 (by decide) q1387 q205 hr hW hF ?_
                intro a97 f98 ea97 ef98 h hW hF
                replace hT := hT a97 f98 ea97 ef98
                refine x_dup dX5_two_192 rfl ?_
                refine x_iload_n dX5_two_193 rfl rfl ?_
                refine x_aload_n dX5_two_194 rfl rfl rfl ?_
                refine x_iconst (v := 0) dX5_two_195 rfl ?_
                refine c_invS (vs := [.ref a16, .int 0]) dX5_two_196 oX5_rowOf q1465 (Or.inl q1464) rfl rfl (Nat.le_of_ble_eq_true rfl) rfl hW hF hT ?_ ?_
                · intro _ s99 f100 hT h hW hF
                  obtain ⟨v101, rfl, iv101, hT⟩ := hT
                  refine x_iload dX5_two_199 rfl ?_
                  refine x_aload dX5_two_201 rfl iv2 ?_
                  refine x_iconst (v := 0) dX5_two_203 rfl ?_
                  refine c_invS (vs := [v2, .int 0]) dX5_two_204 oX5_rowOf q1465 (Or.inl q1464) rfl rfl (by rcases isR_cases iv101 with rfl | ⟨_, rfl⟩ <;> exact Nat.le_of_ble_eq_true rfl) rfl hW hF hT ?_ ?_
                  · intro _ s102 f103 hT h hW hF
                    obtain ⟨v104, rfl, iv104, hT⟩ := hT
                    refine x_iload dX5_two_207 rfl ?_
                    refine c_invS (vs := [.int x1, v101, .int y3, v104, .int y4]) dX5_two_209 oX5_rows q1390 (Or.inl q1389) rfl rfl (Nat.le_of_ble_eq_true rfl) rfl hW hF hT ?_ ?_
                    · intro _ s105 f106 hT h hW hF
                      obtain ⟨a107, rfl, hT⟩ := hT
                      refine c_invI (b := a97) (vs := [.ref a107]) dX5_two_212 oX32_init rfl rfl rfl q1396 (Or.inl q1395) rfl rfl (Nat.le_of_ble_eq_true rfl) rfl hW hF hT ?_ ?_
                      · intro _ s108 f109 hT h hW hF
                        obtain ⟨rfl, hT⟩ := hT
                        refine x_iconst (v := 2) dX5_two_215 rfl ?_
                        refine x_iload_n dX5_two_216 rfl rfl ?_
                        obtain ⟨-, -, cc, hcc, -⟩ := hW.ob 3 (by decide)
                        refine c_invV (vs := [.ref a97, .int 2, .int x2]) dX5_two_217 oX3_give_2 q1412 q1411 hcc q1413 (Or.inl rfl) rfl rfl (Nat.le_of_ble_eq_true rfl) rfl hW hF hT ?_ ?_
                        · intro _ s110 f111 hT h hW hF
                          obtain ⟨rfl, hT⟩ := hT
                          refine x_goto (tgt := 236) dX5_two_220 rfl ?_
                          exact x_vret dX5_two_236 rfl ⟨_, _, hW, hF, Or.inl ⟨_, rfl, hT⟩⟩
                        · intro k s110 f111 hT h a112 hW hx hF
                          rcases hT with ⟨rfl, hT⟩ | ⟨rfl, hT⟩
                          · replace hT := hT a112
                            refine c_catch (hsr_yes (by decide) (by decide) q1626 (Or.inl rfl)) hW hx ?_
                            refine x_astore (lo' := [some (.ref (w.1 5)), some (.int x1), some (.int x2), some (.ref a16), some (v2), some (.int y3), some (.int y4), some (.ref a112)]) dX5_two_223 (Nat.le_of_ble_eq_true rfl) rfl rfl ?_
                            refine x_aload_n dX5_two_225 rfl rfl rfl ?_
                            refine c_getO dX5_two_226 f_TallySlate_Signs_9 (by decide) (by decide) rfl hW ?_
                            refine x_bipush (v := 6) dX5_two_229 rfl ?_
                            refine x_iload_n dX5_two_231 rfl rfl ?_
                            obtain ⟨-, -, cc, hcc, -⟩ := hW.ob 3 (by decide)
                            refine c_invV (vs := [.int 6, .int x2]) dX5_two_232 oX3_wrong q1323 q1382 hcc q1324 (Or.inl rfl) rfl rfl (Nat.le_of_ble_eq_true rfl) rfl hW hF hT ?_ ?_
                            · intro _ s113 f114 hT h hW hF
                              obtain ⟨rfl, hT⟩ := hT
                              refine x_athrow dX5_two_235 ?_
                              exact c_out (hsr_skip (by decide) (rfl)) hW (Or.inl ⟨rfl, rfl⟩) hF hT
                            · intro k s113 f114 hT h a hW hx hF
                              exact c_out (hsr_skip (by decide) (rfl)) hW hx hF hT
                          · exact c_out (hsr_no (by decide) (by decide) q1626 (by decide +kernel) (rfl)) hW hx hF hT
                      · intro k s108 f109 hT h a115 hW hx hF
                        rcases hT with ⟨rfl, hT⟩ | ⟨rfl, hT⟩
                        · replace hT := hT a115
                          refine c_catch (hsr_yes (by decide) (by decide) q1626 (Or.inl rfl)) hW hx ?_
                          refine x_astore (lo' := [some (.ref (w.1 5)), some (.int x1), some (.int x2), some (.ref a16), some (v2), some (.int y3), some (.int y4), some (.ref a115)]) dX5_two_223 (Nat.le_of_ble_eq_true rfl) rfl rfl ?_
                          refine x_aload_n dX5_two_225 rfl rfl rfl ?_
                          refine c_getO dX5_two_226 f_TallySlate_Signs_9 (by decide) (by decide) rfl hW ?_
                          refine x_bipush (v := 6) dX5_two_229 rfl ?_
                          refine x_iload_n dX5_two_231 rfl rfl ?_
                          obtain ⟨-, -, cc, hcc, -⟩ := hW.ob 3 (by decide)
                          refine c_invV (vs := [.int 6, .int x2]) dX5_two_232 oX3_wrong q1323 q1382 hcc q1324 (Or.inl rfl) rfl rfl (Nat.le_of_ble_eq_true rfl) rfl hW hF hT ?_ ?_
                          · intro _ s116 f117 hT h hW hF
                            obtain ⟨rfl, hT⟩ := hT
                            refine x_athrow dX5_two_235 ?_
                            exact c_out (hsr_skip (by decide) (rfl)) hW (Or.inl ⟨rfl, rfl⟩) hF hT
                          · intro k s116 f117 hT h a hW hx hF
                            exact c_out (hsr_skip (by decide) (rfl)) hW hx hF hT
                        · exact c_out (hsr_no (by decide) (by decide) q1626 (by decide +kernel) (rfl)) hW hx hF hT
                    · intro k s105 f106 hT h a118 hW hx hF
                      rcases hT with ⟨rfl, hT⟩ | ⟨rfl, hT⟩
                      · replace hT := hT a118
                        refine c_catch (hsr_yes (by decide) (by decide) q1626 (Or.inl rfl)) hW hx ?_
                        refine x_astore (lo' := [some (.ref (w.1 5)), some (.int x1), some (.int x2), some (.ref a16), some (v2), some (.int y3), some (.int y4), some (.ref a118)]) dX5_two_223 (Nat.le_of_ble_eq_true rfl) rfl rfl ?_
                        refine x_aload_n dX5_two_225 rfl rfl rfl ?_
                        refine c_getO dX5_two_226 f_TallySlate_Signs_9 (by decide) (by decide) rfl hW ?_
                        refine x_bipush (v := 6) dX5_two_229 rfl ?_
                        refine x_iload_n dX5_two_231 rfl rfl ?_
                        obtain ⟨-, -, cc, hcc, -⟩ := hW.ob 3 (by decide)
                        refine c_invV (vs := [.int 6, .int x2]) dX5_two_232 oX3_wrong q1323 q1382 hcc q1324 (Or.inl rfl) rfl rfl (Nat.le_of_ble_eq_true rfl) rfl hW hF hT ?_ ?_
                        · intro _ s119 f120 hT h hW hF
                          obtain ⟨rfl, hT⟩ := hT
                          refine x_athrow dX5_two_235 ?_
                          exact c_out (hsr_skip (by decide) (rfl)) hW (Or.inl ⟨rfl, rfl⟩) hF hT
                        · intro k s119 f120 hT h a hW hx hF
                          exact c_out (hsr_skip (by decide) (rfl)) hW hx hF hT
                      · exact c_out (hsr_no (by decide) (by decide) q1626 (by decide +kernel) (rfl)) hW hx hF hT
                  · intro k s102 f103 hT h a121 hW hx hF
                    rcases hT with ⟨rfl, hT⟩ | ⟨rfl, hT⟩
                    · replace hT := hT a121
                      refine c_catch (hsr_yes (by decide) (by decide) q1626 (Or.inl rfl)) hW hx ?_
                      refine x_astore (lo' := [some (.ref (w.1 5)), some (.int x1), some (.int x2), some (.ref a16), some (v2), some (.int y3), some (.int y4), some (.ref a121)]) dX5_two_223 (Nat.le_of_ble_eq_true rfl) rfl rfl ?_
                      refine x_aload_n dX5_two_225 rfl rfl rfl ?_
                      refine c_getO dX5_two_226 f_TallySlate_Signs_9 (by decide) (by decide) rfl hW ?_
                      refine x_bipush (v := 6) dX5_two_229 rfl ?_
                      refine x_iload_n dX5_two_231 rfl rfl ?_
                      obtain ⟨-, -, cc, hcc, -⟩ := hW.ob 3 (by decide)
                      refine c_invV (vs := [.int 6, .int x2]) dX5_two_232 oX3_wrong q1323 q1382 hcc q1324 (Or.inl rfl) rfl rfl (Nat.le_of_ble_eq_true rfl) rfl hW hF hT ?_ ?_
                      · intro _ s122 f123 hT h hW hF
                        obtain ⟨rfl, hT⟩ := hT
                        refine x_athrow dX5_two_235 ?_
                        exact c_out (hsr_skip (by decide) (rfl)) hW (Or.inl ⟨rfl, rfl⟩) hF hT
                      · intro k s122 f123 hT h a hW hx hF
                        exact c_out (hsr_skip (by decide) (rfl)) hW hx hF hT
                    · exact c_out (hsr_no (by decide) (by decide) q1626 (by decide +kernel) (rfl)) hW hx hF hT
                · intro k s99 f100 hT h a124 hW hx hF
                  rcases hT with ⟨rfl, hT⟩ | ⟨rfl, hT⟩
                  · replace hT := hT a124
                    refine c_catch (hsr_yes (by decide) (by decide) q1626 (Or.inl rfl)) hW hx ?_
                    refine x_astore (lo' := [some (.ref (w.1 5)), some (.int x1), some (.int x2), some (.ref a16), some (v2), some (.int y3), some (.int y4), some (.ref a124)]) dX5_two_223 (Nat.le_of_ble_eq_true rfl) rfl rfl ?_
                    refine x_aload_n dX5_two_225 rfl rfl rfl ?_
                    refine c_getO dX5_two_226 f_TallySlate_Signs_9 (by decide) (by decide) rfl hW ?_
                    refine x_bipush (v := 6) dX5_two_229 rfl ?_
                    refine x_iload_n dX5_two_231 rfl rfl ?_
                    obtain ⟨-, -, cc, hcc, -⟩ := hW.ob 3 (by decide)
                    refine c_invV (vs := [.int 6, .int x2]) dX5_two_232 oX3_wrong q1323 q1382 hcc q1324 (Or.inl rfl) rfl rfl (Nat.le_of_ble_eq_true rfl) rfl hW hF hT ?_ ?_
                    · intro _ s125 f126 hT h hW hF
                      obtain ⟨rfl, hT⟩ := hT
                      refine x_athrow dX5_two_235 ?_
                      exact c_out (hsr_skip (by decide) (rfl)) hW (Or.inl ⟨rfl, rfl⟩) hF hT
                    · intro k s125 f126 hT h a hW hx hF
                      exact c_out (hsr_skip (by decide) (rfl)) hW hx hF hT
                  · exact c_out (hsr_no (by decide) (by decide) q1626 (by decide +kernel) (rfl)) hW hx hF hT
          · subst e
            replace hT := hT.1 rfl
            refine x_aload dX5_two_123 rfl iv2 ?_
            refine x_ifnonnull (tgt := 147) dX5_two_125 rfl iv2 (fun a17 e => ?_) (fun e => ?_)
            · subst e
              replace hT := hT.2 a17 rfl
              refine x_aload_n dX5_two_147 rfl rfl rfl ?_
              refine x_inst0 dX5_two_148 ?_
              refine x_if_ne (tgt := 162) dX5_two_151 rfl (fun c => absurd c (by decide)) (fun _ => ?_)
              refine x_aload dX5_two_154 rfl rfl ?_
              obtain ⟨ht, hT⟩ := hT
              refine c_inst (K := 30) dX5_two_156 (by decide) q1446 ht hW (fun hi30 => ?_) (fun hi30 => ?_)
              · replace hT := hT.1 hi30
                refine x_if_eq (tgt := 185) dX5_two_159 rfl (fun c => absurd c (by decide)) (fun _ => ?_)
                refine x_aload_n dX5_two_162 rfl rfl rfl ?_
                refine c_getO dX5_two_163 f_TallySlate_Signs_9 (by decide) (by decide) rfl hW ?_
                refine x_iload_n dX5_two_166 rfl rfl ?_
                refine x_aload_n dX5_two_167 rfl rfl rfl ?_
                refine x_iload dX5_two_168 rfl ?_
                refine x_aload dX5_two_170 rfl rfl ?_
                refine x_iload dX5_two_172 rfl ?_
                refine c_invS (vs := [.int x1, .null, .int y3, .ref a17, .int y4]) dX5_two_174 oX5_tables q1444 (Or.inl q1443) rfl rfl (Nat.le_of_ble_eq_true rfl) rfl hW hF hT ?_ ?_
                · intro _ s31 f32 hT h hW hF
                  obtain ⟨a33, rfl, hT⟩ := hT
                  refine x_iconst (v := 2) dX5_two_177 rfl ?_
                  refine x_iload_n dX5_two_178 rfl rfl ?_
                  obtain ⟨-, -, cc, hcc, -⟩ := hW.ob 3 (by decide)
                  refine c_invV (vs := [.ref a33, .int 2, .int x2]) dX5_two_179 oX3_give_2 q1412 q1411 hcc q1413 (Or.inl rfl) rfl rfl (Nat.le_of_ble_eq_true rfl) rfl hW hF hT ?_ ?_
                  · intro _ s34 f35 hT h hW hF
                    obtain ⟨rfl, hT⟩ := hT
                    refine x_goto (tgt := 220) dX5_two_182 rfl ?_
                    refine x_goto (tgt := 236) dX5_two_220 rfl ?_
                    exact x_vret dX5_two_236 rfl ⟨_, _, hW, hF, Or.inl ⟨_, rfl, hT⟩⟩
                  · intro k s34 f35 hT h a36 hW hx hF
                    rcases hT with ⟨rfl, hT⟩ | ⟨rfl, hT⟩
                    · replace hT := hT a36
                      refine c_catch (hsr_yes (by decide) (by decide) q1626 (Or.inl rfl)) hW hx ?_
                      refine x_astore (lo' := [some (.ref (w.1 5)), some (.int x1), some (.int x2), some (.null), some (.ref a17), some (.int y3), some (.int y4), some (.ref a36)]) dX5_two_223 (Nat.le_of_ble_eq_true rfl) rfl rfl ?_
                      refine x_aload_n dX5_two_225 rfl rfl rfl ?_
                      refine c_getO dX5_two_226 f_TallySlate_Signs_9 (by decide) (by decide) rfl hW ?_
                      refine x_bipush (v := 6) dX5_two_229 rfl ?_
                      refine x_iload_n dX5_two_231 rfl rfl ?_
                      obtain ⟨-, -, cc, hcc, -⟩ := hW.ob 3 (by decide)
                      refine c_invV (vs := [.int 6, .int x2]) dX5_two_232 oX3_wrong q1323 q1382 hcc q1324 (Or.inl rfl) rfl rfl (Nat.le_of_ble_eq_true rfl) rfl hW hF hT ?_ ?_
                      · intro _ s37 f38 hT h hW hF
                        obtain ⟨rfl, hT⟩ := hT
                        refine x_athrow dX5_two_235 ?_
                        exact c_out (hsr_skip (by decide) (rfl)) hW (Or.inl ⟨rfl, rfl⟩) hF hT
                      · intro k s37 f38 hT h a hW hx hF
                        exact c_out (hsr_skip (by decide) (rfl)) hW hx hF hT
                    · exact c_out (hsr_no (by decide) (by decide) q1626 (by decide +kernel) (rfl)) hW hx hF hT
                · intro k s31 f32 hT h a39 hW hx hF
                  rcases hT with ⟨rfl, hT⟩ | ⟨rfl, hT⟩
                  · replace hT := hT a39
                    refine c_catch (hsr_yes (by decide) (by decide) q1626 (Or.inl rfl)) hW hx ?_
                    refine x_astore (lo' := [some (.ref (w.1 5)), some (.int x1), some (.int x2), some (.null), some (.ref a17), some (.int y3), some (.int y4), some (.ref a39)]) dX5_two_223 (Nat.le_of_ble_eq_true rfl) rfl rfl ?_
                    refine x_aload_n dX5_two_225 rfl rfl rfl ?_
                    refine c_getO dX5_two_226 f_TallySlate_Signs_9 (by decide) (by decide) rfl hW ?_
                    refine x_bipush (v := 6) dX5_two_229 rfl ?_
                    refine x_iload_n dX5_two_231 rfl rfl ?_
                    obtain ⟨-, -, cc, hcc, -⟩ := hW.ob 3 (by decide)
                    refine c_invV (vs := [.int 6, .int x2]) dX5_two_232 oX3_wrong q1323 q1382 hcc q1324 (Or.inl rfl) rfl rfl (Nat.le_of_ble_eq_true rfl) rfl hW hF hT ?_ ?_
                    · intro _ s40 f41 hT h hW hF
                      obtain ⟨rfl, hT⟩ := hT
                      refine x_athrow dX5_two_235 ?_
                      exact c_out (hsr_skip (by decide) (rfl)) hW (Or.inl ⟨rfl, rfl⟩) hF hT
                    · intro k s40 f41 hT h a hW hx hF
                      exact c_out (hsr_skip (by decide) (rfl)) hW hx hF hT
                  · exact c_out (hsr_no (by decide) (by decide) q1626 (by decide +kernel) (rfl)) hW hx hF hT
              · replace hT := hT.2 hi30
                refine x_if_eq (tgt := 185) dX5_two_159 rfl (fun _ => ?_) (fun c => absurd c (by decide))
                refine x_aload_n dX5_two_185 rfl rfl rfl ?_
                refine c_getO dX5_two_186 f_TallySlate_Signs_9 (by decide) (by decide) rfl hW ?_
                obtain ⟨hr, hT⟩ := hT
                refine c_newG (k := 29) dX5_two_189 (by decide) q1387 q205 hr hW hF ?_
                intro a42 f43 ea42 ef43 h hW hF
                replace hT := hT a42 f43 ea42 ef43
                refine x_dup dX5_two_192 rfl ?_
                refine x_iload_n dX5_two_193 rfl rfl ?_
                refine x_aload_n dX5_two_194 rfl rfl rfl ?_
                refine x_iconst (v := 0) dX5_two_195 rfl ?_
                refine c_invS (vs := [.null, .int 0]) dX5_two_196 oX5_rowOf q1465 (Or.inl q1464) rfl rfl (Nat.le_of_ble_eq_true rfl) rfl hW hF hT ?_ ?_
                · intro _ s44 f45 hT h hW hF
                  obtain ⟨v46, rfl, iv46, hT⟩ := hT
                  refine x_iload dX5_two_199 rfl ?_
                  refine x_aload dX5_two_201 rfl rfl ?_
                  refine x_iconst (v := 0) dX5_two_203 rfl ?_
                  refine c_invS (vs := [.ref a17, .int 0]) dX5_two_204 oX5_rowOf q1465 (Or.inl q1464) rfl rfl (by rcases isR_cases iv46 with rfl | ⟨_, rfl⟩ <;> exact Nat.le_of_ble_eq_true rfl) rfl hW hF hT ?_ ?_
                  · intro _ s47 f48 hT h hW hF
                    obtain ⟨v49, rfl, iv49, hT⟩ := hT
                    refine x_iload dX5_two_207 rfl ?_
                    refine c_invS (vs := [.int x1, v46, .int y3, v49, .int y4]) dX5_two_209 oX5_rows q1390 (Or.inl q1389) rfl rfl (Nat.le_of_ble_eq_true rfl) rfl hW hF hT ?_ ?_
                    · intro _ s50 f51 hT h hW hF
                      obtain ⟨a52, rfl, hT⟩ := hT
                      refine c_invI (b := a42) (vs := [.ref a52]) dX5_two_212 oX32_init rfl rfl rfl q1396 (Or.inl q1395) rfl rfl (Nat.le_of_ble_eq_true rfl) rfl hW hF hT ?_ ?_
                      · intro _ s53 f54 hT h hW hF
                        obtain ⟨rfl, hT⟩ := hT
                        refine x_iconst (v := 2) dX5_two_215 rfl ?_
                        refine x_iload_n dX5_two_216 rfl rfl ?_
                        obtain ⟨-, -, cc, hcc, -⟩ := hW.ob 3 (by decide)
                        refine c_invV (vs := [.ref a42, .int 2, .int x2]) dX5_two_217 oX3_give_2 q1412 q1411 hcc q1413 (Or.inl rfl) rfl rfl (Nat.le_of_ble_eq_true rfl) rfl hW hF hT ?_ ?_
                        · intro _ s55 f56 hT h hW hF
                          obtain ⟨rfl, hT⟩ := hT
                          refine x_goto (tgt := 236) dX5_two_220 rfl ?_
                          exact x_vret dX5_two_236 rfl ⟨_, _, hW, hF, Or.inl ⟨_, rfl, hT⟩⟩
                        · intro k s55 f56 hT h a57 hW hx hF
                          rcases hT with ⟨rfl, hT⟩ | ⟨rfl, hT⟩
                          · replace hT := hT a57
                            refine c_catch (hsr_yes (by decide) (by decide) q1626 (Or.inl rfl)) hW hx ?_
                            refine x_astore (lo' := [some (.ref (w.1 5)), some (.int x1), some (.int x2), some (.null), some (.ref a17), some (.int y3), some (.int y4), some (.ref a57)]) dX5_two_223 (Nat.le_of_ble_eq_true rfl) rfl rfl ?_
                            refine x_aload_n dX5_two_225 rfl rfl rfl ?_
                            refine c_getO dX5_two_226 f_TallySlate_Signs_9 (by decide) (by decide) rfl hW ?_
                            refine x_bipush (v := 6) dX5_two_229 rfl ?_
                            refine x_iload_n dX5_two_231 rfl rfl ?_
                            obtain ⟨-, -, cc, hcc, -⟩ := hW.ob 3 (by decide)
                            refine c_invV (vs := [.int 6, .int x2]) dX5_two_232 oX3_wrong q1323 q1382 hcc q1324 (Or.inl rfl) rfl rfl (Nat.le_of_ble_eq_true rfl) rfl hW hF hT ?_ ?_
                            · intro _ s58 f59 hT h hW hF
                              obtain ⟨rfl, hT⟩ := hT
                              refine x_athrow dX5_two_235 ?_
                              exact c_out (hsr_skip (by decide) (rfl)) hW (Or.inl ⟨rfl, rfl⟩) hF hT
                            · intro k s58 f59 hT h a hW hx hF
                              exact c_out (hsr_skip (by decide) (rfl)) hW hx hF hT
                          · exact c_out (hsr_no (by decide) (by decide) q1626 (by decide +kernel) (rfl)) hW hx hF hT
                      · intro k s53 f54 hT h a60 hW hx hF
                        rcases hT with ⟨rfl, hT⟩ | ⟨rfl, hT⟩
                        · replace hT := hT a60
                          refine c_catch (hsr_yes (by decide) (by decide) q1626 (Or.inl rfl)) hW hx ?_
                          refine x_astore (lo' := [some (.ref (w.1 5)), some (.int x1), some (.int x2), some (.null), some (.ref a17), some (.int y3), some (.int y4), some (.ref a60)]) dX5_two_223 (Nat.le_of_ble_eq_true rfl) rfl rfl ?_
                          refine x_aload_n dX5_two_225 rfl rfl rfl ?_
                          refine c_getO dX5_two_226 f_TallySlate_Signs_9 (by decide) (by decide) rfl hW ?_
                          refine x_bipush (v := 6) dX5_two_229 rfl ?_
                          refine x_iload_n dX5_two_231 rfl rfl ?_
                          obtain ⟨-, -, cc, hcc, -⟩ := hW.ob 3 (by decide)
                          refine c_invV (vs := [.int 6, .int x2]) dX5_two_232 oX3_wrong q1323 q1382 hcc q1324 (Or.inl rfl) rfl rfl (Nat.le_of_ble_eq_true rfl) rfl hW hF hT ?_ ?_
                          · intro _ s61 f62 hT h hW hF
                            obtain ⟨rfl, hT⟩ := hT
                            refine x_athrow dX5_two_235 ?_
                            exact c_out (hsr_skip (by decide) (rfl)) hW (Or.inl ⟨rfl, rfl⟩) hF hT
                          · intro k s61 f62 hT h a hW hx hF
                            exact c_out (hsr_skip (by decide) (rfl)) hW hx hF hT
                        · exact c_out (hsr_no (by decide) (by decide) q1626 (by decide +kernel) (rfl)) hW hx hF hT
                    · intro k s50 f51 hT h a63 hW hx hF
                      rcases hT with ⟨rfl, hT⟩ | ⟨rfl, hT⟩
                      · replace hT := hT a63
                        refine c_catch (hsr_yes (by decide) (by decide) q1626 (Or.inl rfl)) hW hx ?_
                        refine x_astore (lo' := [some (.ref (w.1 5)), some (.int x1), some (.int x2), some (.null), some (.ref a17), some (.int y3), some (.int y4), some (.ref a63)]) dX5_two_223 (Nat.le_of_ble_eq_true rfl) rfl rfl ?_
                        refine x_aload_n dX5_two_225 rfl rfl rfl ?_
                        refine c_getO dX5_two_226 f_TallySlate_Signs_9 (by decide) (by decide) rfl hW ?_
                        refine x_bipush (v := 6) dX5_two_229 rfl ?_
                        refine x_iload_n dX5_two_231 rfl rfl ?_
                        obtain ⟨-, -, cc, hcc, -⟩ := hW.ob 3 (by decide)
                        refine c_invV (vs := [.int 6, .int x2]) dX5_two_232 oX3_wrong q1323 q1382 hcc q1324 (Or.inl rfl) rfl rfl (Nat.le_of_ble_eq_true rfl) rfl hW hF hT ?_ ?_
                        · intro _ s64 f65 hT h hW hF
                          obtain ⟨rfl, hT⟩ := hT
                          refine x_athrow dX5_two_235 ?_
                          exact c_out (hsr_skip (by decide) (rfl)) hW (Or.inl ⟨rfl, rfl⟩) hF hT
                        · intro k s64 f65 hT h a hW hx hF
                          exact c_out (hsr_skip (by decide) (rfl)) hW hx hF hT
                      · exact c_out (hsr_no (by decide) (by decide) q1626 (by decide +kernel) (rfl)) hW hx hF hT
                  · intro k s47 f48 hT h a66 hW hx hF
                    rcases hT with ⟨rfl, hT⟩ | ⟨rfl, hT⟩
                    · replace hT := hT a66
                      refine c_catch (hsr_yes (by decide) (by decide) q1626 (Or.inl rfl)) hW hx ?_
                      refine x_astore (lo' := [some (.ref (w.1 5)), some (.int x1), some (.int x2), some (.null), some (.ref a17), some (.int y3), some (.int y4), some (.ref a66)]) dX5_two_223 (Nat.le_of_ble_eq_true rfl) rfl rfl ?_
                      refine x_aload_n dX5_two_225 rfl rfl rfl ?_
                      refine c_getO dX5_two_226 f_TallySlate_Signs_9 (by decide) (by decide) rfl hW ?_
                      refine x_bipush (v := 6) dX5_two_229 rfl ?_
                      refine x_iload_n dX5_two_231 rfl rfl ?_
                      obtain ⟨-, -, cc, hcc, -⟩ := hW.ob 3 (by decide)
                      refine c_invV (vs := [.int 6, .int x2]) dX5_two_232 oX3_wrong q1323 q1382 hcc q1324 (Or.inl rfl) rfl rfl (Nat.le_of_ble_eq_true rfl) rfl hW hF hT ?_ ?_
                      · intro _ s67 f68 hT h hW hF
                        obtain ⟨rfl, hT⟩ := hT
                        refine x_athrow dX5_two_235 ?_
                        exact c_out (hsr_skip (by decide) (rfl)) hW (Or.inl ⟨rfl, rfl⟩) hF hT
                      · intro k s67 f68 hT h a hW hx hF
                        exact c_out (hsr_skip (by decide) (rfl)) hW hx hF hT
                    · exact c_out (hsr_no (by decide) (by decide) q1626 (by decide +kernel) (rfl)) hW hx hF hT
                · intro k s44 f45 hT h a69 hW hx hF
                  rcases hT with ⟨rfl, hT⟩ | ⟨rfl, hT⟩
                  · replace hT := hT a69
                    refine c_catch (hsr_yes (by decide) (by decide) q1626 (Or.inl rfl)) hW hx ?_
                    refine x_astore (lo' := [some (.ref (w.1 5)), some (.int x1), some (.int x2), some (.null), some (.ref a17), some (.int y3), some (.int y4), some (.ref a69)]) dX5_two_223 (Nat.le_of_ble_eq_true rfl) rfl rfl ?_
                    refine x_aload_n dX5_two_225 rfl rfl rfl ?_
                    refine c_getO dX5_two_226 f_TallySlate_Signs_9 (by decide) (by decide) rfl hW ?_
                    refine x_bipush (v := 6) dX5_two_229 rfl ?_
                    refine x_iload_n dX5_two_231 rfl rfl ?_
                    obtain ⟨-, -, cc, hcc, -⟩ := hW.ob 3 (by decide)
                    refine c_invV (vs := [.int 6, .int x2]) dX5_two_232 oX3_wrong q1323 q1382 hcc q1324 (Or.inl rfl) rfl rfl (Nat.le_of_ble_eq_true rfl) rfl hW hF hT ?_ ?_
                    · intro _ s70 f71 hT h hW hF
                      obtain ⟨rfl, hT⟩ := hT
                      refine x_athrow dX5_two_235 ?_
                      exact c_out (hsr_skip (by decide) (rfl)) hW (Or.inl ⟨rfl, rfl⟩) hF hT
                    · intro k s70 f71 hT h a hW hx hF
                      exact c_out (hsr_skip (by decide) (rfl)) hW hx hF hT
                  · exact c_out (hsr_no (by decide) (by decide) q1626 (by decide +kernel) (rfl)) hW hx hF hT
            · subst e
              replace hT := hT.1 rfl
              refine x_aload_n dX5_two_128 rfl rfl rfl ?_
              refine c_getO dX5_two_129 f_TallySlate_Signs_9 (by decide) (by decide) rfl hW ?_
              refine x_iload_n dX5_two_132 rfl rfl ?_
              refine x_iload dX5_two_133 rfl ?_
              refine x_iload dX5_two_135 rfl ?_
              refine c_invS (vs := [.int x1, .int y3, .int y4]) dX5_two_137 oX5_of q1393 (Or.inl q1392) rfl rfl (Nat.le_of_ble_eq_true rfl) rfl hW hF hT ?_ ?_
              · intro _ s18 f19 hT h hW hF
                obtain ⟨v20, rfl, hT⟩ := hT
                refine x_iconst (v := 2) dX5_two_140 rfl ?_
                obtain ⟨-, -, cc, hcc, -⟩ := hW.ob 3 (by decide)
                refine c_invV (vs := [.int v20, .int 2]) dX5_two_141 oX3_give q1384 q1383 hcc q1385 (Or.inl rfl) rfl rfl (Nat.le_of_ble_eq_true rfl) rfl hW hF hT ?_ ?_
                · intro _ s21 f22 hT h hW hF
                  obtain ⟨rfl, hT⟩ := hT
                  refine x_goto (tgt := 220) dX5_two_144 rfl ?_
                  refine x_goto (tgt := 236) dX5_two_220 rfl ?_
                  exact x_vret dX5_two_236 rfl ⟨_, _, hW, hF, Or.inl ⟨_, rfl, hT⟩⟩
                · intro k s21 f22 hT h a23 hW hx hF
                  rcases hT with ⟨rfl, hT⟩ | ⟨rfl, hT⟩
                  · replace hT := hT a23
                    refine c_catch (hsr_yes (by decide) (by decide) q1626 (Or.inl rfl)) hW hx ?_
                    refine x_astore (lo' := [some (.ref (w.1 5)), some (.int x1), some (.int x2), some (.null), some (.null), some (.int y3), some (.int y4), some (.ref a23)]) dX5_two_223 (Nat.le_of_ble_eq_true rfl) rfl rfl ?_
                    refine x_aload_n dX5_two_225 rfl rfl rfl ?_
                    refine c_getO dX5_two_226 f_TallySlate_Signs_9 (by decide) (by decide) rfl hW ?_
                    refine x_bipush (v := 6) dX5_two_229 rfl ?_
                    refine x_iload_n dX5_two_231 rfl rfl ?_
                    obtain ⟨-, -, cc, hcc, -⟩ := hW.ob 3 (by decide)
                    refine c_invV (vs := [.int 6, .int x2]) dX5_two_232 oX3_wrong q1323 q1382 hcc q1324 (Or.inl rfl) rfl rfl (Nat.le_of_ble_eq_true rfl) rfl hW hF hT ?_ ?_
                    · intro _ s24 f25 hT h hW hF
                      obtain ⟨rfl, hT⟩ := hT
                      refine x_athrow dX5_two_235 ?_
                      exact c_out (hsr_skip (by decide) (rfl)) hW (Or.inl ⟨rfl, rfl⟩) hF hT
                    · intro k s24 f25 hT h a hW hx hF
                      exact c_out (hsr_skip (by decide) (rfl)) hW hx hF hT
                  · exact c_out (hsr_no (by decide) (by decide) q1626 (by decide +kernel) (rfl)) hW hx hF hT
              · intro k s18 f19 hT h a26 hW hx hF
                rcases hT with ⟨rfl, hT⟩ | ⟨rfl, hT⟩
                · replace hT := hT a26
                  refine c_catch (hsr_yes (by decide) (by decide) q1626 (Or.inl rfl)) hW hx ?_
                  refine x_astore (lo' := [some (.ref (w.1 5)), some (.int x1), some (.int x2), some (.null), some (.null), some (.int y3), some (.int y4), some (.ref a26)]) dX5_two_223 (Nat.le_of_ble_eq_true rfl) rfl rfl ?_
                  refine x_aload_n dX5_two_225 rfl rfl rfl ?_
                  refine c_getO dX5_two_226 f_TallySlate_Signs_9 (by decide) (by decide) rfl hW ?_
                  refine x_bipush (v := 6) dX5_two_229 rfl ?_
                  refine x_iload_n dX5_two_231 rfl rfl ?_
                  obtain ⟨-, -, cc, hcc, -⟩ := hW.ob 3 (by decide)
                  refine c_invV (vs := [.int 6, .int x2]) dX5_two_232 oX3_wrong q1323 q1382 hcc q1324 (Or.inl rfl) rfl rfl (Nat.le_of_ble_eq_true rfl) rfl hW hF hT ?_ ?_
                  · intro _ s27 f28 hT h hW hF
                    obtain ⟨rfl, hT⟩ := hT
                    refine x_athrow dX5_two_235 ?_
                    exact c_out (hsr_skip (by decide) (rfl)) hW (Or.inl ⟨rfl, rfl⟩) hF hT
                  · intro k s27 f28 hT h a hW hx hF
                    exact c_out (hsr_skip (by decide) (rfl)) hW hx hF hT
                · exact c_out (hsr_no (by decide) (by decide) q1626 (by decide +kernel) (rfl)) hW hx hF hT
        · replace hT := hT.2 c
          refine x_aload_n dX5_two_109 rfl rfl rfl ?_
          refine c_getO dX5_two_110 f_TallySlate_Signs_9 (by decide) (by decide) rfl hW ?_
          refine x_iconst (v := 4) dX5_two_113 rfl ?_
          refine x_iload_n dX5_two_114 rfl rfl ?_
          obtain ⟨-, -, cc, hcc, -⟩ := hW.ob 3 (by decide)
          refine c_invV (vs := [.int 4, .int x2]) dX5_two_115 oX3_wrong q1323 q1382 hcc q1324 (Or.inl rfl) rfl rfl (Nat.le_of_ble_eq_true rfl) rfl hW hF hT ?_ ?_
          · intro _ s127 f128 hT h hW hF
            obtain ⟨rfl, hT⟩ := hT
            refine x_athrow dX5_two_118 ?_
            exact c_out (hsr_skip (by decide) (rfl)) hW (Or.inl ⟨rfl, rfl⟩) hF hT
          · intro k s127 f128 hT h a hW hx hF
            exact c_out (hsr_skip (by decide) (rfl)) hW hx hF hT
      · intro k s13 f14 hT h a hW hx hF
        exact c_out (hsr_skip (by decide) (rfl)) hW hx hF hT
theorem eX5_two {l : Launch} {E : EN} {w : CO} {d : Nat} {s : CS} {f : RH} {Q : KO → CS → RH → Prop} {x1 : Int32} {x2 : Int32}  (hst : l.stackTraces = false) (hT : (inB ((s.1 26) - 2) 8400 ∧ ∃ v1 : Value, (s.2.2.2 25 ((s.1 26) - 2).toNatClampNeg) = v1 ∧ isR v1 = true ∧ (inB ((s.1 26) - 1) 8400 ∧ ∃ v2 : Value, (s.2.2.2 25 ((s.1 26) - 1).toNatClampNeg) = v2 ∧ isR v2 = true ∧ (inB ((s.1 26) - 2) 8400 ∧ (∀ y3 : Int32, y3 = (s.2.2.1 24 ((s.1 26) - 2).toNatClampNeg) → (inB ((s.1 26) - 1) 8400 ∧ (∀ y4 : Int32, y4 = (s.2.2.1 24 ((s.1 26) - 1).toNatClampNeg) → (isT f v1 ∧ ((∀ a6 : Nat, v1 = .ref a6 → tg f a6 = some (.inl 31) → (EvC l E w d MX3_wrong [.ref (w.1 3), .int 3, .int x2] s f (fun o s7 f8 => KP o (fun r => r = some (.ref (w.1 9)) ∧ Q (.inr 9) s7 f8) (fun k => Q (.inr k) s7 f8)))) ∧ ((∀ z : Nat, v1 = .ref z → ¬ tg f z = some (.inl 31)) → (isT f v2 ∧ ((∀ a10 : Nat, v2 = .ref a10 → tg f a10 = some (.inl 31) → (EvC l E w d MX3_wrong [.ref (w.1 3), .int 3, .int x2] s f (fun o s11 f12 => KP o (fun r => r = some (.ref (w.1 9)) ∧ Q (.inr 9) s11 f12) (fun k => Q (.inr k) s11 f12)))) ∧ ((∀ z : Nat, v2 = .ref z → ¬ tg f z = some (.inl 31)) → (EvC l E w d MX5_areAlike [v1, v2] s f (fun o s13 f14 => KP o (fun r => ∃ v15 : Int32, r = some (.int v15) ∧ ((¬ v15 = 0 → ((v1 = .null → ((v2 = .null → (EvC l E w d MX5_of [.int x1, .int y3, .int y4] s13 f14 (fun o s18 f19 => KP o (fun r => ∃ v20 : Int32, r = some (.int v20) ∧ (EvC l E w d MX3_give [.ref (w.1 3), .int v20, .int 2] s18 f19 (fun o s21 f22 => KP o (fun r => r = none ∧ Q (.inl none) s21 f22) (fun k => (k = 36 ∧ (∀ a23 : Nat, (EvC l E w d MX3_wrong [.ref (w.1 3), .int 6, .int x2] s21 f22 (fun o s24 f25 => KP o (fun r => r = some (.ref (w.1 9)) ∧ Q (.inr 9) s24 f25) (fun k => Q (.inr k) s24 f25))))) ∨ (k = 9 ∧ Q (.inr 9) s21 f22))))) (fun k => (k = 36 ∧ (∀ a26 : Nat, (EvC l E w d MX3_wrong [.ref (w.1 3), .int 6, .int x2] s18 f19 (fun o s27 f28 => KP o (fun r => r = some (.ref (w.1 9)) ∧ Q (.inr 9) s27 f28) (fun k => Q (.inr k) s27 f28))))) ∨ (k = 9 ∧ Q (.inr 9) s18 f19))))) ∧ (∀ a17 : Nat, v2 = .ref a17 → (isT f14 (.ref a17) ∧ ((tg f14 a17 = some (.inl 30) → (EvC l E w d MX5_tables [.int x1, .null, .int y3, .ref a17, .int y4] s13 f14 (fun o s31 f32 => KP o (fun r => ∃ a33 : Nat, r = some (.ref a33) ∧ (EvC l E w d MX3_give_2 [.ref (w.1 3), .ref a33, .int 2, .int x2] s31 f32 (fun o s34 f35 => KP o (fun r => r = none ∧ Q (.inl none) s34 f35) (fun k => (k = 36 ∧ (∀ a36 : Nat, (EvC l E w d MX3_wrong [.ref (w.1 3), .int 6, .int x2] s34 f35 (fun o s37 f38 => KP o (fun r => r = some (.ref (w.1 9)) ∧ Q (.inr 9) s37 f38) (fun k => Q (.inr k) s37 f38))))) ∨ (k = 9 ∧ Q (.inr 9) s34 f35))))) (fun k => (k = 36 ∧ (∀ a39 : Nat, (EvC l E w d MX3_wrong [.ref (w.1 3), .int 6, .int x2] s31 f32 (fun o s40 f41 => KP o (fun r => r = some (.ref (w.1 9)) ∧ Q (.inr 9) s40 f41) (fun k => Q (.inr k) s40 f41))))) ∨ (k = 9 ∧ Q (.inr 9) s31 f32))))) ∧ (¬ tg f14 a17 = some (.inl 30) → (rmF E f14 1 1 ∧ ∀ (a42 : Nat) (f43 : RH), a42 = f14.1 → f43 = fnew f14 29 → (EvC l E w d MX5_rowOf [.null, .int 0] s13 f43 (fun o s44 f45 => KP o (fun r => ∃ v46 : Value, r = some v46 ∧ isR v46 = true ∧ (EvC l E w d MX5_rowOf [.ref a17, .int 0] s44 f45 (fun o s47 f48 => KP o (fun r => ∃ v49 : Value, r = some v49 ∧ isR v49 = true ∧ (EvC l E w d MX5_rows [.int x1, v46, .int y3, v49, .int y4] s47 f48 (fun o s50 f51 => KP o (fun r => ∃ a52 : Nat, r = some (.ref a52) ∧ (EvC l E w d MX32_init [.ref a42, .ref a52] s50 f51 (fun o s53 f54 => KP o (fun r => r = none ∧ (EvC l E w d MX3_give_2 [.ref (w.1 3), .ref a42, .int 2, .int x2] s53 f54 (fun o s55 f56 => KP o (fun r => r = none ∧ Q (.inl none) s55 f56) (fun k => (k = 36 ∧ (∀ a57 : Nat, (EvC l E w d MX3_wrong [.ref (w.1 3), .int 6, .int x2] s55 f56 (fun o s58 f59 => KP o (fun r => r = some (.ref (w.1 9)) ∧ Q (.inr 9) s58 f59) (fun k => Q (.inr k) s58 f59))))) ∨ (k = 9 ∧ Q (.inr 9) s55 f56))))) (fun k => (k = 36 ∧ (∀ a60 : Nat, (EvC l E w d MX3_wrong [.ref (w.1 3), .int 6, .int x2] s53 f54 (fun o s61 f62 => KP o (fun r => r = some (.ref (w.1 9)) ∧ Q (.inr 9) s61 f62) (fun k => Q (.inr k) s61 f62))))) ∨ (k = 9 ∧ Q (.inr 9) s53 f54))))) (fun k => (k = 36 ∧ (∀ a63 : Nat, (EvC l E w d MX3_wrong [.ref (w.1 3), .int 6, .int x2] s50 f51 (fun o s64 f65 => KP o (fun r => r = some (.ref (w.1 9)) ∧ Q (.inr 9) s64 f65) (fun k => Q (.inr k) s64 f65))))) ∨ (k = 9 ∧ Q (.inr 9) s50 f51))))) (fun k => (k = 36 ∧ (∀ a66 : Nat, (EvC l E w d MX3_wrong [.ref (w.1 3), .int 6, .int x2] s47 f48 (fun o s67 f68 => KP o (fun r => r = some (.ref (w.1 9)) ∧ Q (.inr 9) s67 f68) (fun k => Q (.inr k) s67 f68))))) ∨ (k = 9 ∧ Q (.inr 9) s47 f48))))) (fun k => (k = 36 ∧ (∀ a69 : Nat, (EvC l E w d MX3_wrong [.ref (w.1 3), .int 6, .int x2] s44 f45 (fun o s70 f71 => KP o (fun r => r = some (.ref (w.1 9)) ∧ Q (.inr 9) s70 f71) (fun k => Q (.inr k) s70 f71))))) ∨ (k = 9 ∧ Q (.inr 9) s44 f45))))))))))) ∧ (∀ a16 : Nat, v1 = .ref a16 → (isT f14 (.ref a16) ∧ ((tg f14 a16 = some (.inl 30) → (EvC l E w d MX5_tables [.int x1, .ref a16, .int y3, v2, .int y4] s13 f14 (fun o s73 f74 => KP o (fun r => ∃ a75 : Nat, r = some (.ref a75) ∧ (EvC l E w d MX3_give_2 [.ref (w.1 3), .ref a75, .int 2, .int x2] s73 f74 (fun o s76 f77 => KP o (fun r => r = none ∧ Q (.inl none) s76 f77) (fun k => (k = 36 ∧ (∀ a78 : Nat, (EvC l E w d MX3_wrong [.ref (w.1 3), .int 6, .int x2] s76 f77 (fun o s79 f80 => KP o (fun r => r = some (.ref (w.1 9)) ∧ Q (.inr 9) s79 f80) (fun k => Q (.inr k) s79 f80))))) ∨ (k = 9 ∧ Q (.inr 9) s76 f77))))) (fun k => (k = 36 ∧ (∀ a81 : Nat, (EvC l E w d MX3_wrong [.ref (w.1 3), .int 6, .int x2] s73 f74 (fun o s82 f83 => KP o (fun r => r = some (.ref (w.1 9)) ∧ Q (.inr 9) s82 f83) (fun k => Q (.inr k) s82 f83))))) ∨ (k = 9 ∧ Q (.inr 9) s73 f74))))) ∧ (¬ tg f14 a16 = some (.inl 30) → (isT f14 v2 ∧ ((∀ a85 : Nat, v2 = .ref a85 → tg f14 a85 = some (.inl 30) → (EvC l E w d MX5_tables [.int x1, .ref a16, .int y3, .ref a85, .int y4] s13 f14 (fun o s86 f87 => KP o (fun r => ∃ a88 : Nat, r = some (.ref a88) ∧ (EvC l E w d MX3_give_2 [.ref (w.1 3), .ref a88, .int 2, .int x2] s86 f87 (fun o s89 f90 => KP o (fun r => r = none ∧ Q (.inl none) s89 f90) (fun k => (k = 36 ∧ (∀ a91 : Nat, (EvC l E w d MX3_wrong [.ref (w.1 3), .int 6, .int x2] s89 f90 (fun o s92 f93 => KP o (fun r => r = some (.ref (w.1 9)) ∧ Q (.inr 9) s92 f93) (fun k => Q (.inr k) s92 f93))))) ∨ (k = 9 ∧ Q (.inr 9) s89 f90))))) (fun k => (k = 36 ∧ (∀ a94 : Nat, (EvC l E w d MX3_wrong [.ref (w.1 3), .int 6, .int x2] s86 f87 (fun o s95 f96 => KP o (fun r => r = some (.ref (w.1 9)) ∧ Q (.inr 9) s95 f96) (fun k => Q (.inr k) s95 f96))))) ∨ (k = 9 ∧ Q (.inr 9) s86 f87))))) ∧ ((∀ z : Nat, v2 = .ref z → ¬ tg f14 z = some (.inl 30)) → (rmF E f14 1 1 ∧ ∀ (a97 : Nat) (f98 : RH), a97 = f14.1 → f98 = fnew f14 29 → (EvC l E w d MX5_rowOf [.ref a16, .int 0] s13 f98 (fun o s99 f100 => KP o (fun r => ∃ v101 : Value, r = some v101 ∧ isR v101 = true ∧ (EvC l E w d MX5_rowOf [v2, .int 0] s99 f100 (fun o s102 f103 => KP o (fun r => ∃ v104 : Value, r = some v104 ∧ isR v104 = true ∧ (EvC l E w d MX5_rows [.int x1, v101, .int y3, v104, .int y4] s102 f103 (fun o s105 f106 => KP o (fun r => ∃ a107 : Nat, r = some (.ref a107) ∧ (EvC l E w d MX32_init [.ref a97, .ref a107] s105 f106 (fun o s108 f109 => KP o (fun r => r = none ∧ (EvC l E w d MX3_give_2 [.ref (w.1 3), .ref a97, .int 2, .int x2] s108 f109 (fun o s110 f111 => KP o (fun r => r = none ∧ Q (.inl none) s110 f111) (fun k => (k = 36 ∧ (∀ a112 : Nat, (EvC l E w d MX3_wrong [.ref (w.1 3), .int 6, .int x2] s110 f111 (fun o s113 f114 => KP o (fun r => r = some (.ref (w.1 9)) ∧ Q (.inr 9) s113 f114) (fun k => Q (.inr k) s113 f114))))) ∨ (k = 9 ∧ Q (.inr 9) s110 f111))))) (fun k => (k = 36 ∧ (∀ a115 : Nat, (EvC l E w d MX3_wrong [.ref (w.1 3), .int 6, .int x2] s108 f109 (fun o s116 f117 => KP o (fun r => r = some (.ref (w.1 9)) ∧ Q (.inr 9) s116 f117) (fun k => Q (.inr k) s116 f117))))) ∨ (k = 9 ∧ Q (.inr 9) s108 f109))))) (fun k => (k = 36 ∧ (∀ a118 : Nat, (EvC l E w d MX3_wrong [.ref (w.1 3), .int 6, .int x2] s105 f106 (fun o s119 f120 => KP o (fun r => r = some (.ref (w.1 9)) ∧ Q (.inr 9) s119 f120) (fun k => Q (.inr k) s119 f120))))) ∨ (k = 9 ∧ Q (.inr 9) s105 f106))))) (fun k => (k = 36 ∧ (∀ a121 : Nat, (EvC l E w d MX3_wrong [.ref (w.1 3), .int 6, .int x2] s102 f103 (fun o s122 f123 => KP o (fun r => r = some (.ref (w.1 9)) ∧ Q (.inr 9) s122 f123) (fun k => Q (.inr k) s122 f123))))) ∨ (k = 9 ∧ Q (.inr 9) s102 f103))))) (fun k => (k = 36 ∧ (∀ a124 : Nat, (EvC l E w d MX3_wrong [.ref (w.1 3), .int 6, .int x2] s99 f100 (fun o s125 f126 => KP o (fun r => r = some (.ref (w.1 9)) ∧ Q (.inr 9) s125 f126) (fun k => Q (.inr k) s125 f126))))) ∨ (k = 9 ∧ Q (.inr 9) s99 f100)))))))))))))) ∧ (v15 = 0 → (EvC l E w d MX3_wrong [.ref (w.1 3), .int 4, .int x2] s13 f14 (fun o s127 f128 => KP o (fun r => r = some (.ref (w.1 9)) ∧ Q (.inr 9) s127 f128) (fun k => Q (.inr k) s127 f128)))))) (fun k => Q (.inr k) s13 f14)))))))))))))))) : EvC l E w (d + 1) MX5_two [.ref (w.1 5), .int x1, .int x2] s f Q :=
  EvC.of hst (by decide) (Nat.le_of_ble_eq_true rfl) (vX5_two_0  hT)
set_option maxHeartbeats 16000000 in
theorem vX5_areAlike_0 {l : Launch} {E : EN} {w : CO} {d : Nat} {s : CS} {f : RH} {Q : KO → CS → RH → Prop} {x1 : Value} {x2 : Value} (ix1 : isR x1 = true) (ix2 : isR x2 = true) (hT : ((x1 = .null → Q (.inl (some (.int 1))) s f) ∧ (∀ a1 : Nat, x1 = .ref a1 → ((x2 = .null → Q (.inl (some (.int 1))) s f) ∧ (∀ a2 : Nat, x2 = .ref a2 → (isT f (.ref a1) ∧ ((tg f a1 = some (.inl 29) → (isT f (.ref a2) ∧ ((tg f a2 = some (.inl 29) → (∃ P14 : KO → CS → RH → Prop, (∀ o s5 f6, P14 o s5 f6 → KP o (fun r => ∃ v7 : Int32, r = some (.int v7) ∧ (∃ P12 : KO → CS → RH → Prop, (∀ o s8 f9, P12 o s8 f9 → KP o (fun r => ∃ v10 : Int32, r = some (.int v10) ∧ ((¬ v7 = v10 → Q (.inl (some (.int 0))) s8 f9) ∧ (v7 = v10 → Q (.inl (some (.int 1))) s8 f9))) (fun k => Q (.inr k) s8 f9)) ∧ ∃ k11 : Nat, oc f6 a2 k11 ∧ ((k11 = 29 ∧ EvC l E w d MX32_size [.ref a2] s5 f6 P12) ∨ (k11 = 30 ∧ EvC l E w d MX33_size [.ref a2] s5 f6 P12) ∨ (k11 = 31 ∧ EvC l E w d MX34_size [.ref a2] s5 f6 P12) ∨ (k11 = 32 ∧ EvC l E w d MX35_size [.ref a2] s5 f6 P12)))) (fun k => Q (.inr k) s5 f6)) ∧ ∃ k13 : Nat, oc f a1 k13 ∧ ((k13 = 29 ∧ EvC l E w d MX32_size [.ref a1] s f P14) ∨ (k13 = 30 ∧ EvC l E w d MX33_size [.ref a1] s f P14) ∨ (k13 = 31 ∧ EvC l E w d MX34_size [.ref a1] s f P14) ∨ (k13 = 32 ∧ EvC l E w d MX35_size [.ref a1] s f P14)))) ∧ (¬ tg f a2 = some (.inl 29) → (isT f (.ref a1) ∧ ((tg f a1 = some (.inl 30) → (isT f (.ref a2) ∧ ((tg f a2 = some (.inl 30) → (∃ P37 : KO → CS → RH → Prop, (∀ o s17 f18, P37 o s17 f18 → KP o (fun r => ∃ v19 : Int32, r = some (.int v19) ∧ (∃ P35 : KO → CS → RH → Prop, (∀ o s20 f21, P35 o s20 f21 → KP o (fun r => ∃ v22 : Int32, r = some (.int v22) ∧ ((v19 = v22 → (isT f21 (.ref a1) ∧ ((tg f21 a1 = some (.inl 30) → (∃ P28 : KO → CS → RH → Prop, (∀ o s24 f25, P28 o s24 f25 → KP o (fun r => ∃ v26 : Int32, r = some (.int v26) ∧ ExC l E w (d + 1) MX5_areAlike 92 [some (.ref a1), some (.ref a2), some (.int v26), some (.int 1), some (.int 0)] [] s24 f25 Q) (fun k => Q (.inr k) s24 f25)) ∧ ∃ k27 : Nat, oc f21 a1 k27 ∧ ((k27 = 29 ∧ EvC l E w d MX32_size [.ref a1] s20 f21 P28) ∨ (k27 = 30 ∧ EvC l E w d MX33_size [.ref a1] s20 f21 P28) ∨ (k27 = 31 ∧ EvC l E w d MX34_size [.ref a1] s20 f21 P28) ∨ (k27 = 32 ∧ EvC l E w d MX35_size [.ref a1] s20 f21 P28)))) ∧ (¬ tg f21 a1 = some (.inl 30) → (∃ P33 : KO → CS → RH → Prop, (∀ o s29 f30, P33 o s29 f30 → KP o (fun r => ∃ v31 : Int32, r = some (.int v31) ∧ ExC l E w (d + 1) MX5_areAlike 92 [some (.ref a1), some (.ref a2), some (.int v31), some (.int 1), some (.int 0)] [] s29 f30 Q) (fun k => Q (.inr k) s29 f30)) ∧ ∃ k32 : Nat, oc f21 a2 k32 ∧ ((k32 = 29 ∧ EvC l E w d MX32_size [.ref a2] s20 f21 P33) ∨ (k32 = 30 ∧ EvC l E w d MX33_size [.ref a2] s20 f21 P33) ∨ (k32 = 31 ∧ EvC l E w d MX34_size [.ref a2] s20 f21 P33) ∨ (k32 = 32 ∧ EvC l E w d MX35_size [.ref a2] s20 f21 P33))))))) ∧ (¬ v19 = v22 → Q (.inl (some (.int 0))) s20 f21))) (fun k => Q (.inr k) s20 f21)) ∧ ∃ k34 : Nat, oc f18 a2 k34 ∧ ((k34 = 29 ∧ EvC l E w d MX32_size [.ref a2] s17 f18 P35) ∨ (k34 = 30 ∧ EvC l E w d MX33_size [.ref a2] s17 f18 P35) ∨ (k34 = 31 ∧ EvC l E w d MX34_size [.ref a2] s17 f18 P35) ∨ (k34 = 32 ∧ EvC l E w d MX35_size [.ref a2] s17 f18 P35)))) (fun k => Q (.inr k) s17 f18)) ∧ ∃ k36 : Nat, oc f a1 k36 ∧ ((k36 = 29 ∧ EvC l E w d MX32_size [.ref a1] s f P37) ∨ (k36 = 30 ∧ EvC l E w d MX33_size [.ref a1] s f P37) ∨ (k36 = 31 ∧ EvC l E w d MX34_size [.ref a1] s f P37) ∨ (k36 = 32 ∧ EvC l E w d MX35_size [.ref a1] s f P37)))) ∧ (¬ tg f a2 = some (.inl 30) → (isT f (.ref a1) ∧ ((tg f a1 = some (.inl 30) → (∃ P43 : KO → CS → RH → Prop, (∀ o s39 f40, P43 o s39 f40 → KP o (fun r => ∃ v41 : Int32, r = some (.int v41) ∧ ExC l E w (d + 1) MX5_areAlike 92 [some (.ref a1), some (.ref a2), some (.int v41), some (.int 1), some (.int 0)] [] s39 f40 Q) (fun k => Q (.inr k) s39 f40)) ∧ ∃ k42 : Nat, oc f a1 k42 ∧ ((k42 = 29 ∧ EvC l E w d MX32_size [.ref a1] s f P43) ∨ (k42 = 30 ∧ EvC l E w d MX33_size [.ref a1] s f P43) ∨ (k42 = 31 ∧ EvC l E w d MX34_size [.ref a1] s f P43) ∨ (k42 = 32 ∧ EvC l E w d MX35_size [.ref a1] s f P43)))) ∧ (¬ tg f a1 = some (.inl 30) → (∃ P48 : KO → CS → RH → Prop, (∀ o s44 f45, P48 o s44 f45 → KP o (fun r => ∃ v46 : Int32, r = some (.int v46) ∧ ExC l E w (d + 1) MX5_areAlike 92 [some (.ref a1), some (.ref a2), some (.int v46), some (.int 1), some (.int 0)] [] s44 f45 Q) (fun k => Q (.inr k) s44 f45)) ∧ ∃ k47 : Nat, oc f a2 k47 ∧ ((k47 = 29 ∧ EvC l E w d MX32_size [.ref a2] s f P48) ∨ (k47 = 30 ∧ EvC l E w d MX33_size [.ref a2] s f P48) ∨ (k47 = 31 ∧ EvC l E w d MX34_size [.ref a2] s f P48) ∨ (k47 = 32 ∧ EvC l E w d MX35_size [.ref a2] s f P48)))))))))) ∧ (¬ tg f a1 = some (.inl 30) → (isT f (.ref a1) ∧ ((tg f a1 = some (.inl 30) → (∃ P54 : KO → CS → RH → Prop, (∀ o s50 f51, P54 o s50 f51 → KP o (fun r => ∃ v52 : Int32, r = some (.int v52) ∧ ExC l E w (d + 1) MX5_areAlike 92 [some (.ref a1), some (.ref a2), some (.int v52), some (.int 1), some (.int 0)] [] s50 f51 Q) (fun k => Q (.inr k) s50 f51)) ∧ ∃ k53 : Nat, oc f a1 k53 ∧ ((k53 = 29 ∧ EvC l E w d MX32_size [.ref a1] s f P54) ∨ (k53 = 30 ∧ EvC l E w d MX33_size [.ref a1] s f P54) ∨ (k53 = 31 ∧ EvC l E w d MX34_size [.ref a1] s f P54) ∨ (k53 = 32 ∧ EvC l E w d MX35_size [.ref a1] s f P54)))) ∧ (¬ tg f a1 = some (.inl 30) → (∃ P59 : KO → CS → RH → Prop, (∀ o s55 f56, P59 o s55 f56 → KP o (fun r => ∃ v57 : Int32, r = some (.int v57) ∧ ExC l E w (d + 1) MX5_areAlike 92 [some (.ref a1), some (.ref a2), some (.int v57), some (.int 1), some (.int 0)] [] s55 f56 Q) (fun k => Q (.inr k) s55 f56)) ∧ ∃ k58 : Nat, oc f a2 k58 ∧ ((k58 = 29 ∧ EvC l E w d MX32_size [.ref a2] s f P59) ∨ (k58 = 30 ∧ EvC l E w d MX33_size [.ref a2] s f P59) ∨ (k58 = 31 ∧ EvC l E w d MX34_size [.ref a2] s f P59) ∨ (k58 = 32 ∧ EvC l E w d MX35_size [.ref a2] s f P59))))))))))))) ∧ (¬ tg f a1 = some (.inl 29) → (isT f (.ref a1) ∧ ((tg f a1 = some (.inl 30) → (isT f (.ref a2) ∧ ((tg f a2 = some (.inl 30) → (∃ P82 : KO → CS → RH → Prop, (∀ o s62 f63, P82 o s62 f63 → KP o (fun r => ∃ v64 : Int32, r = some (.int v64) ∧ (∃ P80 : KO → CS → RH → Prop, (∀ o s65 f66, P80 o s65 f66 → KP o (fun r => ∃ v67 : Int32, r = some (.int v67) ∧ ((v64 = v67 → (isT f66 (.ref a1) ∧ ((tg f66 a1 = some (.inl 30) → (∃ P73 : KO → CS → RH → Prop, (∀ o s69 f70, P73 o s69 f70 → KP o (fun r => ∃ v71 : Int32, r = some (.int v71) ∧ ExC l E w (d + 1) MX5_areAlike 92 [some (.ref a1), some (.ref a2), some (.int v71), some (.int 1), some (.int 0)] [] s69 f70 Q) (fun k => Q (.inr k) s69 f70)) ∧ ∃ k72 : Nat, oc f66 a1 k72 ∧ ((k72 = 29 ∧ EvC l E w d MX32_size [.ref a1] s65 f66 P73) ∨ (k72 = 30 ∧ EvC l E w d MX33_size [.ref a1] s65 f66 P73) ∨ (k72 = 31 ∧ EvC l E w d MX34_size [.ref a1] s65 f66 P73) ∨ (k72 = 32 ∧ EvC l E w d MX35_size [.ref a1] s65 f66 P73)))) ∧ (¬ tg f66 a1 = some (.inl 30) → (∃ P78 : KO → CS → RH → Prop, (∀ o s74 f75, P78 o s74 f75 → KP o (fun r => ∃ v76 : Int32, r = some (.int v76) ∧ ExC l E w (d + 1) MX5_areAlike 92 [some (.ref a1), some (.ref a2), some (.int v76), some (.int 1), some (.int 0)] [] s74 f75 Q) (fun k => Q (.inr k) s74 f75)) ∧ ∃ k77 : Nat, oc f66 a2 k77 ∧ ((k77 = 29 ∧ EvC l E w d MX32_size [.ref a2] s65 f66 P78) ∨ (k77 = 30 ∧ EvC l E w d MX33_size [.ref a2] s65 f66 P78) ∨ (k77 = 31 ∧ EvC l E w d MX34_size [.ref a2] s65 f66 P78) ∨ (k77 = 32 ∧ EvC l E w d MX35_size [.ref a2] s65 f66 P78))))))) ∧ (¬ v64 = v67 → Q (.inl (some (.int 0))) s65 f66))) (fun k => Q (.inr k) s65 f66)) ∧ ∃ k79 : Nat, oc f63 a2 k79 ∧ ((k79 = 29 ∧ EvC l E w d MX32_size [.ref a2] s62 f63 P80) ∨ (k79 = 30 ∧ EvC l E w d MX33_size [.ref a2] s62 f63 P80) ∨ (k79 = 31 ∧ EvC l E w d MX34_size [.ref a2] s62 f63 P80) ∨ (k79 = 32 ∧ EvC l E w d MX35_size [.ref a2] s62 f63 P80)))) (fun k => Q (.inr k) s62 f63)) ∧ ∃ k81 : Nat, oc f a1 k81 ∧ ((k81 = 29 ∧ EvC l E w d MX32_size [.ref a1] s f P82) ∨ (k81 = 30 ∧ EvC l E w d MX33_size [.ref a1] s f P82) ∨ (k81 = 31 ∧ EvC l E w d MX34_size [.ref a1] s f P82) ∨ (k81 = 32 ∧ EvC l E w d MX35_size [.ref a1] s f P82)))) ∧ (¬ tg f a2 = some (.inl 30) → (isT f (.ref a1) ∧ ((tg f a1 = some (.inl 30) → (∃ P88 : KO → CS → RH → Prop, (∀ o s84 f85, P88 o s84 f85 → KP o (fun r => ∃ v86 : Int32, r = some (.int v86) ∧ ExC l E w (d + 1) MX5_areAlike 92 [some (.ref a1), some (.ref a2), some (.int v86), some (.int 1), some (.int 0)] [] s84 f85 Q) (fun k => Q (.inr k) s84 f85)) ∧ ∃ k87 : Nat, oc f a1 k87 ∧ ((k87 = 29 ∧ EvC l E w d MX32_size [.ref a1] s f P88) ∨ (k87 = 30 ∧ EvC l E w d MX33_size [.ref a1] s f P88) ∨ (k87 = 31 ∧ EvC l E w d MX34_size [.ref a1] s f P88) ∨ (k87 = 32 ∧ EvC l E w d MX35_size [.ref a1] s f P88)))) ∧ (¬ tg f a1 = some (.inl 30) → (∃ P93 : KO → CS → RH → Prop, (∀ o s89 f90, P93 o s89 f90 → KP o (fun r => ∃ v91 : Int32, r = some (.int v91) ∧ ExC l E w (d + 1) MX5_areAlike 92 [some (.ref a1), some (.ref a2), some (.int v91), some (.int 1), some (.int 0)] [] s89 f90 Q) (fun k => Q (.inr k) s89 f90)) ∧ ∃ k92 : Nat, oc f a2 k92 ∧ ((k92 = 29 ∧ EvC l E w d MX32_size [.ref a2] s f P93) ∨ (k92 = 30 ∧ EvC l E w d MX33_size [.ref a2] s f P93) ∨ (k92 = 31 ∧ EvC l E w d MX34_size [.ref a2] s f P93) ∨ (k92 = 32 ∧ EvC l E w d MX35_size [.ref a2] s f P93)))))))))) ∧ (¬ tg f a1 = some (.inl 30) → (isT f (.ref a1) ∧ ((tg f a1 = some (.inl 30) → (∃ P99 : KO → CS → RH → Prop, (∀ o s95 f96, P99 o s95 f96 → KP o (fun r => ∃ v97 : Int32, r = some (.int v97) ∧ ExC l E w (d + 1) MX5_areAlike 92 [some (.ref a1), some (.ref a2), some (.int v97), some (.int 1), some (.int 0)] [] s95 f96 Q) (fun k => Q (.inr k) s95 f96)) ∧ ∃ k98 : Nat, oc f a1 k98 ∧ ((k98 = 29 ∧ EvC l E w d MX32_size [.ref a1] s f P99) ∨ (k98 = 30 ∧ EvC l E w d MX33_size [.ref a1] s f P99) ∨ (k98 = 31 ∧ EvC l E w d MX34_size [.ref a1] s f P99) ∨ (k98 = 32 ∧ EvC l E w d MX35_size [.ref a1] s f P99)))) ∧ (¬ tg f a1 = some (.inl 30) → (∃ P104 : KO → CS → RH → Prop, (∀ o s100 f101, P104 o s100 f101 → KP o (fun r => ∃ v102 : Int32, r = some (.int v102) ∧ ExC l E w (d + 1) MX5_areAlike 92 [some (.ref a1), some (.ref a2), some (.int v102), some (.int 1), some (.int 0)] [] s100 f101 Q) (fun k => Q (.inr k) s100 f101)) ∧ ∃ k103 : Nat, oc f a2 k103 ∧ ((k103 = 29 ∧ EvC l E w d MX32_size [.ref a2] s f P104) ∨ (k103 = 30 ∧ EvC l E w d MX33_size [.ref a2] s f P104) ∨ (k103 = 31 ∧ EvC l E w d MX34_size [.ref a2] s f P104) ∨ (k103 = 32 ∧ EvC l E w d MX35_size [.ref a2] s f P104))))))))))))))))) : ExC l E w (d + 1) MX5_areAlike 0 [some (x1), some (x2), none, none, none] [] s f Q := by
  intro f0 h hW hF
  refine x_aload_n dX5_areAlike_0 rfl rfl ix1 ?_
  refine x_ifnull (tgt := 8) dX5_areAlike_1 rfl ix1 (fun e => ?_) (fun a1 e => ?_)
  · subst e
    replace hT := hT.1 rfl
    refine x_iconst (v := 1) dX5_areAlike_8 rfl ?_
    exact x_iret dX5_areAlike_9 rfl rfl ⟨_, _, hW, hF, Or.inl ⟨_, rfl, hT⟩⟩
  · subst e
    replace hT := hT.2 a1 rfl
    refine x_aload_n dX5_areAlike_4 rfl rfl ix2 ?_
    refine x_ifnonnull (tgt := 10) dX5_areAlike_5 rfl ix2 (fun a2 e => ?_) (fun e => ?_)
    · subst e
      replace hT := hT.2 a2 rfl
      refine x_aload_n dX5_areAlike_10 rfl rfl rfl ?_
      obtain ⟨ht, hT⟩ := hT
      refine c_inst (K := 29) dX5_areAlike_11 (by decide) q1387 ht hW (fun hi3 => ?_) (fun hi3 => ?_)
      · replace hT := hT.1 hi3
        refine x_if_eq (tgt := 41) dX5_areAlike_14 rfl (fun c => absurd c (by decide)) (fun _ => ?_)
        refine x_aload_n dX5_areAlike_17 rfl rfl rfl ?_
        obtain ⟨ht, hT⟩ := hT
        refine c_inst (K := 29) dX5_areAlike_18 (by decide) q1387 ht hW (fun hi4 => ?_) (fun hi4 => ?_)
        · replace hT := hT.1 hi4
          refine x_if_eq (tgt := 41) dX5_areAlike_21 rfl (fun c => absurd c (by decide)) (fun _ => ?_)
          refine x_aload_n dX5_areAlike_24 rfl rfl rfl ?_
          obtain ⟨P14, hP, k13, hc, hT⟩ := hT
          have kr : ∀ r s5 f6, P14 (.inl r) s5 f6 → ∀ h, CW E w s5 f6 h → Frz f0 f6 → Ex l E (d + 1) MX5_areAlike (25 + 3) [some (.ref a1), some (.ref a2), none, none, none] (r.toList ++ []) h (PoC E w f0 Q) := by
            intro r s5 f6 h0 h hW hF
            have hT := hP _ _ _ h0
            clear h0
            obtain ⟨v7, rfl, hT⟩ := hT
            refine x_aload_n dX5_areAlike_28 rfl rfl rfl ?_
            obtain ⟨P12, hP, k11, hc, hT⟩ := hT
            have kr : ∀ r s8 f9, P12 (.inl r) s8 f9 → ∀ h, CW E w s8 f9 h → Frz f0 f9 → Ex l E (d + 1) MX5_areAlike (29 + 3) [some (.ref a1), some (.ref a2), none, none, none] (r.toList ++ [.int v7]) h (PoC E w f0 Q) := by
              intro r s8 f9 h0 h hW hF
              have hT := hP _ _ _ h0
              clear h0
              obtain ⟨v10, rfl, hT⟩ := hT
              refine x_icmp_ne (tgt := 39) dX5_areAlike_32 rfl (fun c => ?_) (fun c => ?_)
              · replace hT := hT.1 c
                refine x_iconst (v := 0) dX5_areAlike_39 rfl ?_
                exact x_iret dX5_areAlike_40 rfl rfl ⟨_, _, hW, hF, Or.inl ⟨_, rfl, hT⟩⟩
              · replace hT := hT.2 c
                refine x_iconst (v := 1) dX5_areAlike_35 rfl ?_
                refine x_goto (tgt := 40) dX5_areAlike_36 rfl ?_
                exact x_iret dX5_areAlike_40 rfl rfl ⟨_, _, hW, hF, Or.inl ⟨_, rfl, hT⟩⟩
            have kt : ∀ k s8 f9, P12 (.inr k) s8 f9 → ∀ h a, CW E w s8 f9 h → xA w h k a → Frz f0 f9 → ExT l E (d + 1) MX5_areAlike 29 [some (.ref a1), some (.ref a2), none, none, none] [.int v7] a h (PoC E w f0 Q) := by
              intro k s8 f9 h0 h a hW hx hF
              have hT := hP _ _ _ h0
              clear h0
              exact c_out (rfl) hW hx hF hT
            obtain ⟨cc, hcc⟩ := hW.ocell hc
            rcases hT with ⟨rfl, hT⟩ | ⟨rfl, hT⟩ | ⟨rfl, hT⟩ | ⟨rfl, hT⟩
            · exact c_invV (vs := []) dX5_areAlike_29 oX32_size q1454 q1447 hcc q1453 (Or.inr hy_Thing_size) rfl rfl (Nat.le_of_ble_eq_true rfl) rfl hW hF hT kr kt
            · exact c_invV (vs := []) dX5_areAlike_29 oX33_size q1457 q1447 hcc q1456 (Or.inr hy_Thing_size) rfl rfl (Nat.le_of_ble_eq_true rfl) rfl hW hF hT kr kt
            · exact c_invV (vs := []) dX5_areAlike_29 oX34_size q1451 q1447 hcc q1450 (Or.inr hy_Thing_size) rfl rfl (Nat.le_of_ble_eq_true rfl) rfl hW hF hT kr kt
            · exact c_invV (vs := []) dX5_areAlike_29 oX35_size q1460 q1447 hcc q1459 (Or.inr hy_Thing_size) rfl rfl (Nat.le_of_ble_eq_true rfl) rfl hW hF hT kr kt
          have kt : ∀ k s5 f6, P14 (.inr k) s5 f6 → ∀ h a, CW E w s5 f6 h → xA w h k a → Frz f0 f6 → ExT l E (d + 1) MX5_areAlike 25 [some (.ref a1), some (.ref a2), none, none, none] [] a h (PoC E w f0 Q) := by
            intro k s5 f6 h0 h a hW hx hF
            have hT := hP _ _ _ h0
            clear h0
            exact c_out (rfl) hW hx hF hT
          obtain ⟨cc, hcc⟩ := hW.ocell hc
          rcases hT with ⟨rfl, hT⟩ | ⟨rfl, hT⟩ | ⟨rfl, hT⟩ | ⟨rfl, hT⟩
          · exact c_invV (vs := []) dX5_areAlike_25 oX32_size q1454 q1447 hcc q1453 (Or.inr hy_Thing_size) rfl rfl (Nat.le_of_ble_eq_true rfl) rfl hW hF hT kr kt
          · exact c_invV (vs := []) dX5_areAlike_25 oX33_size q1457 q1447 hcc q1456 (Or.inr hy_Thing_size) rfl rfl (Nat.le_of_ble_eq_true rfl) rfl hW hF hT kr kt
          · exact c_invV (vs := []) dX5_areAlike_25 oX34_size q1451 q1447 hcc q1450 (Or.inr hy_Thing_size) rfl rfl (Nat.le_of_ble_eq_true rfl) rfl hW hF hT kr kt
          · exact c_invV (vs := []) dX5_areAlike_25 oX35_size q1460 q1447 hcc q1459 (Or.inr hy_Thing_size) rfl rfl (Nat.le_of_ble_eq_true rfl) rfl hW hF hT kr kt
        · replace hT := hT.2 hi4
          refine x_if_eq (tgt := 41) dX5_areAlike_21 rfl (fun _ => ?_) (fun c => absurd c (by decide))
          refine x_aload_n dX5_areAlike_41 rfl rfl rfl ?_
          obtain ⟨ht, hT⟩ := hT
          refine c_inst (K := 30) dX5_areAlike_42 (by decide) q1446 ht hW (fun hi15 => ?_) (fun hi15 => ?_)
          · replace hT := hT.1 hi15
            refine x_if_eq (tgt := 68) dX5_areAlike_45 rfl (fun c => absurd c (by decide)) (fun _ => ?_)
            refine x_aload_n dX5_areAlike_48 rfl rfl rfl ?_
            obtain ⟨ht, hT⟩ := hT
            refine c_inst (K := 30) dX5_areAlike_49 (by decide) q1446 ht hW (fun hi16 => ?_) (fun hi16 => ?_)
            · replace hT := hT.1 hi16
              refine x_if_eq (tgt := 68) dX5_areAlike_52 rfl (fun c => absurd c (by decide)) (fun _ => ?_)
              refine x_aload_n dX5_areAlike_55 rfl rfl rfl ?_
              obtain ⟨P37, hP, k36, hc, hT⟩ := hT
              have kr : ∀ r s17 f18, P37 (.inl r) s17 f18 → ∀ h, CW E w s17 f18 h → Frz f0 f18 → Ex l E (d + 1) MX5_areAlike (56 + 3) [some (.ref a1), some (.ref a2), none, none, none] (r.toList ++ []) h (PoC E w f0 Q) := by
                intro r s17 f18 h0 h hW hF
                have hT := hP _ _ _ h0
                clear h0
                obtain ⟨v19, rfl, hT⟩ := hT
                refine x_aload_n dX5_areAlike_59 rfl rfl rfl ?_
                obtain ⟨P35, hP, k34, hc, hT⟩ := hT
                have kr : ∀ r s20 f21, P35 (.inl r) s20 f21 → ∀ h, CW E w s20 f21 h → Frz f0 f21 → Ex l E (d + 1) MX5_areAlike (60 + 3) [some (.ref a1), some (.ref a2), none, none, none] (r.toList ++ [.int v19]) h (PoC E w f0 Q) := by
                  intro r s20 f21 h0 h hW hF
                  have hT := hP _ _ _ h0
                  clear h0
                  obtain ⟨v22, rfl, hT⟩ := hT
                  refine x_icmp_eq (tgt := 68) dX5_areAlike_63 rfl (fun c => ?_) (fun c => ?_)
                  · replace hT := hT.1 c
                    refine x_aload_n dX5_areAlike_68 rfl rfl rfl ?_
                    obtain ⟨ht, hT⟩ := hT
                    refine c_inst (K := 30) dX5_areAlike_69 (by decide) q1446 ht hW (fun hi23 => ?_) (fun hi23 => ?_)
                    · replace hT := hT.1 hi23
                      refine x_if_eq (tgt := 82) dX5_areAlike_72 rfl (fun c => absurd c (by decide)) (fun _ => ?_)
                      refine x_aload_n dX5_areAlike_75 rfl rfl rfl ?_
                      obtain ⟨P28, hP, k27, hc, hT⟩ := hT
                      have kr : ∀ r s24 f25, P28 (.inl r) s24 f25 → ∀ h, CW E w s24 f25 h → Frz f0 f25 → Ex l E (d + 1) MX5_areAlike (76 + 3) [some (.ref a1), some (.ref a2), none, none, none] (r.toList ++ []) h (PoC E w f0 Q) := by
                        intro r s24 f25 h0 h hW hF
                        have hT := hP _ _ _ h0
                        clear h0
                        obtain ⟨v26, rfl, hT⟩ := hT
                        refine x_goto (tgt := 86) dX5_areAlike_79 rfl ?_
                        refine x_istore_n (lo' := [some (.ref a1), some (.ref a2), some (.int v26), none, none]) dX5_areAlike_86 rfl (Nat.le_of_ble_eq_true rfl) rfl ?_
                        refine x_iconst (v := 1) dX5_areAlike_87 rfl ?_
                        refine x_istore_n (lo' := [some (.ref a1), some (.ref a2), some (.int v26), some (.int 1), none]) dX5_areAlike_88 rfl (Nat.le_of_ble_eq_true rfl) rfl ?_
                        refine x_iconst (v := 0) dX5_areAlike_89 rfl ?_
                        refine x_istore (lo' := [some (.ref a1), some (.ref a2), some (.int v26), some (.int 1), some (.int 0)]) dX5_areAlike_90 (Nat.le_of_ble_eq_true rfl) rfl ?_
                        exact hT f0 h hW hF
                      have kt : ∀ k s24 f25, P28 (.inr k) s24 f25 → ∀ h a, CW E w s24 f25 h → xA w h k a → Frz f0 f25 → ExT l E (d + 1) MX5_areAlike 76 [some (.ref a1), some (.ref a2), none, none, none] [] a h (PoC E w f0 Q) := by
                        intro k s24 f25 h0 h a hW hx hF
                        have hT := hP _ _ _ h0
                        clear h0
                        exact c_out (rfl) hW hx hF hT
                      obtain ⟨cc, hcc⟩ := hW.ocell hc
                      rcases hT with ⟨rfl, hT⟩ | ⟨rfl, hT⟩ | ⟨rfl, hT⟩ | ⟨rfl, hT⟩
                      · exact c_invV (vs := []) dX5_areAlike_76 oX32_size q1454 q1447 hcc q1453 (Or.inr hy_Thing_size) rfl rfl (Nat.le_of_ble_eq_true rfl) rfl hW hF hT kr kt
                      · exact c_invV (vs := []) dX5_areAlike_76 oX33_size q1457 q1447 hcc q1456 (Or.inr hy_Thing_size) rfl rfl (Nat.le_of_ble_eq_true rfl) rfl hW hF hT kr kt
                      · exact c_invV (vs := []) dX5_areAlike_76 oX34_size q1451 q1447 hcc q1450 (Or.inr hy_Thing_size) rfl rfl (Nat.le_of_ble_eq_true rfl) rfl hW hF hT kr kt
                      · exact c_invV (vs := []) dX5_areAlike_76 oX35_size q1460 q1447 hcc q1459 (Or.inr hy_Thing_size) rfl rfl (Nat.le_of_ble_eq_true rfl) rfl hW hF hT kr kt
                    · replace hT := hT.2 hi23
                      refine x_if_eq (tgt := 82) dX5_areAlike_72 rfl (fun _ => ?_) (fun c => absurd c (by decide))
                      refine x_aload_n dX5_areAlike_82 rfl rfl rfl ?_
                      obtain ⟨P33, hP, k32, hc, hT⟩ := hT
                      have kr : ∀ r s29 f30, P33 (.inl r) s29 f30 → ∀ h, CW E w s29 f30 h → Frz f0 f30 → Ex l E (d + 1) MX5_areAlike (83 + 3) [some (.ref a1), some (.ref a2), none, none, none] (r.toList ++ []) h (PoC E w f0 Q) := by
                        intro r s29 f30 h0 h hW hF
                        have hT := hP _ _ _ h0
                        clear h0
                        obtain ⟨v31, rfl, hT⟩ := hT
                        refine x_istore_n (lo' := [some (.ref a1), some (.ref a2), some (.int v31), none, none]) dX5_areAlike_86 rfl (Nat.le_of_ble_eq_true rfl) rfl ?_
                        refine x_iconst (v := 1) dX5_areAlike_87 rfl ?_
                        refine x_istore_n (lo' := [some (.ref a1), some (.ref a2), some (.int v31), some (.int 1), none]) dX5_areAlike_88 rfl (Nat.le_of_ble_eq_true rfl) rfl ?_
                        refine x_iconst (v := 0) dX5_areAlike_89 rfl ?_
                        refine x_istore (lo' := [some (.ref a1), some (.ref a2), some (.int v31), some (.int 1), some (.int 0)]) dX5_areAlike_90 (Nat.le_of_ble_eq_true rfl) rfl ?_
                        exact hT f0 h hW hF
                      have kt : ∀ k s29 f30, P33 (.inr k) s29 f30 → ∀ h a, CW E w s29 f30 h → xA w h k a → Frz f0 f30 → ExT l E (d + 1) MX5_areAlike 83 [some (.ref a1), some (.ref a2), none, none, none] [] a h (PoC E w f0 Q) := by
                        intro k s29 f30 h0 h a hW hx hF
                        have hT := hP _ _ _ h0
                        clear h0
                        exact c_out (rfl) hW hx hF hT
                      obtain ⟨cc, hcc⟩ := hW.ocell hc
                      rcases hT with ⟨rfl, hT⟩ | ⟨rfl, hT⟩ | ⟨rfl, hT⟩ | ⟨rfl, hT⟩
                      · exact c_invV (vs := []) dX5_areAlike_83 oX32_size q1454 q1447 hcc q1453 (Or.inr hy_Thing_size) rfl rfl (Nat.le_of_ble_eq_true rfl) rfl hW hF hT kr kt
                      · exact c_invV (vs := []) dX5_areAlike_83 oX33_size q1457 q1447 hcc q1456 (Or.inr hy_Thing_size) rfl rfl (Nat.le_of_ble_eq_true rfl) rfl hW hF hT kr kt
                      · exact c_invV (vs := []) dX5_areAlike_83 oX34_size q1451 q1447 hcc q1450 (Or.inr hy_Thing_size) rfl rfl (Nat.le_of_ble_eq_true rfl) rfl hW hF hT kr kt
                      · exact c_invV (vs := []) dX5_areAlike_83 oX35_size q1460 q1447 hcc q1459 (Or.inr hy_Thing_size) rfl rfl (Nat.le_of_ble_eq_true rfl) rfl hW hF hT kr kt
                  · replace hT := hT.2 c
                    refine x_iconst (v := 0) dX5_areAlike_66 rfl ?_
                    exact x_iret dX5_areAlike_67 rfl rfl ⟨_, _, hW, hF, Or.inl ⟨_, rfl, hT⟩⟩
                have kt : ∀ k s20 f21, P35 (.inr k) s20 f21 → ∀ h a, CW E w s20 f21 h → xA w h k a → Frz f0 f21 → ExT l E (d + 1) MX5_areAlike 60 [some (.ref a1), some (.ref a2), none, none, none] [.int v19] a h (PoC E w f0 Q) := by
                  intro k s20 f21 h0 h a hW hx hF
                  have hT := hP _ _ _ h0
                  clear h0
                  exact c_out (rfl) hW hx hF hT
                obtain ⟨cc, hcc⟩ := hW.ocell hc
                rcases hT with ⟨rfl, hT⟩ | ⟨rfl, hT⟩ | ⟨rfl, hT⟩ | ⟨rfl, hT⟩
                · exact c_invV (vs := []) dX5_areAlike_60 oX32_size q1454 q1447 hcc q1453 (Or.inr hy_Thing_size) rfl rfl (Nat.le_of_ble_eq_true rfl) rfl hW hF hT kr kt
                · exact c_invV (vs := []) dX5_areAlike_60 oX33_size q1457 q1447 hcc q1456 (Or.inr hy_Thing_size) rfl rfl (Nat.le_of_ble_eq_true rfl) rfl hW hF hT kr kt
                · exact c_invV (vs := []) dX5_areAlike_60 oX34_size q1451 q1447 hcc q1450 (Or.inr hy_Thing_size) rfl rfl (Nat.le_of_ble_eq_true rfl) rfl hW hF hT kr kt
                · exact c_invV (vs := []) dX5_areAlike_60 oX35_size q1460 q1447 hcc q1459 (Or.inr hy_Thing_size) rfl rfl (Nat.le_of_ble_eq_true rfl) rfl hW hF hT kr kt
              have kt : ∀ k s17 f18, P37 (.inr k) s17 f18 → ∀ h a, CW E w s17 f18 h → xA w h k a → Frz f0 f18 → ExT l E (d + 1) MX5_areAlike 56 [some (.ref a1), some (.ref a2), none, none, none] [] a h (PoC E w f0 Q) := by
                intro k s17 f18 h0 h a hW hx hF
                have hT := hP _ _ _ h0
                clear h0
                exact c_out (rfl) hW hx hF hT
              obtain ⟨cc, hcc⟩ := hW.ocell hc
              rcases hT with ⟨rfl, hT⟩ | ⟨rfl, hT⟩ | ⟨rfl, hT⟩ | ⟨rfl, hT⟩
              · exact c_invV (vs := []) dX5_areAlike_56 oX32_size q1454 q1447 hcc q1453 (Or.inr hy_Thing_size) rfl rfl (Nat.le_of_ble_eq_true rfl) rfl hW hF hT kr kt
              · exact c_invV (vs := []) dX5_areAlike_56 oX33_size q1457 q1447 hcc q1456 (Or.inr hy_Thing_size) rfl rfl (Nat.le_of_ble_eq_true rfl) rfl hW hF hT kr kt
              · exact c_invV (vs := []) dX5_areAlike_56 oX34_size q1451 q1447 hcc q1450 (Or.inr hy_Thing_size) rfl rfl (Nat.le_of_ble_eq_true rfl) rfl hW hF hT kr kt
              · exact c_invV (vs := []) dX5_areAlike_56 oX35_size q1460 q1447 hcc q1459 (Or.inr hy_Thing_size) rfl rfl (Nat.le_of_ble_eq_true rfl) rfl hW hF hT kr kt
            · replace hT := hT.2 hi16
              refine x_if_eq (tgt := 68) dX5_areAlike_52 rfl (fun _ => ?_) (fun c => absurd c (by decide))
              refine x_aload_n dX5_areAlike_68 rfl rfl rfl ?_
              obtain ⟨ht, hT⟩ := hT
              refine c_inst (K := 30) dX5_areAlike_69 (by decide) q1446 ht hW (fun hi38 => ?_) (fun hi38 => ?_)
              · replace hT := hT.1 hi38
                refine x_if_eq (tgt := 82) dX5_areAlike_72 rfl (fun c => absurd c (by decide)) (fun _ => ?_)
                refine x_aload_n dX5_areAlike_75 rfl rfl rfl ?_
                obtain ⟨P43, hP, k42, hc, hT⟩ := hT
                have kr : ∀ r s39 f40, P43 (.inl r) s39 f40 → ∀ h, CW E w s39 f40 h → Frz f0 f40 → Ex l E (d + 1) MX5_areAlike (76 + 3) [some (.ref a1), some (.ref a2), none, none, none] (r.toList ++ []) h (PoC E w f0 Q) := by
                  intro r s39 f40 h0 h hW hF
                  have hT := hP _ _ _ h0
                  clear h0
                  obtain ⟨v41, rfl, hT⟩ := hT
                  refine x_goto (tgt := 86) dX5_areAlike_79 rfl ?_
                  refine x_istore_n (lo' := [some (.ref a1), some (.ref a2), some (.int v41), none, none]) dX5_areAlike_86 rfl (Nat.le_of_ble_eq_true rfl) rfl ?_
                  refine x_iconst (v := 1) dX5_areAlike_87 rfl ?_
                  refine x_istore_n (lo' := [some (.ref a1), some (.ref a2), some (.int v41), some (.int 1), none]) dX5_areAlike_88 rfl (Nat.le_of_ble_eq_true rfl) rfl ?_
                  refine x_iconst (v := 0) dX5_areAlike_89 rfl ?_
                  refine x_istore (lo' := [some (.ref a1), some (.ref a2), some (.int v41), some (.int 1), some (.int 0)]) dX5_areAlike_90 (Nat.le_of_ble_eq_true rfl) rfl ?_
                  exact hT f0 h hW hF
                have kt : ∀ k s39 f40, P43 (.inr k) s39 f40 → ∀ h a, CW E w s39 f40 h → xA w h k a → Frz f0 f40 → ExT l E (d + 1) MX5_areAlike 76 [some (.ref a1), some (.ref a2), none, none, none] [] a h (PoC E w f0 Q) := by
                  intro k s39 f40 h0 h a hW hx hF
                  have hT := hP _ _ _ h0
                  clear h0
                  exact c_out (rfl) hW hx hF hT
                obtain ⟨cc, hcc⟩ := hW.ocell hc
                rcases hT with ⟨rfl, hT⟩ | ⟨rfl, hT⟩ | ⟨rfl, hT⟩ | ⟨rfl, hT⟩
                · exact c_invV (vs := []) dX5_areAlike_76 oX32_size q1454 q1447 hcc q1453 (Or.inr hy_Thing_size) rfl rfl (Nat.le_of_ble_eq_true rfl) rfl hW hF hT kr kt
                · exact c_invV (vs := []) dX5_areAlike_76 oX33_size q1457 q1447 hcc q1456 (Or.inr hy_Thing_size) rfl rfl (Nat.le_of_ble_eq_true rfl) rfl hW hF hT kr kt
                · exact c_invV (vs := []) dX5_areAlike_76 oX34_size q1451 q1447 hcc q1450 (Or.inr hy_Thing_size) rfl rfl (Nat.le_of_ble_eq_true rfl) rfl hW hF hT kr kt
                · exact c_invV (vs := []) dX5_areAlike_76 oX35_size q1460 q1447 hcc q1459 (Or.inr hy_Thing_size) rfl rfl (Nat.le_of_ble_eq_true rfl) rfl hW hF hT kr kt
              · replace hT := hT.2 hi38
                refine x_if_eq (tgt := 82) dX5_areAlike_72 rfl (fun _ => ?_) (fun c => absurd c (by decide))
                refine x_aload_n dX5_areAlike_82 rfl rfl rfl ?_
                obtain ⟨P48, hP, k47, hc, hT⟩ := hT
                have kr : ∀ r s44 f45, P48 (.inl r) s44 f45 → ∀ h, CW E w s44 f45 h → Frz f0 f45 → Ex l E (d + 1) MX5_areAlike (83 + 3) [some (.ref a1), some (.ref a2), none, none, none] (r.toList ++ []) h (PoC E w f0 Q) := by
                  intro r s44 f45 h0 h hW hF
                  have hT := hP _ _ _ h0
                  clear h0
                  obtain ⟨v46, rfl, hT⟩ := hT
                  refine x_istore_n (lo' := [some (.ref a1), some (.ref a2), some (.int v46), none, none]) dX5_areAlike_86 rfl (Nat.le_of_ble_eq_true rfl) rfl ?_
                  refine x_iconst (v := 1) dX5_areAlike_87 rfl ?_
                  refine x_istore_n (lo' := [some (.ref a1), some (.ref a2), some (.int v46), some (.int 1), none]) dX5_areAlike_88 rfl (Nat.le_of_ble_eq_true rfl) rfl ?_
                  refine x_iconst (v := 0) dX5_areAlike_89 rfl ?_
                  refine x_istore (lo' := [some (.ref a1), some (.ref a2), some (.int v46), some (.int 1), some (.int 0)]) dX5_areAlike_90 (Nat.le_of_ble_eq_true rfl) rfl ?_
                  exact hT f0 h hW hF
                have kt : ∀ k s44 f45, P48 (.inr k) s44 f45 → ∀ h a, CW E w s44 f45 h → xA w h k a → Frz f0 f45 → ExT l E (d + 1) MX5_areAlike 83 [some (.ref a1), some (.ref a2), none, none, none] [] a h (PoC E w f0 Q) := by
                  intro k s44 f45 h0 h a hW hx hF
                  have hT := hP _ _ _ h0
                  clear h0
                  exact c_out (rfl) hW hx hF hT
                obtain ⟨cc, hcc⟩ := hW.ocell hc
                rcases hT with ⟨rfl, hT⟩ | ⟨rfl, hT⟩ | ⟨rfl, hT⟩ | ⟨rfl, hT⟩
                · exact c_invV (vs := []) dX5_areAlike_83 oX32_size q1454 q1447 hcc q1453 (Or.inr hy_Thing_size) rfl rfl (Nat.le_of_ble_eq_true rfl) rfl hW hF hT kr kt
                · exact c_invV (vs := []) dX5_areAlike_83 oX33_size q1457 q1447 hcc q1456 (Or.inr hy_Thing_size) rfl rfl (Nat.le_of_ble_eq_true rfl) rfl hW hF hT kr kt
                · exact c_invV (vs := []) dX5_areAlike_83 oX34_size q1451 q1447 hcc q1450 (Or.inr hy_Thing_size) rfl rfl (Nat.le_of_ble_eq_true rfl) rfl hW hF hT kr kt
                · exact c_invV (vs := []) dX5_areAlike_83 oX35_size q1460 q1447 hcc q1459 (Or.inr hy_Thing_size) rfl rfl (Nat.le_of_ble_eq_true rfl) rfl hW hF hT kr kt
          · replace hT := hT.2 hi15
            refine x_if_eq (tgt := 68) dX5_areAlike_45 rfl (fun _ => ?_) (fun c => absurd c (by decide))
            refine x_aload_n dX5_areAlike_68 rfl rfl rfl ?_
            obtain ⟨ht, hT⟩ := hT
            refine c_inst (K := 30) dX5_areAlike_69 (by decide) q1446 ht hW (fun hi49 => ?_) (fun hi49 => ?_)
            · replace hT := hT.1 hi49
              refine x_if_eq (tgt := 82) dX5_areAlike_72 rfl (fun c => absurd c (by decide)) (fun _ => ?_)
              refine x_aload_n dX5_areAlike_75 rfl rfl rfl ?_
              obtain ⟨P54, hP, k53, hc, hT⟩ := hT
              have kr : ∀ r s50 f51, P54 (.inl r) s50 f51 → ∀ h, CW E w s50 f51 h → Frz f0 f51 → Ex l E (d + 1) MX5_areAlike (76 + 3) [some (.ref a1), some (.ref a2), none, none, none] (r.toList ++ []) h (PoC E w f0 Q) := by
                intro r s50 f51 h0 h hW hF
                have hT := hP _ _ _ h0
                clear h0
                obtain ⟨v52, rfl, hT⟩ := hT
                refine x_goto (tgt := 86) dX5_areAlike_79 rfl ?_
                refine x_istore_n (lo' := [some (.ref a1), some (.ref a2), some (.int v52), none, none]) dX5_areAlike_86 rfl (Nat.le_of_ble_eq_true rfl) rfl ?_
                refine x_iconst (v := 1) dX5_areAlike_87 rfl ?_
                refine x_istore_n (lo' := [some (.ref a1), some (.ref a2), some (.int v52), some (.int 1), none]) dX5_areAlike_88 rfl (Nat.le_of_ble_eq_true rfl) rfl ?_
                refine x_iconst (v := 0) dX5_areAlike_89 rfl ?_
                refine x_istore (lo' := [some (.ref a1), some (.ref a2), some (.int v52), some (.int 1), some (.int 0)]) dX5_areAlike_90 (Nat.le_of_ble_eq_true rfl) rfl ?_
                exact hT f0 h hW hF
              have kt : ∀ k s50 f51, P54 (.inr k) s50 f51 → ∀ h a, CW E w s50 f51 h → xA w h k a → Frz f0 f51 → ExT l E (d + 1) MX5_areAlike 76 [some (.ref a1), some (.ref a2), none, none, none] [] a h (PoC E w f0 Q) := by
                intro k s50 f51 h0 h a hW hx hF
                have hT := hP _ _ _ h0
                clear h0
                exact c_out (rfl) hW hx hF hT
              obtain ⟨cc, hcc⟩ := hW.ocell hc
              rcases hT with ⟨rfl, hT⟩ | ⟨rfl, hT⟩ | ⟨rfl, hT⟩ | ⟨rfl, hT⟩
              · exact c_invV (vs := []) dX5_areAlike_76 oX32_size q1454 q1447 hcc q1453 (Or.inr hy_Thing_size) rfl rfl (Nat.le_of_ble_eq_true rfl) rfl hW hF hT kr kt
              · exact c_invV (vs := []) dX5_areAlike_76 oX33_size q1457 q1447 hcc q1456 (Or.inr hy_Thing_size) rfl rfl (Nat.le_of_ble_eq_true rfl) rfl hW hF hT kr kt
              · exact c_invV (vs := []) dX5_areAlike_76 oX34_size q1451 q1447 hcc q1450 (Or.inr hy_Thing_size) rfl rfl (Nat.le_of_ble_eq_true rfl) rfl hW hF hT kr kt
              · exact c_invV (vs := []) dX5_areAlike_76 oX35_size q1460 q1447 hcc q1459 (Or.inr hy_Thing_size) rfl rfl (Nat.le_of_ble_eq_true rfl) rfl hW hF hT kr kt
            · replace hT := hT.2 hi49
              refine x_if_eq (tgt := 82) dX5_areAlike_72 rfl (fun _ => ?_) (fun c => absurd c (by decide))
              refine x_aload_n dX5_areAlike_82 rfl rfl rfl ?_
              obtain ⟨P59, hP, k58, hc, hT⟩ := hT
              have kr : ∀ r s55 f56, P59 (.inl r) s55 f56 → ∀ h, CW E w s55 f56 h → Frz f0 f56 → Ex l E (d + 1) MX5_areAlike (83 + 3) [some (.ref a1), some (.ref a2), none, none, none] (r.toList ++ []) h (PoC E w f0 Q) := by
                intro r s55 f56 h0 h hW hF
                have hT := hP _ _ _ h0
                clear h0
                obtain ⟨v57, rfl, hT⟩ := hT
                refine x_istore_n (lo' := [some (.ref a1), some (.ref a2), some (.int v57), none, none]) dX5_areAlike_86 rfl (Nat.le_of_ble_eq_true rfl) rfl ?_
                refine x_iconst (v := 1) dX5_areAlike_87 rfl ?_
                refine x_istore_n (lo' := [some (.ref a1), some (.ref a2), some (.int v57), some (.int 1), none]) dX5_areAlike_88 rfl (Nat.le_of_ble_eq_true rfl) rfl ?_
                refine x_iconst (v := 0) dX5_areAlike_89 rfl ?_
                refine x_istore (lo' := [some (.ref a1), some (.ref a2), some (.int v57), some (.int 1), some (.int 0)]) dX5_areAlike_90 (Nat.le_of_ble_eq_true rfl) rfl ?_
                exact hT f0 h hW hF
              have kt : ∀ k s55 f56, P59 (.inr k) s55 f56 → ∀ h a, CW E w s55 f56 h → xA w h k a → Frz f0 f56 → ExT l E (d + 1) MX5_areAlike 83 [some (.ref a1), some (.ref a2), none, none, none] [] a h (PoC E w f0 Q) := by
                intro k s55 f56 h0 h a hW hx hF
                have hT := hP _ _ _ h0
                clear h0
                exact c_out (rfl) hW hx hF hT
              obtain ⟨cc, hcc⟩ := hW.ocell hc
              rcases hT with ⟨rfl, hT⟩ | ⟨rfl, hT⟩ | ⟨rfl, hT⟩ | ⟨rfl, hT⟩
              · exact c_invV (vs := []) dX5_areAlike_83 oX32_size q1454 q1447 hcc q1453 (Or.inr hy_Thing_size) rfl rfl (Nat.le_of_ble_eq_true rfl) rfl hW hF hT kr kt
              · exact c_invV (vs := []) dX5_areAlike_83 oX33_size q1457 q1447 hcc q1456 (Or.inr hy_Thing_size) rfl rfl (Nat.le_of_ble_eq_true rfl) rfl hW hF hT kr kt
              · exact c_invV (vs := []) dX5_areAlike_83 oX34_size q1451 q1447 hcc q1450 (Or.inr hy_Thing_size) rfl rfl (Nat.le_of_ble_eq_true rfl) rfl hW hF hT kr kt
              · exact c_invV (vs := []) dX5_areAlike_83 oX35_size q1460 q1447 hcc q1459 (Or.inr hy_Thing_size) rfl rfl (Nat.le_of_ble_eq_true rfl) rfl hW hF hT kr kt
      · replace hT := hT.2 hi3
        refine x_if_eq (tgt := 41) dX5_areAlike_14 rfl (fun _ => ?_) (fun c => absurd c (by decide))
        refine x_aload_n dX5_areAlike_41 rfl rfl rfl ?_
        obtain ⟨ht, hT⟩ := hT
        refine c_inst (K := 30) dX5_areAlike_42 (by decide) q1446 ht hW (fun hi60 => ?_) (fun hi60 => ?_)
        · replace hT := hT.1 hi60
          refine x_if_eq (tgt := 68) dX5_areAlike_45 rfl (fun c => absurd c (by decide)) (fun _ => ?_)
          refine x_aload_n dX5_areAlike_48 rfl rfl rfl ?_
          obtain ⟨ht, hT⟩ := hT
          refine c_inst (K := 30) dX5_areAlike_49 (by decide) q1446 ht hW (fun hi61 => ?_) (fun hi61 => ?_)
          · replace hT := hT.1 hi61
            refine x_if_eq (tgt := 68) dX5_areAlike_52 rfl (fun c => absurd c (by decide)) (fun _ => ?_)
            refine x_aload_n dX5_areAlike_55 rfl rfl rfl ?_
            obtain ⟨P82, hP, k81, hc, hT⟩ := hT
            have kr : ∀ r s62 f63, P82 (.inl r) s62 f63 → ∀ h, CW E w s62 f63 h → Frz f0 f63 → Ex l E (d + 1) MX5_areAlike (56 + 3) [some (.ref a1), some (.ref a2), none, none, none] (r.toList ++ []) h (PoC E w f0 Q) := by
              intro r s62 f63 h0 h hW hF
              have hT := hP _ _ _ h0
              clear h0
              obtain ⟨v64, rfl, hT⟩ := hT
              refine x_aload_n dX5_areAlike_59 rfl rfl rfl ?_
              obtain ⟨P80, hP, k79, hc, hT⟩ := hT
              have kr : ∀ r s65 f66, P80 (.inl r) s65 f66 → ∀ h, CW E w s65 f66 h → Frz f0 f66 → Ex l E (d + 1) MX5_areAlike (60 + 3) [some (.ref a1), some (.ref a2), none, none, none] (r.toList ++ [.int v64]) h (PoC E w f0 Q) := by
                intro r s65 f66 h0 h hW hF
                have hT := hP _ _ _ h0
                clear h0
                obtain ⟨v67, rfl, hT⟩ := hT
                refine x_icmp_eq (tgt := 68) dX5_areAlike_63 rfl (fun c => ?_) (fun c => ?_)
                · replace hT := hT.1 c
                  refine x_aload_n dX5_areAlike_68 rfl rfl rfl ?_
                  obtain ⟨ht, hT⟩ := hT
                  refine c_inst (K := 30) dX5_areAlike_69 (by decide) q1446 ht hW (fun hi68 => ?_) (fun hi68 => ?_)
                  · replace hT := hT.1 hi68
                    refine x_if_eq (tgt := 82) dX5_areAlike_72 rfl (fun c => absurd c (by decide)) (fun _ => ?_)
                    refine x_aload_n dX5_areAlike_75 rfl rfl rfl ?_
                    obtain ⟨P73, hP, k72, hc, hT⟩ := hT
                    have kr : ∀ r s69 f70, P73 (.inl r) s69 f70 → ∀ h, CW E w s69 f70 h → Frz f0 f70 → Ex l E (d + 1) MX5_areAlike (76 + 3) [some (.ref a1), some (.ref a2), none, none, none] (r.toList ++ []) h (PoC E w f0 Q) := by
                      intro r s69 f70 h0 h hW hF
                      have hT := hP _ _ _ h0
                      clear h0
                      obtain ⟨v71, rfl, hT⟩ := hT
                      refine x_goto (tgt := 86) dX5_areAlike_79 rfl ?_
                      refine x_istore_n (lo' := [some (.ref a1), some (.ref a2), some (.int v71), none, none]) dX5_areAlike_86 rfl (Nat.le_of_ble_eq_true rfl) rfl ?_
                      refine x_iconst (v := 1) dX5_areAlike_87 rfl ?_
                      refine x_istore_n (lo' := [some (.ref a1), some (.ref a2), some (.int v71), some (.int 1), none]) dX5_areAlike_88 rfl (Nat.le_of_ble_eq_true rfl) rfl ?_
                      refine x_iconst (v := 0) dX5_areAlike_89 rfl ?_
                      refine x_istore (lo' := [some (.ref a1), some (.ref a2), some (.int v71), some (.int 1), some (.int 0)]) dX5_areAlike_90 (Nat.le_of_ble_eq_true rfl) rfl ?_
                      exact hT f0 h hW hF
                    have kt : ∀ k s69 f70, P73 (.inr k) s69 f70 → ∀ h a, CW E w s69 f70 h → xA w h k a → Frz f0 f70 → ExT l E (d + 1) MX5_areAlike 76 [some (.ref a1), some (.ref a2), none, none, none] [] a h (PoC E w f0 Q) := by
                      intro k s69 f70 h0 h a hW hx hF
                      have hT := hP _ _ _ h0
                      clear h0
                      exact c_out (rfl) hW hx hF hT
                    obtain ⟨cc, hcc⟩ := hW.ocell hc
                    rcases hT with ⟨rfl, hT⟩ | ⟨rfl, hT⟩ | ⟨rfl, hT⟩ | ⟨rfl, hT⟩
                    · exact c_invV (vs := []) dX5_areAlike_76 oX32_size q1454 q1447 hcc q1453 (Or.inr hy_Thing_size) rfl rfl (Nat.le_of_ble_eq_true rfl) rfl hW hF hT kr kt
                    · exact c_invV (vs := []) dX5_areAlike_76 oX33_size q1457 q1447 hcc q1456 (Or.inr hy_Thing_size) rfl rfl (Nat.le_of_ble_eq_true rfl) rfl hW hF hT kr kt
                    · exact c_invV (vs := []) dX5_areAlike_76 oX34_size q1451 q1447 hcc q1450 (Or.inr hy_Thing_size) rfl rfl (Nat.le_of_ble_eq_true rfl) rfl hW hF hT kr kt
                    · exact c_invV (vs := []) dX5_areAlike_76 oX35_size q1460 q1447 hcc q1459 (Or.inr hy_Thing_size) rfl rfl (Nat.le_of_ble_eq_true rfl) rfl hW hF hT kr kt
                  · replace hT := hT.2 hi68
                    refine x_if_eq (tgt := 82) dX5_areAlike_72 rfl (fun _ => ?_) (fun c => absurd c (by decide))
                    refine x_aload_n dX5_areAlike_82 rfl rfl rfl ?_
                    obtain ⟨P78, hP, k77, hc, hT⟩ := hT
                    have kr : ∀ r s74 f75, P78 (.inl r) s74 f75 → ∀ h, CW E w s74 f75 h → Frz f0 f75 → Ex l E (d + 1) MX5_areAlike (83 + 3) [some (.ref a1), some (.ref a2), none, none, none] (r.toList ++ []) h (PoC E w f0 Q) := by
                      intro r s74 f75 h0 h hW hF
                      have hT := hP _ _ _ h0
                      clear h0
                      obtain ⟨v76, rfl, hT⟩ := hT
                      refine x_istore_n (lo' := [some (.ref a1), some (.ref a2), some (.int v76), none, none]) dX5_areAlike_86 rfl (Nat.le_of_ble_eq_true rfl) rfl ?_
                      refine x_iconst (v := 1) dX5_areAlike_87 rfl ?_
                      refine x_istore_n (lo' := [some (.ref a1), some (.ref a2), some (.int v76), some (.int 1), none]) dX5_areAlike_88 rfl (Nat.le_of_ble_eq_true rfl) rfl ?_
                      refine x_iconst (v := 0) dX5_areAlike_89 rfl ?_
                      refine x_istore (lo' := [some (.ref a1), some (.ref a2), some (.int v76), some (.int 1), some (.int 0)]) dX5_areAlike_90 (Nat.le_of_ble_eq_true rfl) rfl ?_
                      exact hT f0 h hW hF
                    have kt : ∀ k s74 f75, P78 (.inr k) s74 f75 → ∀ h a, CW E w s74 f75 h → xA w h k a → Frz f0 f75 → ExT l E (d + 1) MX5_areAlike 83 [some (.ref a1), some (.ref a2), none, none, none] [] a h (PoC E w f0 Q) := by
                      intro k s74 f75 h0 h a hW hx hF
                      have hT := hP _ _ _ h0
                      clear h0
                      exact c_out (rfl) hW hx hF hT
                    obtain ⟨cc, hcc⟩ := hW.ocell hc
                    rcases hT with ⟨rfl, hT⟩ | ⟨rfl, hT⟩ | ⟨rfl, hT⟩ | ⟨rfl, hT⟩
                    · exact c_invV (vs := []) dX5_areAlike_83 oX32_size q1454 q1447 hcc q1453 (Or.inr hy_Thing_size) rfl rfl (Nat.le_of_ble_eq_true rfl) rfl hW hF hT kr kt
                    · exact c_invV (vs := []) dX5_areAlike_83 oX33_size q1457 q1447 hcc q1456 (Or.inr hy_Thing_size) rfl rfl (Nat.le_of_ble_eq_true rfl) rfl hW hF hT kr kt
                    · exact c_invV (vs := []) dX5_areAlike_83 oX34_size q1451 q1447 hcc q1450 (Or.inr hy_Thing_size) rfl rfl (Nat.le_of_ble_eq_true rfl) rfl hW hF hT kr kt
                    · exact c_invV (vs := []) dX5_areAlike_83 oX35_size q1460 q1447 hcc q1459 (Or.inr hy_Thing_size) rfl rfl (Nat.le_of_ble_eq_true rfl) rfl hW hF hT kr kt
                · replace hT := hT.2 c
                  refine x_iconst (v := 0) dX5_areAlike_66 rfl ?_
                  exact x_iret dX5_areAlike_67 rfl rfl ⟨_, _, hW, hF, Or.inl ⟨_, rfl, hT⟩⟩
              have kt : ∀ k s65 f66, P80 (.inr k) s65 f66 → ∀ h a, CW E w s65 f66 h → xA w h k a → Frz f0 f66 → ExT l E (d + 1) MX5_areAlike 60 [some (.ref a1), some (.ref a2), none, none, none] [.int v64] a h (PoC E w f0 Q) := by
                intro k s65 f66 h0 h a hW hx hF
                have hT := hP _ _ _ h0
                clear h0
                exact c_out (rfl) hW hx hF hT
              obtain ⟨cc, hcc⟩ := hW.ocell hc
              rcases hT with ⟨rfl, hT⟩ | ⟨rfl, hT⟩ | ⟨rfl, hT⟩ | ⟨rfl, hT⟩
              · exact c_invV (vs := []) dX5_areAlike_60 oX32_size q1454 q1447 hcc q1453 (Or.inr hy_Thing_size) rfl rfl (Nat.le_of_ble_eq_true rfl) rfl hW hF hT kr kt
              · exact c_invV (vs := []) dX5_areAlike_60 oX33_size q1457 q1447 hcc q1456 (Or.inr hy_Thing_size) rfl rfl (Nat.le_of_ble_eq_true rfl) rfl hW hF hT kr kt
              · exact c_invV (vs := []) dX5_areAlike_60 oX34_size q1451 q1447 hcc q1450 (Or.inr hy_Thing_size) rfl rfl (Nat.le_of_ble_eq_true rfl) rfl hW hF hT kr kt
              · exact c_invV (vs := []) dX5_areAlike_60 oX35_size q1460 q1447 hcc q1459 (Or.inr hy_Thing_size) rfl rfl (Nat.le_of_ble_eq_true rfl) rfl hW hF hT kr kt
            have kt : ∀ k s62 f63, P82 (.inr k) s62 f63 → ∀ h a, CW E w s62 f63 h → xA w h k a → Frz f0 f63 → ExT l E (d + 1) MX5_areAlike 56 [some (.ref a1), some (.ref a2), none, none, none] [] a h (PoC E w f0 Q) := by
              intro k s62 f63 h0 h a hW hx hF
              have hT := hP _ _ _ h0
              clear h0
              exact c_out (rfl) hW hx hF hT
            obtain ⟨cc, hcc⟩ := hW.ocell hc
            rcases hT with ⟨rfl, hT⟩ | ⟨rfl, hT⟩ | ⟨rfl, hT⟩ | ⟨rfl, hT⟩
            · exact c_invV (vs := []) dX5_areAlike_56 oX32_size q1454 q1447 hcc q1453 (Or.inr hy_Thing_size) rfl rfl (Nat.le_of_ble_eq_true rfl) rfl hW hF hT kr kt
            · exact c_invV (vs := []) dX5_areAlike_56 oX33_size q1457 q1447 hcc q1456 (Or.inr hy_Thing_size) rfl rfl (Nat.le_of_ble_eq_true rfl) rfl hW hF hT kr kt
            · exact c_invV (vs := []) dX5_areAlike_56 oX34_size q1451 q1447 hcc q1450 (Or.inr hy_Thing_size) rfl rfl (Nat.le_of_ble_eq_true rfl) rfl hW hF hT kr kt
            · exact c_invV (vs := []) dX5_areAlike_56 oX35_size q1460 q1447 hcc q1459 (Or.inr hy_Thing_size) rfl rfl (Nat.le_of_ble_eq_true rfl) rfl hW hF hT kr kt
          · replace hT := hT.2 hi61
            refine x_if_eq (tgt := 68) dX5_areAlike_52 rfl (fun _ => ?_) (fun c => absurd c (by decide))
            refine x_aload_n dX5_areAlike_68 rfl rfl rfl ?_
            obtain ⟨ht, hT⟩ := hT
            refine c_inst (K := 30) dX5_areAlike_69 (by decide) q1446 ht hW (fun hi83 => ?_) (fun hi83 => ?_)
            · replace hT := hT.1 hi83
              refine x_if_eq (tgt := 82) dX5_areAlike_72 rfl (fun c => absurd c (by decide)) (fun _ => ?_)
              refine x_aload_n dX5_areAlike_75 rfl rfl rfl ?_
              obtain ⟨P88, hP, k87, hc, hT⟩ := hT
              have kr : ∀ r s84 f85, P88 (.inl r) s84 f85 → ∀ h, CW E w s84 f85 h → Frz f0 f85 → Ex l E (d + 1) MX5_areAlike (76 + 3) [some (.ref a1), some (.ref a2), none, none, none] (r.toList ++ []) h (PoC E w f0 Q) := by
                intro r s84 f85 h0 h hW hF
                have hT := hP _ _ _ h0
                clear h0
                obtain ⟨v86, rfl, hT⟩ := hT
                refine x_goto (tgt := 86) dX5_areAlike_79 rfl ?_
                refine x_istore_n (lo' := [some (.ref a1), some (.ref a2), some (.int v86), none, none]) dX5_areAlike_86 rfl (Nat.le_of_ble_eq_true rfl) rfl ?_
                refine x_iconst (v := 1) dX5_areAlike_87 rfl ?_
                refine x_istore_n (lo' := [some (.ref a1), some (.ref a2), some (.int v86), some (.int 1), none]) dX5_areAlike_88 rfl (Nat.le_of_ble_eq_true rfl) rfl ?_
                refine x_iconst (v := 0) dX5_areAlike_89 rfl ?_
                refine x_istore (lo' := [some (.ref a1), some (.ref a2), some (.int v86), some (.int 1), some (.int 0)]) dX5_areAlike_90 (Nat.le_of_ble_eq_true rfl) rfl ?_
                exact hT f0 h hW hF
              have kt : ∀ k s84 f85, P88 (.inr k) s84 f85 → ∀ h a, CW E w s84 f85 h → xA w h k a → Frz f0 f85 → ExT l E (d + 1) MX5_areAlike 76 [some (.ref a1), some (.ref a2), none, none, none] [] a h (PoC E w f0 Q) := by
                intro k s84 f85 h0 h a hW hx hF
                have hT := hP _ _ _ h0
                clear h0
                exact c_out (rfl) hW hx hF hT
              obtain ⟨cc, hcc⟩ := hW.ocell hc
              rcases hT with ⟨rfl, hT⟩ | ⟨rfl, hT⟩ | ⟨rfl, hT⟩ | ⟨rfl, hT⟩
              · exact c_invV (vs := []) dX5_areAlike_76 oX32_size q1454 q1447 hcc q1453 (Or.inr hy_Thing_size) rfl rfl (Nat.le_of_ble_eq_true rfl) rfl hW hF hT kr kt
              · exact c_invV (vs := []) dX5_areAlike_76 oX33_size q1457 q1447 hcc q1456 (Or.inr hy_Thing_size) rfl rfl (Nat.le_of_ble_eq_true rfl) rfl hW hF hT kr kt
              · exact c_invV (vs := []) dX5_areAlike_76 oX34_size q1451 q1447 hcc q1450 (Or.inr hy_Thing_size) rfl rfl (Nat.le_of_ble_eq_true rfl) rfl hW hF hT kr kt
              · exact c_invV (vs := []) dX5_areAlike_76 oX35_size q1460 q1447 hcc q1459 (Or.inr hy_Thing_size) rfl rfl (Nat.le_of_ble_eq_true rfl) rfl hW hF hT kr kt
            · replace hT := hT.2 hi83
              refine x_if_eq (tgt := 82) dX5_areAlike_72 rfl (fun _ => ?_) (fun c => absurd c (by decide))
              refine x_aload_n dX5_areAlike_82 rfl rfl rfl ?_
              obtain ⟨P93, hP, k92, hc, hT⟩ := hT
              have kr : ∀ r s89 f90, P93 (.inl r) s89 f90 → ∀ h, CW E w s89 f90 h → Frz f0 f90 → Ex l E (d + 1) MX5_areAlike (83 + 3) [some (.ref a1), some (.ref a2), none, none, none] (r.toList ++ []) h (PoC E w f0 Q) := by
                intro r s89 f90 h0 h hW hF
                have hT := hP _ _ _ h0
                clear h0
                obtain ⟨v91, rfl, hT⟩ := hT
                refine x_istore_n (lo' := [some (.ref a1), some (.ref a2), some (.int v91), none, none]) dX5_areAlike_86 rfl (Nat.le_of_ble_eq_true rfl) rfl ?_
                refine x_iconst (v := 1) dX5_areAlike_87 rfl ?_
                refine x_istore_n (lo' := [some (.ref a1), some (.ref a2), some (.int v91), some (.int 1), none]) dX5_areAlike_88 rfl (Nat.le_of_ble_eq_true rfl) rfl ?_
                refine x_iconst (v := 0) dX5_areAlike_89 rfl ?_
                refine x_istore (lo' := [some (.ref a1), some (.ref a2), some (.int v91), some (.int 1), some (.int 0)]) dX5_areAlike_90 (Nat.le_of_ble_eq_true rfl) rfl ?_
                exact hT f0 h hW hF
              have kt : ∀ k s89 f90, P93 (.inr k) s89 f90 → ∀ h a, CW E w s89 f90 h → xA w h k a → Frz f0 f90 → ExT l E (d + 1) MX5_areAlike 83 [some (.ref a1), some (.ref a2), none, none, none] [] a h (PoC E w f0 Q) := by
                intro k s89 f90 h0 h a hW hx hF
                have hT := hP _ _ _ h0
                clear h0
                exact c_out (rfl) hW hx hF hT
              obtain ⟨cc, hcc⟩ := hW.ocell hc
              rcases hT with ⟨rfl, hT⟩ | ⟨rfl, hT⟩ | ⟨rfl, hT⟩ | ⟨rfl, hT⟩
              · exact c_invV (vs := []) dX5_areAlike_83 oX32_size q1454 q1447 hcc q1453 (Or.inr hy_Thing_size) rfl rfl (Nat.le_of_ble_eq_true rfl) rfl hW hF hT kr kt
              · exact c_invV (vs := []) dX5_areAlike_83 oX33_size q1457 q1447 hcc q1456 (Or.inr hy_Thing_size) rfl rfl (Nat.le_of_ble_eq_true rfl) rfl hW hF hT kr kt
              · exact c_invV (vs := []) dX5_areAlike_83 oX34_size q1451 q1447 hcc q1450 (Or.inr hy_Thing_size) rfl rfl (Nat.le_of_ble_eq_true rfl) rfl hW hF hT kr kt
              · exact c_invV (vs := []) dX5_areAlike_83 oX35_size q1460 q1447 hcc q1459 (Or.inr hy_Thing_size) rfl rfl (Nat.le_of_ble_eq_true rfl) rfl hW hF hT kr kt
        · replace hT := hT.2 hi60
          refine x_if_eq (tgt := 68) dX5_areAlike_45 rfl (fun _ => ?_) (fun c => absurd c (by decide))
          refine x_aload_n dX5_areAlike_68 rfl rfl rfl ?_
          obtain ⟨ht, hT⟩ := hT
          refine c_inst (K := 30) dX5_areAlike_69 (by decide) q1446 ht hW (fun hi94 => ?_) (fun hi94 => ?_)
          · replace hT := hT.1 hi94
            refine x_if_eq (tgt := 82) dX5_areAlike_72 rfl (fun c => absurd c (by decide)) (fun _ => ?_)
            refine x_aload_n dX5_areAlike_75 rfl rfl rfl ?_
            obtain ⟨P99, hP, k98, hc, hT⟩ := hT
            have kr : ∀ r s95 f96, P99 (.inl r) s95 f96 → ∀ h, CW E w s95 f96 h → Frz f0 f96 → Ex l E (d + 1) MX5_areAlike (76 + 3) [some (.ref a1), some (.ref a2), none, none, none] (r.toList ++ []) h (PoC E w f0 Q) := by
              intro r s95 f96 h0 h hW hF
              have hT := hP _ _ _ h0
              clear h0
              obtain ⟨v97, rfl, hT⟩ := hT
              refine x_goto (tgt := 86) dX5_areAlike_79 rfl ?_
              refine x_istore_n (lo' := [some (.ref a1), some (.ref a2), some (.int v97), none, none]) dX5_areAlike_86 rfl (Nat.le_of_ble_eq_true rfl) rfl ?_
              refine x_iconst (v := 1) dX5_areAlike_87 rfl ?_
              refine x_istore_n (lo' := [some (.ref a1), some (.ref a2), some (.int v97), some (.int 1), none]) dX5_areAlike_88 rfl (Nat.le_of_ble_eq_true rfl) rfl ?_
              refine x_iconst (v := 0) dX5_areAlike_89 rfl ?_
              refine x_istore (lo' := [some (.ref a1), some (.ref a2), some (.int v97), some (.int 1), some (.int 0)]) dX5_areAlike_90 (Nat.le_of_ble_eq_true rfl) rfl ?_
              exact hT f0 h hW hF
            have kt : ∀ k s95 f96, P99 (.inr k) s95 f96 → ∀ h a, CW E w s95 f96 h → xA w h k a → Frz f0 f96 → ExT l E (d + 1) MX5_areAlike 76 [some (.ref a1), some (.ref a2), none, none, none] [] a h (PoC E w f0 Q) := by
              intro k s95 f96 h0 h a hW hx hF
              have hT := hP _ _ _ h0
              clear h0
              exact c_out (rfl) hW hx hF hT
            obtain ⟨cc, hcc⟩ := hW.ocell hc
            rcases hT with ⟨rfl, hT⟩ | ⟨rfl, hT⟩ | ⟨rfl, hT⟩ | ⟨rfl, hT⟩
            · exact c_invV (vs := []) dX5_areAlike_76 oX32_size q1454 q1447 hcc q1453 (Or.inr hy_Thing_size) rfl rfl (Nat.le_of_ble_eq_true rfl) rfl hW hF hT kr kt
            · exact c_invV (vs := []) dX5_areAlike_76 oX33_size q1457 q1447 hcc q1456 (Or.inr hy_Thing_size) rfl rfl (Nat.le_of_ble_eq_true rfl) rfl hW hF hT kr kt
            · exact c_invV (vs := []) dX5_areAlike_76 oX34_size q1451 q1447 hcc q1450 (Or.inr hy_Thing_size) rfl rfl (Nat.le_of_ble_eq_true rfl) rfl hW hF hT kr kt
            · exact c_invV (vs := []) dX5_areAlike_76 oX35_size q1460 q1447 hcc q1459 (Or.inr hy_Thing_size) rfl rfl (Nat.le_of_ble_eq_true rfl) rfl hW hF hT kr kt
          · replace hT := hT.2 hi94
            refine x_if_eq (tgt := 82) dX5_areAlike_72 rfl (fun _ => ?_) (fun c => absurd c (by decide))
            refine x_aload_n dX5_areAlike_82 rfl rfl rfl ?_
            obtain ⟨P104, hP, k103, hc, hT⟩ := hT
            have kr : ∀ r s100 f101, P104 (.inl r) s100 f101 → ∀ h, CW E w s100 f101 h → Frz f0 f101 → Ex l E (d + 1) MX5_areAlike (83 + 3) [some (.ref a1), some (.ref a2), none, none, none] (r.toList ++ []) h (PoC E w f0 Q) := by
              intro r s100 f101 h0 h hW hF
              have hT := hP _ _ _ h0
              clear h0
              obtain ⟨v102, rfl, hT⟩ := hT
              refine x_istore_n (lo' := [some (.ref a1), some (.ref a2), some (.int v102), none, none]) dX5_areAlike_86 rfl (Nat.le_of_ble_eq_true rfl) rfl ?_
              refine x_iconst (v := 1) dX5_areAlike_87 rfl ?_
              refine x_istore_n (lo' := [some (.ref a1), some (.ref a2), some (.int v102), some (.int 1), none]) dX5_areAlike_88 rfl (Nat.le_of_ble_eq_true rfl) rfl ?_
              refine x_iconst (v := 0) dX5_areAlike_89 rfl ?_
              refine x_istore (lo' := [some (.ref a1), some (.ref a2), some (.int v102), some (.int 1), some (.int 0)]) dX5_areAlike_90 (Nat.le_of_ble_eq_true rfl) rfl ?_
              exact hT f0 h hW hF
            have kt : ∀ k s100 f101, P104 (.inr k) s100 f101 → ∀ h a, CW E w s100 f101 h → xA w h k a → Frz f0 f101 → ExT l E (d + 1) MX5_areAlike 83 [some (.ref a1), some (.ref a2), none, none, none] [] a h (PoC E w f0 Q) := by
              intro k s100 f101 h0 h a hW hx hF
              have hT := hP _ _ _ h0
              clear h0
              exact c_out (rfl) hW hx hF hT
            obtain ⟨cc, hcc⟩ := hW.ocell hc
            rcases hT with ⟨rfl, hT⟩ | ⟨rfl, hT⟩ | ⟨rfl, hT⟩ | ⟨rfl, hT⟩
            · exact c_invV (vs := []) dX5_areAlike_83 oX32_size q1454 q1447 hcc q1453 (Or.inr hy_Thing_size) rfl rfl (Nat.le_of_ble_eq_true rfl) rfl hW hF hT kr kt
            · exact c_invV (vs := []) dX5_areAlike_83 oX33_size q1457 q1447 hcc q1456 (Or.inr hy_Thing_size) rfl rfl (Nat.le_of_ble_eq_true rfl) rfl hW hF hT kr kt
            · exact c_invV (vs := []) dX5_areAlike_83 oX34_size q1451 q1447 hcc q1450 (Or.inr hy_Thing_size) rfl rfl (Nat.le_of_ble_eq_true rfl) rfl hW hF hT kr kt
            · exact c_invV (vs := []) dX5_areAlike_83 oX35_size q1460 q1447 hcc q1459 (Or.inr hy_Thing_size) rfl rfl (Nat.le_of_ble_eq_true rfl) rfl hW hF hT kr kt
    · subst e
      replace hT := hT.1 rfl
      refine x_iconst (v := 1) dX5_areAlike_8 rfl ?_
      exact x_iret dX5_areAlike_9 rfl rfl ⟨_, _, hW, hF, Or.inl ⟨_, rfl, hT⟩⟩
theorem eX5_areAlike {l : Launch} {E : EN} {w : CO} {d : Nat} {s : CS} {f : RH} {Q : KO → CS → RH → Prop} {x1 : Value} {x2 : Value} (ix1 : isR x1 = true) (ix2 : isR x2 = true) (hst : l.stackTraces = false) (hT : ((x1 = .null → Q (.inl (some (.int 1))) s f) ∧ (∀ a1 : Nat, x1 = .ref a1 → ((x2 = .null → Q (.inl (some (.int 1))) s f) ∧ (∀ a2 : Nat, x2 = .ref a2 → (isT f (.ref a1) ∧ ((tg f a1 = some (.inl 29) → (isT f (.ref a2) ∧ ((tg f a2 = some (.inl 29) → (∃ P14 : KO → CS → RH → Prop, (∀ o s5 f6, P14 o s5 f6 → KP o (fun r => ∃ v7 : Int32, r = some (.int v7) ∧ (∃ P12 : KO → CS → RH → Prop, (∀ o s8 f9, P12 o s8 f9 → KP o (fun r => ∃ v10 : Int32, r = some (.int v10) ∧ ((¬ v7 = v10 → Q (.inl (some (.int 0))) s8 f9) ∧ (v7 = v10 → Q (.inl (some (.int 1))) s8 f9))) (fun k => Q (.inr k) s8 f9)) ∧ ∃ k11 : Nat, oc f6 a2 k11 ∧ ((k11 = 29 ∧ EvC l E w d MX32_size [.ref a2] s5 f6 P12) ∨ (k11 = 30 ∧ EvC l E w d MX33_size [.ref a2] s5 f6 P12) ∨ (k11 = 31 ∧ EvC l E w d MX34_size [.ref a2] s5 f6 P12) ∨ (k11 = 32 ∧ EvC l E w d MX35_size [.ref a2] s5 f6 P12)))) (fun k => Q (.inr k) s5 f6)) ∧ ∃ k13 : Nat, oc f a1 k13 ∧ ((k13 = 29 ∧ EvC l E w d MX32_size [.ref a1] s f P14) ∨ (k13 = 30 ∧ EvC l E w d MX33_size [.ref a1] s f P14) ∨ (k13 = 31 ∧ EvC l E w d MX34_size [.ref a1] s f P14) ∨ (k13 = 32 ∧ EvC l E w d MX35_size [.ref a1] s f P14)))) ∧ (¬ tg f a2 = some (.inl 29) → (isT f (.ref a1) ∧ ((tg f a1 = some (.inl 30) → (isT f (.ref a2) ∧ ((tg f a2 = some (.inl 30) → (∃ P37 : KO → CS → RH → Prop, (∀ o s17 f18, P37 o s17 f18 → KP o (fun r => ∃ v19 : Int32, r = some (.int v19) ∧ (∃ P35 : KO → CS → RH → Prop, (∀ o s20 f21, P35 o s20 f21 → KP o (fun r => ∃ v22 : Int32, r = some (.int v22) ∧ ((v19 = v22 → (isT f21 (.ref a1) ∧ ((tg f21 a1 = some (.inl 30) → (∃ P28 : KO → CS → RH → Prop, (∀ o s24 f25, P28 o s24 f25 → KP o (fun r => ∃ v26 : Int32, r = some (.int v26) ∧ ExC l E w (d + 1) MX5_areAlike 92 [some (.ref a1), some (.ref a2), some (.int v26), some (.int 1), some (.int 0)] [] s24 f25 Q) (fun k => Q (.inr k) s24 f25)) ∧ ∃ k27 : Nat, oc f21 a1 k27 ∧ ((k27 = 29 ∧ EvC l E w d MX32_size [.ref a1] s20 f21 P28) ∨ (k27 = 30 ∧ EvC l E w d MX33_size [.ref a1] s20 f21 P28) ∨ (k27 = 31 ∧ EvC l E w d MX34_size [.ref a1] s20 f21 P28) ∨ (k27 = 32 ∧ EvC l E w d MX35_size [.ref a1] s20 f21 P28)))) ∧ (¬ tg f21 a1 = some (.inl 30) → (∃ P33 : KO → CS → RH → Prop, (∀ o s29 f30, P33 o s29 f30 → KP o (fun r => ∃ v31 : Int32, r = some (.int v31) ∧ ExC l E w (d + 1) MX5_areAlike 92 [some (.ref a1), some (.ref a2), some (.int v31), some (.int 1), some (.int 0)] [] s29 f30 Q) (fun k => Q (.inr k) s29 f30)) ∧ ∃ k32 : Nat, oc f21 a2 k32 ∧ ((k32 = 29 ∧ EvC l E w d MX32_size [.ref a2] s20 f21 P33) ∨ (k32 = 30 ∧ EvC l E w d MX33_size [.ref a2] s20 f21 P33) ∨ (k32 = 31 ∧ EvC l E w d MX34_size [.ref a2] s20 f21 P33) ∨ (k32 = 32 ∧ EvC l E w d MX35_size [.ref a2] s20 f21 P33))))))) ∧ (¬ v19 = v22 → Q (.inl (some (.int 0))) s20 f21))) (fun k => Q (.inr k) s20 f21)) ∧ ∃ k34 : Nat, oc f18 a2 k34 ∧ ((k34 = 29 ∧ EvC l E w d MX32_size [.ref a2] s17 f18 P35) ∨ (k34 = 30 ∧ EvC l E w d MX33_size [.ref a2] s17 f18 P35) ∨ (k34 = 31 ∧ EvC l E w d MX34_size [.ref a2] s17 f18 P35) ∨ (k34 = 32 ∧ EvC l E w d MX35_size [.ref a2] s17 f18 P35)))) (fun k => Q (.inr k) s17 f18)) ∧ ∃ k36 : Nat, oc f a1 k36 ∧ ((k36 = 29 ∧ EvC l E w d MX32_size [.ref a1] s f P37) ∨ (k36 = 30 ∧ EvC l E w d MX33_size [.ref a1] s f P37) ∨ (k36 = 31 ∧ EvC l E w d MX34_size [.ref a1] s f P37) ∨ (k36 = 32 ∧ EvC l E w d MX35_size [.ref a1] s f P37)))) ∧ (¬ tg f a2 = some (.inl 30) → (isT f (.ref a1) ∧ ((tg f a1 = some (.inl 30) → (∃ P43 : KO → CS → RH → Prop, (∀ o s39 f40, P43 o s39 f40 → KP o (fun r => ∃ v41 : Int32, r = some (.int v41) ∧ ExC l E w (d + 1) MX5_areAlike 92 [some (.ref a1), some (.ref a2), some (.int v41), some (.int 1), some (.int 0)] [] s39 f40 Q) (fun k => Q (.inr k) s39 f40)) ∧ ∃ k42 : Nat, oc f a1 k42 ∧ ((k42 = 29 ∧ EvC l E w d MX32_size [.ref a1] s f P43) ∨ (k42 = 30 ∧ EvC l E w d MX33_size [.ref a1] s f P43) ∨ (k42 = 31 ∧ EvC l E w d MX34_size [.ref a1] s f P43) ∨ (k42 = 32 ∧ EvC l E w d MX35_size [.ref a1] s f P43)))) ∧ (¬ tg f a1 = some (.inl 30) → (∃ P48 : KO → CS → RH → Prop, (∀ o s44 f45, P48 o s44 f45 → KP o (fun r => ∃ v46 : Int32, r = some (.int v46) ∧ ExC l E w (d + 1) MX5_areAlike 92 [some (.ref a1), some (.ref a2), some (.int v46), some (.int 1), some (.int 0)] [] s44 f45 Q) (fun k => Q (.inr k) s44 f45)) ∧ ∃ k47 : Nat, oc f a2 k47 ∧ ((k47 = 29 ∧ EvC l E w d MX32_size [.ref a2] s f P48) ∨ (k47 = 30 ∧ EvC l E w d MX33_size [.ref a2] s f P48) ∨ (k47 = 31 ∧ EvC l E w d MX34_size [.ref a2] s f P48) ∨ (k47 = 32 ∧ EvC l E w d MX35_size [.ref a2] s f P48)))))))))) ∧ (¬ tg f a1 = some (.inl 30) → (isT f (.ref a1) ∧ ((tg f a1 = some (.inl 30) → (∃ P54 : KO → CS → RH → Prop, (∀ o s50 f51, P54 o s50 f51 → KP o (fun r => ∃ v52 : Int32, r = some (.int v52) ∧ ExC l E w (d + 1) MX5_areAlike 92 [some (.ref a1), some (.ref a2), some (.int v52), some (.int 1), some (.int 0)] [] s50 f51 Q) (fun k => Q (.inr k) s50 f51)) ∧ ∃ k53 : Nat, oc f a1 k53 ∧ ((k53 = 29 ∧ EvC l E w d MX32_size [.ref a1] s f P54) ∨ (k53 = 30 ∧ EvC l E w d MX33_size [.ref a1] s f P54) ∨ (k53 = 31 ∧ EvC l E w d MX34_size [.ref a1] s f P54) ∨ (k53 = 32 ∧ EvC l E w d MX35_size [.ref a1] s f P54)))) ∧ (¬ tg f a1 = some (.inl 30) → (∃ P59 : KO → CS → RH → Prop, (∀ o s55 f56, P59 o s55 f56 → KP o (fun r => ∃ v57 : Int32, r = some (.int v57) ∧ ExC l E w (d + 1) MX5_areAlike 92 [some (.ref a1), some (.ref a2), some (.int v57), some (.int 1), some (.int 0)] [] s55 f56 Q) (fun k => Q (.inr k) s55 f56)) ∧ ∃ k58 : Nat, oc f a2 k58 ∧ ((k58 = 29 ∧ EvC l E w d MX32_size [.ref a2] s f P59) ∨ (k58 = 30 ∧ EvC l E w d MX33_size [.ref a2] s f P59) ∨ (k58 = 31 ∧ EvC l E w d MX34_size [.ref a2] s f P59) ∨ (k58 = 32 ∧ EvC l E w d MX35_size [.ref a2] s f P59))))))))))))) ∧ (¬ tg f a1 = some (.inl 29) → (isT f (.ref a1) ∧ ((tg f a1 = some (.inl 30) → (isT f (.ref a2) ∧ ((tg f a2 = some (.inl 30) → (∃ P82 : KO → CS → RH → Prop, (∀ o s62 f63, P82 o s62 f63 → KP o (fun r => ∃ v64 : Int32, r = some (.int v64) ∧ (∃ P80 : KO → CS → RH → Prop, (∀ o s65 f66, P80 o s65 f66 → KP o (fun r => ∃ v67 : Int32, r = some (.int v67) ∧ ((v64 = v67 → (isT f66 (.ref a1) ∧ ((tg f66 a1 = some (.inl 30) → (∃ P73 : KO → CS → RH → Prop, (∀ o s69 f70, P73 o s69 f70 → KP o (fun r => ∃ v71 : Int32, r = some (.int v71) ∧ ExC l E w (d + 1) MX5_areAlike 92 [some (.ref a1), some (.ref a2), some (.int v71), some (.int 1), some (.int 0)] [] s69 f70 Q) (fun k => Q (.inr k) s69 f70)) ∧ ∃ k72 : Nat, oc f66 a1 k72 ∧ ((k72 = 29 ∧ EvC l E w d MX32_size [.ref a1] s65 f66 P73) ∨ (k72 = 30 ∧ EvC l E w d MX33_size [.ref a1] s65 f66 P73) ∨ (k72 = 31 ∧ EvC l E w d MX34_size [.ref a1] s65 f66 P73) ∨ (k72 = 32 ∧ EvC l E w d MX35_size [.ref a1] s65 f66 P73)))) ∧ (¬ tg f66 a1 = some (.inl 30) → (∃ P78 : KO → CS → RH → Prop, (∀ o s74 f75, P78 o s74 f75 → KP o (fun r => ∃ v76 : Int32, r = some (.int v76) ∧ ExC l E w (d + 1) MX5_areAlike 92 [some (.ref a1), some (.ref a2), some (.int v76), some (.int 1), some (.int 0)] [] s74 f75 Q) (fun k => Q (.inr k) s74 f75)) ∧ ∃ k77 : Nat, oc f66 a2 k77 ∧ ((k77 = 29 ∧ EvC l E w d MX32_size [.ref a2] s65 f66 P78) ∨ (k77 = 30 ∧ EvC l E w d MX33_size [.ref a2] s65 f66 P78) ∨ (k77 = 31 ∧ EvC l E w d MX34_size [.ref a2] s65 f66 P78) ∨ (k77 = 32 ∧ EvC l E w d MX35_size [.ref a2] s65 f66 P78))))))) ∧ (¬ v64 = v67 → Q (.inl (some (.int 0))) s65 f66))) (fun k => Q (.inr k) s65 f66)) ∧ ∃ k79 : Nat, oc f63 a2 k79 ∧ ((k79 = 29 ∧ EvC l E w d MX32_size [.ref a2] s62 f63 P80) ∨ (k79 = 30 ∧ EvC l E w d MX33_size [.ref a2] s62 f63 P80) ∨ (k79 = 31 ∧ EvC l E w d MX34_size [.ref a2] s62 f63 P80) ∨ (k79 = 32 ∧ EvC l E w d MX35_size [.ref a2] s62 f63 P80)))) (fun k => Q (.inr k) s62 f63)) ∧ ∃ k81 : Nat, oc f a1 k81 ∧ ((k81 = 29 ∧ EvC l E w d MX32_size [.ref a1] s f P82) ∨ (k81 = 30 ∧ EvC l E w d MX33_size [.ref a1] s f P82) ∨ (k81 = 31 ∧ EvC l E w d MX34_size [.ref a1] s f P82) ∨ (k81 = 32 ∧ EvC l E w d MX35_size [.ref a1] s f P82)))) ∧ (¬ tg f a2 = some (.inl 30) → (isT f (.ref a1) ∧ ((tg f a1 = some (.inl 30) → (∃ P88 : KO → CS → RH → Prop, (∀ o s84 f85, P88 o s84 f85 → KP o (fun r => ∃ v86 : Int32, r = some (.int v86) ∧ ExC l E w (d + 1) MX5_areAlike 92 [some (.ref a1), some (.ref a2), some (.int v86), some (.int 1), some (.int 0)] [] s84 f85 Q) (fun k => Q (.inr k) s84 f85)) ∧ ∃ k87 : Nat, oc f a1 k87 ∧ ((k87 = 29 ∧ EvC l E w d MX32_size [.ref a1] s f P88) ∨ (k87 = 30 ∧ EvC l E w d MX33_size [.ref a1] s f P88) ∨ (k87 = 31 ∧ EvC l E w d MX34_size [.ref a1] s f P88) ∨ (k87 = 32 ∧ EvC l E w d MX35_size [.ref a1] s f P88)))) ∧ (¬ tg f a1 = some (.inl 30) → (∃ P93 : KO → CS → RH → Prop, (∀ o s89 f90, P93 o s89 f90 → KP o (fun r => ∃ v91 : Int32, r = some (.int v91) ∧ ExC l E w (d + 1) MX5_areAlike 92 [some (.ref a1), some (.ref a2), some (.int v91), some (.int 1), some (.int 0)] [] s89 f90 Q) (fun k => Q (.inr k) s89 f90)) ∧ ∃ k92 : Nat, oc f a2 k92 ∧ ((k92 = 29 ∧ EvC l E w d MX32_size [.ref a2] s f P93) ∨ (k92 = 30 ∧ EvC l E w d MX33_size [.ref a2] s f P93) ∨ (k92 = 31 ∧ EvC l E w d MX34_size [.ref a2] s f P93) ∨ (k92 = 32 ∧ EvC l E w d MX35_size [.ref a2] s f P93)))))))))) ∧ (¬ tg f a1 = some (.inl 30) → (isT f (.ref a1) ∧ ((tg f a1 = some (.inl 30) → (∃ P99 : KO → CS → RH → Prop, (∀ o s95 f96, P99 o s95 f96 → KP o (fun r => ∃ v97 : Int32, r = some (.int v97) ∧ ExC l E w (d + 1) MX5_areAlike 92 [some (.ref a1), some (.ref a2), some (.int v97), some (.int 1), some (.int 0)] [] s95 f96 Q) (fun k => Q (.inr k) s95 f96)) ∧ ∃ k98 : Nat, oc f a1 k98 ∧ ((k98 = 29 ∧ EvC l E w d MX32_size [.ref a1] s f P99) ∨ (k98 = 30 ∧ EvC l E w d MX33_size [.ref a1] s f P99) ∨ (k98 = 31 ∧ EvC l E w d MX34_size [.ref a1] s f P99) ∨ (k98 = 32 ∧ EvC l E w d MX35_size [.ref a1] s f P99)))) ∧ (¬ tg f a1 = some (.inl 30) → (∃ P104 : KO → CS → RH → Prop, (∀ o s100 f101, P104 o s100 f101 → KP o (fun r => ∃ v102 : Int32, r = some (.int v102) ∧ ExC l E w (d + 1) MX5_areAlike 92 [some (.ref a1), some (.ref a2), some (.int v102), some (.int 1), some (.int 0)] [] s100 f101 Q) (fun k => Q (.inr k) s100 f101)) ∧ ∃ k103 : Nat, oc f a2 k103 ∧ ((k103 = 29 ∧ EvC l E w d MX32_size [.ref a2] s f P104) ∨ (k103 = 30 ∧ EvC l E w d MX33_size [.ref a2] s f P104) ∨ (k103 = 31 ∧ EvC l E w d MX34_size [.ref a2] s f P104) ∨ (k103 = 32 ∧ EvC l E w d MX35_size [.ref a2] s f P104))))))))))))))))) : EvC l E w (d + 1) MX5_areAlike [x1, x2] s f Q :=by
  rcases isR_cases ix1 with rfl | ⟨_, rfl⟩ <;> rcases isR_cases ix2 with rfl | ⟨_, rfl⟩ <;> exact
  
  EvC.of hst (by decide) (Nat.le_of_ble_eq_true rfl) (vX5_areAlike_0 ix1 ix2 hT)
theorem vX5_areAlike_92 {l : Launch} {E : EN} {w : CO} {d : Nat} {s : CS} {f : RH} {Q : KO → CS → RH → Prop} {b0 : Nat} {b1 : Nat} {b2 : Int32} {b3 : Int32} {b4 : Int32}  (hT : ((b2 ≤ b4 → (narrow .boolean (.int b3) = .int b3 ∧ Q (.inl (some (.int b3))) s f)) ∧ (¬ b2 ≤ b4 → ((b3 = 0 → ExC l E w (d + 1) MX5_areAlike 92 [some (.ref b0), some (.ref b1), some (.int b2), some (.int 0), some (.int (b4 + 1))] [] s f Q) ∧ (¬ b3 = 0 → (EvC l E w d MX5_rowOf [.ref b0, .int b4] s f (fun o s105 f106 => KP o (fun r => ∃ v107 : Value, r = some v107 ∧ isR v107 = true ∧ (∃ a108 : Nat, v107 = .ref a108 ∧ (∃ t109 : Nat, tg f106 a108 = some (.inr t109) ∧ (EvC l E w d MX5_rowOf [.ref b1, .int b4] s105 f106 (fun o s110 f111 => KP o (fun r => ∃ v112 : Value, r = some v112 ∧ isR v112 = true ∧ (∃ a113 : Nat, v112 = .ref a113 ∧ (∃ t114 : Nat, tg f111 a113 = some (.inr t114) ∧ ((¬ (nI (ln f106 a108)) = (nI (ln f111 a113)) → ExC l E w (d + 1) MX5_areAlike 92 [some (.ref b0), some (.ref b1), some (.int b2), some (.int 0), some (.int (b4 + 1))] [] s110 f111 Q) ∧ ((nI (ln f106 a108)) = (nI (ln f111 a113)) → ExC l E w (d + 1) MX5_areAlike 92 [some (.ref b0), some (.ref b1), some (.int b2), some (.int 1), some (.int (b4 + 1))] [] s110 f111 Q))))) (fun k => Q (.inr k) s110 f111)))))) (fun k => Q (.inr k) s105 f106)))))))) : ExC l E w (d + 1) MX5_areAlike 92 [some (.ref b0), some (.ref b1), some (.int b2), some (.int b3), some (.int b4)] [] s f Q := by
  intro f0 h hW hF
  refine x_iload dX5_areAlike_92 rfl ?_
  refine x_iload_n dX5_areAlike_94 rfl rfl ?_
  refine x_icmp_ge (tgt := 131) dX5_areAlike_95 rfl (fun c => ?_) (fun c => ?_)
  · replace hT := hT.1 c
    refine x_iload_n dX5_areAlike_131 rfl rfl ?_
    exact x_iret dX5_areAlike_132 rfl hT.1 ⟨_, _, hW, hF, Or.inl ⟨_, rfl, hT.2⟩⟩
  · replace hT := hT.2 c
    refine x_iload_n dX5_areAlike_98 rfl rfl ?_
    refine x_if_eq (tgt := 123) dX5_areAlike_99 rfl (fun c => ?_) (fun c => ?_)
    · replace hT := hT.1 c
      refine x_iconst (v := 0) dX5_areAlike_123 rfl ?_
      refine x_istore_n (lo' := [some (.ref b0), some (.ref b1), some (.int b2), some (.int 0), some (.int b4)]) dX5_areAlike_124 rfl (Nat.le_of_ble_eq_true rfl) rfl ?_
      refine x_iinc (lo' := [some (.ref b0), some (.ref b1), some (.int b2), some (.int 0), some (.int (b4 + 1))]) dX5_areAlike_125 rfl (show _ = (b4 + 1) from rfl) rfl ?_
      refine x_goto (tgt := 92) dX5_areAlike_128 rfl ?_
      exact hT f0 h hW hF
    · replace hT := hT.2 c
      refine x_aload_n dX5_areAlike_102 rfl rfl rfl ?_
      refine x_iload dX5_areAlike_103 rfl ?_
      refine c_invS (vs := [.ref b0, .int b4]) dX5_areAlike_105 oX5_rowOf q1465 (Or.inl q1464) rfl rfl (Nat.le_of_ble_eq_true rfl) rfl hW hF hT ?_ ?_
      · intro _ s105 f106 hT h hW hF
        obtain ⟨v107, rfl, iv107, hT⟩ := hT
        obtain ⟨a108, rfl, hT⟩ := hT
        obtain ⟨t109, hc, hT⟩ := hT
        refine c_alen dX5_areAlike_108 hc hW ?_
        refine x_aload_n dX5_areAlike_109 rfl rfl rfl ?_
        refine x_iload dX5_areAlike_110 rfl ?_
        refine c_invS (vs := [.ref b1, .int b4]) dX5_areAlike_112 oX5_rowOf q1465 (Or.inl q1464) rfl rfl (Nat.le_of_ble_eq_true rfl) rfl hW hF hT ?_ ?_
        · intro _ s110 f111 hT h hW hF
          obtain ⟨v112, rfl, iv112, hT⟩ := hT
          obtain ⟨a113, rfl, hT⟩ := hT
          obtain ⟨t114, hc, hT⟩ := hT
          refine c_alen dX5_areAlike_115 hc hW ?_
          refine x_icmp_ne (tgt := 123) dX5_areAlike_116 rfl (fun c => ?_) (fun c => ?_)
          · replace hT := hT.1 c
            refine x_iconst (v := 0) dX5_areAlike_123 rfl ?_
            refine x_istore_n (lo' := [some (.ref b0), some (.ref b1), some (.int b2), some (.int 0), some (.int b4)]) dX5_areAlike_124 rfl (Nat.le_of_ble_eq_true rfl) rfl ?_
            refine x_iinc (lo' := [some (.ref b0), some (.ref b1), some (.int b2), some (.int 0), some (.int (b4 + 1))]) dX5_areAlike_125 rfl (show _ = (b4 + 1) from rfl) rfl ?_
            refine x_goto (tgt := 92) dX5_areAlike_128 rfl ?_
            exact hT f0 h hW hF
          · replace hT := hT.2 c
            refine x_iconst (v := 1) dX5_areAlike_119 rfl ?_
            refine x_goto (tgt := 124) dX5_areAlike_120 rfl ?_
            refine x_istore_n (lo' := [some (.ref b0), some (.ref b1), some (.int b2), some (.int 1), some (.int b4)]) dX5_areAlike_124 rfl (Nat.le_of_ble_eq_true rfl) rfl ?_
            refine x_iinc (lo' := [some (.ref b0), some (.ref b1), some (.int b2), some (.int 1), some (.int (b4 + 1))]) dX5_areAlike_125 rfl (show _ = (b4 + 1) from rfl) rfl ?_
            refine x_goto (tgt := 92) dX5_areAlike_128 rfl ?_
            exact hT f0 h hW hF
        · intro k s110 f111 hT h a hW hx hF
          exact c_out (rfl) hW hx hF hT
      · intro k s105 f106 hT h a hW hx hF
        exact c_out (rfl) hW hx hF hT
theorem vX6_some_0 {l : Launch} {E : EN} {w : CO} {d : Nat} {s : CS} {f : RH} {Q : KO → CS → RH → Prop} {x1 : Nat} {x2 : Nat} {x3 : Int32}  (hT : (∃ t1 : Nat, tg f x2 = some (.inr t1) ∧ (∀ y2 : Int32, y2 = (nI (ln f x2)) → (isT f (.ref x1) ∧ ((tg f x1 = some (.inl 29) → (tg f x1 = some (.inl 29) ∧ (¬ y2 < 0 ∧ y2.toNatClampNeg ≤ 60000000 ∧ rmF E f 1 y2.toNatClampNeg ∧ ∀ (a4 : Nat) (f5 : RH), a4 = f.1 → f5 = fnewA f 0 y2.toNatClampNeg → ExC l E w (d + 1) MX6_some 26 [none, none, some (.ref x2), none, some (.int y2), some (.ref x1), some (.ref a4), some (.int 0)] [] s f5 Q))) ∧ (¬ tg f x1 = some (.inl 29) → (isT f (.ref x1) ∧ ((tg f x1 = some (.inl 30) → (tg f x1 = some (.inl 30) ∧ (¬ y2 < 0 ∧ y2.toNatClampNeg ≤ 60000000 ∧ rmF E f 1 y2.toNatClampNeg ∧ ∀ (a7 : Nat) (f8 : RH), a7 = f.1 → f8 = fnewA f 11 y2.toNatClampNeg → ExC l E w (d + 1) MX6_some 87 [some (.ref (w.1 6)), none, some (.ref x2), some (.int x3), some (.int y2), some (.ref x1), some (.ref a7), some (.int 0)] [] s f8 Q))) ∧ (¬ tg f x1 = some (.inl 30) → (¬ y2 < 0 ∧ y2.toNatClampNeg ≤ 60000000 ∧ rmF E f 1 y2.toNatClampNeg ∧ ∀ (a9 : Nat) (f10 : RH), a9 = f.1 → f10 = fnewA f 4 y2.toNatClampNeg → ExC l E w (d + 1) MX6_some 133 [some (.ref (w.1 6)), some (.ref x1), some (.ref x2), some (.int x3), some (.int y2), some (.ref a9), some (.int 0), none] [] s f10 Q)))))))))) : ExC l E w (d + 1) MX6_some 0 [some (.ref (w.1 6)), some (.ref x1), some (.ref x2), some (.int x3), none, none, none, none] [] s f Q := by
  intro f0 h hW hF
  refine x_aload_n dX6_some_0 rfl rfl rfl ?_
  obtain ⟨t1, hc, hT⟩ := hT
  refine c_alen dX6_some_1 hc hW ?_
  obtain ⟨y2, ey2⟩ : ∃ z : Int32, z = (nI (ln f x2)) := ⟨_, rfl⟩
  replace hT := hT y2 ey2
  refine x_istore (lo' := [some (.ref (w.1 6)), some (.ref x1), some (.ref x2), some (.int x3), some (.int y2), none, none, none]) dX6_some_2 (Nat.le_of_ble_eq_true rfl) (by rw [ey2]; exact rfl) ?_
  refine x_aload_n dX6_some_4 rfl rfl rfl ?_
  obtain ⟨ht, hT⟩ := hT
  refine c_inst (K := 29) dX6_some_5 (by decide) q1540 ht hW (fun hi3 => ?_) (fun hi3 => ?_)
  · replace hT := hT.1 hi3
    refine x_if_eq (tgt := 64) dX6_some_8 rfl (fun c => absurd c (by decide)) (fun _ => ?_)
    refine x_aload_n dX6_some_11 rfl rfl rfl ?_
    obtain ⟨hc, hT⟩ := hT
    refine c_cast (K := 29) dX6_some_12 q1540 hc hW ?_
    refine x_astore (lo' := [some (.ref (w.1 6)), some (.ref x1), some (.ref x2), some (.int x3), some (.int y2), some (.ref x1), none, none]) dX6_some_15 (Nat.le_of_ble_eq_true rfl) rfl rfl ?_
    refine x_iload dX6_some_17 rfl ?_
    obtain ⟨hn, hT⟩ := hT
    obtain ⟨hb, hr, hT⟩ := hT
    refine c_newarrayG (t := 0) dX6_some_19 (by decide) rfl hn hb hr hW hF ?_
    intro a4 f5 ea4 ef5 h hW hF
    replace hT := hT a4 f5 ea4 ef5
    refine x_astore (lo' := [some (.ref (w.1 6)), some (.ref x1), some (.ref x2), some (.int x3), some (.int y2), some (.ref x1), some (.ref a4), none]) dX6_some_21 (Nat.le_of_ble_eq_true rfl) rfl rfl ?_
    refine x_iconst (v := 0) dX6_some_23 rfl ?_
    refine x_istore (lo' := [some (.ref (w.1 6)), some (.ref x1), some (.ref x2), some (.int x3), some (.int y2), some (.ref x1), some (.ref a4), some (.int 0)]) dX6_some_24 (Nat.le_of_ble_eq_true rfl) rfl ?_
    refine Ex.wkl (lo' := [none, none, some (.ref x2), none, some (.int y2), some (.ref x1), some (.ref a4), some (.int 0)]) ⟨rfl, rfl, rfl, rfl, rfl, trivial⟩ ?_
    exact hT f0 h hW hF
  · replace hT := hT.2 hi3
    refine x_if_eq (tgt := 64) dX6_some_8 rfl (fun _ => ?_) (fun c => absurd c (by decide))
    refine x_aload_n dX6_some_64 rfl rfl rfl ?_
    obtain ⟨ht, hT⟩ := hT
    refine c_inst (K := 30) dX6_some_65 (by decide) q1542 ht hW (fun hi6 => ?_) (fun hi6 => ?_)
    · replace hT := hT.1 hi6
      refine x_if_eq (tgt := 123) dX6_some_68 rfl (fun c => absurd c (by decide)) (fun _ => ?_)
      refine x_aload_n dX6_some_71 rfl rfl rfl ?_
      obtain ⟨hc, hT⟩ := hT
      refine c_cast (K := 30) dX6_some_72 q1542 hc hW ?_
      refine x_astore (lo' := [some (.ref (w.1 6)), some (.ref x1), some (.ref x2), some (.int x3), some (.int y2), some (.ref x1), none, none]) dX6_some_75 (Nat.le_of_ble_eq_true rfl) rfl rfl ?_
      refine x_iload dX6_some_77 rfl ?_
      obtain ⟨hn, hT⟩ := hT
      obtain ⟨hb, hr, hT⟩ := hT
      refine c_anewarrayG (t := 11) dX6_some_79 (by decide) (by decide) (by decide) rfl q1463 (Or.inr ⟨_, rfl, q1543⟩) hn hb hr hW hF ?_
      intro a7 f8 ea7 ef8 h hW hF
      replace hT := hT a7 f8 ea7 ef8
      refine x_astore (lo' := [some (.ref (w.1 6)), some (.ref x1), some (.ref x2), some (.int x3), some (.int y2), some (.ref x1), some (.ref a7), none]) dX6_some_82 (Nat.le_of_ble_eq_true rfl) rfl rfl ?_
      refine x_iconst (v := 0) dX6_some_84 rfl ?_
      refine x_istore (lo' := [some (.ref (w.1 6)), some (.ref x1), some (.ref x2), some (.int x3), some (.int y2), some (.ref x1), some (.ref a7), some (.int 0)]) dX6_some_85 (Nat.le_of_ble_eq_true rfl) rfl ?_
      refine Ex.wkl (lo' := [some (.ref (w.1 6)), none, some (.ref x2), some (.int x3), some (.int y2), some (.ref x1), some (.ref a7), some (.int 0)]) ⟨rfl, rfl, rfl, rfl, rfl, rfl, rfl, trivial⟩ ?_
      exact hT f0 h hW hF
    · replace hT := hT.2 hi6
      refine x_if_eq (tgt := 123) dX6_some_68 rfl (fun _ => ?_) (fun c => absurd c (by decide))
      refine x_iload dX6_some_123 rfl ?_
      obtain ⟨hn, hT⟩ := hT
      obtain ⟨hb, hr, hT⟩ := hT
      refine c_anewarrayG (t := 4) dX6_some_125 (by decide) (by decide) (by decide) rfl q337 (Or.inl ⟨_, rfl, q1551⟩) hn hb hr hW hF ?_
      intro a9 f10 ea9 ef10 h hW hF
      replace hT := hT a9 f10 ea9 ef10
      refine x_astore (lo' := [some (.ref (w.1 6)), some (.ref x1), some (.ref x2), some (.int x3), some (.int y2), some (.ref a9), none, none]) dX6_some_128 (Nat.le_of_ble_eq_true rfl) rfl rfl ?_
      refine x_iconst (v := 0) dX6_some_130 rfl ?_
      refine x_istore (lo' := [some (.ref (w.1 6)), some (.ref x1), some (.ref x2), some (.int x3), some (.int y2), some (.ref a9), some (.int 0), none]) dX6_some_131 (Nat.le_of_ble_eq_true rfl) rfl ?_
      exact hT f0 h hW hF
theorem eX6_some {l : Launch} {E : EN} {w : CO} {d : Nat} {s : CS} {f : RH} {Q : KO → CS → RH → Prop} {x1 : Nat} {x2 : Nat} {x3 : Int32}  (hst : l.stackTraces = false) (hT : (∃ t1 : Nat, tg f x2 = some (.inr t1) ∧ (∀ y2 : Int32, y2 = (nI (ln f x2)) → (isT f (.ref x1) ∧ ((tg f x1 = some (.inl 29) → (tg f x1 = some (.inl 29) ∧ (¬ y2 < 0 ∧ y2.toNatClampNeg ≤ 60000000 ∧ rmF E f 1 y2.toNatClampNeg ∧ ∀ (a4 : Nat) (f5 : RH), a4 = f.1 → f5 = fnewA f 0 y2.toNatClampNeg → ExC l E w (d + 1) MX6_some 26 [none, none, some (.ref x2), none, some (.int y2), some (.ref x1), some (.ref a4), some (.int 0)] [] s f5 Q))) ∧ (¬ tg f x1 = some (.inl 29) → (isT f (.ref x1) ∧ ((tg f x1 = some (.inl 30) → (tg f x1 = some (.inl 30) ∧ (¬ y2 < 0 ∧ y2.toNatClampNeg ≤ 60000000 ∧ rmF E f 1 y2.toNatClampNeg ∧ ∀ (a7 : Nat) (f8 : RH), a7 = f.1 → f8 = fnewA f 11 y2.toNatClampNeg → ExC l E w (d + 1) MX6_some 87 [some (.ref (w.1 6)), none, some (.ref x2), some (.int x3), some (.int y2), some (.ref x1), some (.ref a7), some (.int 0)] [] s f8 Q))) ∧ (¬ tg f x1 = some (.inl 30) → (¬ y2 < 0 ∧ y2.toNatClampNeg ≤ 60000000 ∧ rmF E f 1 y2.toNatClampNeg ∧ ∀ (a9 : Nat) (f10 : RH), a9 = f.1 → f10 = fnewA f 4 y2.toNatClampNeg → ExC l E w (d + 1) MX6_some 133 [some (.ref (w.1 6)), some (.ref x1), some (.ref x2), some (.int x3), some (.int y2), some (.ref a9), some (.int 0), none] [] s f10 Q)))))))))) : EvC l E w (d + 1) MX6_some [.ref (w.1 6), .ref x1, .ref x2, .int x3] s f Q :=
  EvC.of hst (by decide) (Nat.le_of_ble_eq_true rfl) (vX6_some_0  hT)
theorem vX6_some_26 {l : Launch} {E : EN} {w : CO} {d : Nat} {s : CS} {f : RH} {Q : KO → CS → RH → Prop} {b2 : Nat} {b4 : Int32} {b5 : Nat} {b6 : Nat} {b7 : Int32}  (hT : ((b4 ≤ b7 → (rmF E f 1 1 ∧ ∀ (a11 : Nat) (f12 : RH), a11 = f.1 → f12 = fnew f 29 → (EvC l E w d MX32_init [.ref a11, .ref b6] s f12 (fun o s13 f14 => KP o (fun r => r = none ∧ Q (.inl (some (.ref a11))) s13 f14) (fun k => Q (.inr k) s13 f14))))) ∧ (¬ b4 ≤ b7 → (oc f b5 29 ∧ (∃ a15 : Nat, vl f b5 203 = .ref a15 ∧ (tg f b2 = some (.inr 0) ∧ ((inB b7 (ln f b2) → (∃ v16 : Int32, vl f b2 b7.toNatClampNeg = .int v16 ∧ (tg f a15 = some (.inr 0) ∧ ((inB v16 (ln f a15) → (∃ v17 : Int32, vl f a15 v16.toNatClampNeg = .int v17 ∧ (tg f b6 = some (.inr 0) ∧ ((inB b7 (ln f b6) → (f.2.2.2 ≤ b6 ∧ ∀ f18 : RH, f18 = fset f b6 b7.toNatClampNeg (.int v17) → ExC l E w (d + 1) MX6_some 26 [none, none, some (.ref b2), none, some (.int b4), some (.ref b5), some (.ref b6), some (.int (b7 + 1))] [] s f18 Q)) ∧ (¬ inB b7 (ln f b6) → (ln f b6 < 2 ^ 31 ∧ rmF E f 3 222 ∧ (∀ (a20 : Nat) (f19 : RH), f19 = fexc f → Q (.inr 35) s f19))))))) ∧ (¬ inB v16 (ln f a15) → (ln f a15 < 2 ^ 31 ∧ rmF E f 3 222 ∧ (∀ (a22 : Nat) (f21 : RH), f21 = fexc f → Q (.inr 35) s f21))))))) ∧ (¬ inB b7 (ln f b2) → (ln f b2 < 2 ^ 31 ∧ rmF E f 3 222 ∧ (∀ (a24 : Nat) (f23 : RH), f23 = fexc f → Q (.inr 35) s f23)))))))))) : ExC l E w (d + 1) MX6_some 26 [none, none, some (.ref b2), none, some (.int b4), some (.ref b5), some (.ref b6), some (.int b7)] [] s f Q := by
  intro f0 h hW hF
  refine x_iload dX6_some_26 rfl ?_
  refine x_iload dX6_some_28 rfl ?_
  refine x_icmp_ge (tgt := 54) dX6_some_30 rfl (fun c => ?_) (fun c => ?_)
  · replace hT := hT.1 c
    obtain ⟨hr, hT⟩ := hT
    refine c_newG (k := 29) dX6_some_54 (by decide) q1540 q205 hr hW hF ?_
    intro a11 f12 ea11 ef12 h hW hF
    replace hT := hT a11 f12 ea11 ef12
    refine x_dup dX6_some_57 rfl ?_
    refine x_aload dX6_some_58 rfl rfl ?_
    refine c_invI (b := a11) (vs := [.ref b6]) dX6_some_60 oX32_init rfl rfl rfl q1396 (Or.inl q1541) rfl rfl (Nat.le_of_ble_eq_true rfl) rfl hW hF hT ?_ ?_
    · intro _ s13 f14 hT h hW hF
      obtain ⟨rfl, hT⟩ := hT
      exact x_aret dX6_some_63 rfl (by first | exact Or.inl ⟨_, rfl⟩ | exact Or.inr ⟨_, rfl⟩) rfl ⟨_, _, hW, hF, Or.inl ⟨_, rfl, hT⟩⟩
    · intro k s13 f14 hT h a hW hx hF
      exact c_out (rfl) hW hx hF hT
  · replace hT := hT.2 c
    refine x_aload dX6_some_33 rfl rfl ?_
    refine x_iload dX6_some_35 rfl ?_
    refine x_aload dX6_some_37 rfl rfl ?_
    obtain ⟨hc, hT⟩ := hT
    obtain ⟨a15, ev, hT⟩ := hT
    refine c_fgetG dX6_some_39 f_TallySlate_Maker_60 hc (by decide) (by decide) hW ev ?_
    refine x_aload_n dX6_some_42 rfl rfl rfl ?_
    refine x_iload dX6_some_43 rfl ?_
    obtain ⟨hc, hT⟩ := hT
    by_cases hb : inB b7 (ln f b2)
    · replace hT := hT.1 hb
      obtain ⟨v16, ev, hT⟩ := hT
      refine c_fiald dX6_some_45 hc hb hW ev ?_
      obtain ⟨hc, hT⟩ := hT
      by_cases hb : inB v16 (ln f a15)
      · replace hT := hT.1 hb
        obtain ⟨v17, ev, hT⟩ := hT
        refine c_fiald dX6_some_46 hc hb hW ev ?_
        obtain ⟨hc, hT⟩ := hT
        by_cases hb : inB b7 (ln f b6)
        · obtain ⟨hz, hT⟩ := hT.1 hb
          refine c_fiastG dX6_some_47 hc hb hz hW hF ?_
          intro f18 ef18 h hW hF
          replace hT := hT f18 ef18
          refine x_iinc (lo' := [none, none, some (.ref b2), none, some (.int b4), some (.ref b5), some (.ref b6), some (.int (b7 + 1))]) dX6_some_48 rfl (show _ = (b7 + 1) from rfl) rfl ?_
          refine x_goto (tgt := 26) dX6_some_51 rfl ?_
          exact hT f0 h hW hF
        · obtain ⟨hn, hr, hT⟩ := hT.2 hb
          refine c_fiastX dX6_some_47 hc hn hb hr (Nat.le_of_ble_eq_true rfl) rfl hW hF ?_
          intro f19 ef19 h a20 hW hx hF
          replace hT := hT a20 f19 ef19
          exact c_out (rfl) hW hx hF hT
      · obtain ⟨hn, hr, hT⟩ := hT.2 hb
        refine c_fialdX dX6_some_46 hc hn hb hr (Nat.le_of_ble_eq_true rfl) rfl hW hF ?_
        intro f21 ef21 h a22 hW hx hF
        replace hT := hT a22 f21 ef21
        exact c_out (rfl) hW hx hF hT
    · obtain ⟨hn, hr, hT⟩ := hT.2 hb
      refine c_fialdX dX6_some_45 hc hn hb hr (Nat.le_of_ble_eq_true rfl) rfl hW hF ?_
      intro f23 ef23 h a24 hW hx hF
      replace hT := hT a24 f23 ef23
      exact c_out (rfl) hW hx hF hT
theorem vX6_some_87 {l : Launch} {E : EN} {w : CO} {d : Nat} {s : CS} {f : RH} {Q : KO → CS → RH → Prop} {b2 : Nat} {b3 : Int32} {b4 : Int32} {b5 : Nat} {b6 : Nat} {b7 : Int32}  (hT : ((b4 ≤ b7 → (EvC l E w d MX6_table [.ref (w.1 6), .ref b6, .int b3] s f (fun o s25 f26 => KP o (fun r => ∃ a27 : Nat, r = some (.ref a27) ∧ Q (.inl (some (.ref a27))) s25 f26) (fun k => Q (.inr k) s25 f26)))) ∧ (¬ b4 ≤ b7 → (oc f b5 30 ∧ (∃ a28 : Nat, vl f b5 204 = .ref a28 ∧ (tg f b2 = some (.inr 0) ∧ ((inB b7 (ln f b2) → (∃ v29 : Int32, vl f b2 b7.toNatClampNeg = .int v29 ∧ (∃ t30 : Nat, 4 ≤ t30 ∧ (tg f a28 = some (.inr t30) ∧ ((inB v29 (ln f a28) → (∃ a31 : Nat, vl f a28 v29.toNatClampNeg = .ref a31 ∧ (tg f b6 = some (.inr 11) ∧ tg f a31 = some (.inr 0) ∧ ez E ≤ a31 ∧ ((inB b7 (ln f b6) → (f.2.2.2 ≤ b6 ∧ ∀ f32 : RH, f32 = fset f b6 b7.toNatClampNeg (.ref a31) → ExC l E w (d + 1) MX6_some 87 [some (.ref (w.1 6)), none, some (.ref b2), some (.int b3), some (.int b4), some (.ref b5), some (.ref b6), some (.int (b7 + 1))] [] s f32 Q)) ∧ (¬ inB b7 (ln f b6) → (ln f b6 < 2 ^ 31 ∧ rmF E f 3 222 ∧ (∀ (a34 : Nat) (f33 : RH), f33 = fexc f → Q (.inr 35) s f33))))))) ∧ (¬ inB v29 (ln f a28) → (ln f a28 < 2 ^ 31 ∧ rmF E f 3 222 ∧ (∀ (a36 : Nat) (f35 : RH), f35 = fexc f → Q (.inr 35) s f35)))))))) ∧ (¬ inB b7 (ln f b2) → (ln f b2 < 2 ^ 31 ∧ rmF E f 3 222 ∧ (∀ (a38 : Nat) (f37 : RH), f37 = fexc f → Q (.inr 35) s f37)))))))))) : ExC l E w (d + 1) MX6_some 87 [some (.ref (w.1 6)), none, some (.ref b2), some (.int b3), some (.int b4), some (.ref b5), some (.ref b6), some (.int b7)] [] s f Q := by
  intro f0 h hW hF
  refine x_iload dX6_some_87 rfl ?_
  refine x_iload dX6_some_89 rfl ?_
  refine x_icmp_ge (tgt := 115) dX6_some_91 rfl (fun c => ?_) (fun c => ?_)
  · replace hT := hT.1 c
    refine x_aload_n dX6_some_115 rfl rfl rfl ?_
    refine x_aload dX6_some_116 rfl rfl ?_
    refine x_iload_n dX6_some_118 rfl rfl ?_
    obtain ⟨-, -, cc, hcc, -⟩ := hW.ob 6 (by decide)
    refine c_invV (vs := [.ref b6, .int b3]) dX6_some_119 oX6_table q1545 q1544 hcc q1546 (Or.inl rfl) rfl rfl (Nat.le_of_ble_eq_true rfl) rfl hW hF hT ?_ ?_
    · intro _ s25 f26 hT h hW hF
      obtain ⟨a27, rfl, hT⟩ := hT
      exact x_aret dX6_some_122 rfl (by first | exact Or.inl ⟨_, rfl⟩ | exact Or.inr ⟨_, rfl⟩) rfl ⟨_, _, hW, hF, Or.inl ⟨_, rfl, hT⟩⟩
    · intro k s25 f26 hT h a hW hx hF
      exact c_out (rfl) hW hx hF hT
  · replace hT := hT.2 c
    refine x_aload dX6_some_94 rfl rfl ?_
    refine x_iload dX6_some_96 rfl ?_
    refine x_aload dX6_some_98 rfl rfl ?_
    obtain ⟨hc, hT⟩ := hT
    obtain ⟨a28, ev, hT⟩ := hT
    refine c_fgetG dX6_some_100 f_TallySlate_Maker_123 hc (by decide) (by decide) hW ev ?_
    refine x_aload_n dX6_some_103 rfl rfl rfl ?_
    refine x_iload dX6_some_104 rfl ?_
    obtain ⟨hc, hT⟩ := hT
    by_cases hb : inB b7 (ln f b2)
    · replace hT := hT.1 hb
      obtain ⟨v29, ev, hT⟩ := hT
      refine c_fiald dX6_some_106 hc hb hW ev ?_
      obtain ⟨t30, ht2, hc, hT⟩ := hT
      by_cases hb : inB v29 (ln f a28)
      · replace hT := hT.1 hb
        obtain ⟨a31, ev, hT⟩ := hT
        refine c_faald dX6_some_107 hc ht2 hb hW ev ?_
        obtain ⟨hc, hv, hzb, hT⟩ := hT
        by_cases hb : inB b7 (ln f b6)
        · obtain ⟨hz, hT⟩ := hT.1 hb
          refine c_faastAG dX6_some_108 hc hv hzb hb hz hW hF ?_
          intro f32 ef32 h hW hF
          replace hT := hT f32 ef32
          refine x_iinc (lo' := [some (.ref (w.1 6)), none, some (.ref b2), some (.int b3), some (.int b4), some (.ref b5), some (.ref b6), some (.int (b7 + 1))]) dX6_some_109 rfl (show _ = (b7 + 1) from rfl) rfl ?_
          refine x_goto (tgt := 87) dX6_some_112 rfl ?_
          exact hT f0 h hW hF
        · obtain ⟨hn, hr, hT⟩ := hT.2 hb
          refine c_faastX dX6_some_108 rfl hc hn hb hr (Nat.le_of_ble_eq_true rfl) rfl hW hF ?_
          intro f33 ef33 h a34 hW hx hF
          replace hT := hT a34 f33 ef33
          exact c_out (rfl) hW hx hF hT
      · obtain ⟨hn, hr, hT⟩ := hT.2 hb
        refine c_faaldX dX6_some_107 hc hn hb hr (Nat.le_of_ble_eq_true rfl) rfl hW hF ?_
        intro f35 ef35 h a36 hW hx hF
        replace hT := hT a36 f35 ef35
        exact c_out (rfl) hW hx hF hT
    · obtain ⟨hn, hr, hT⟩ := hT.2 hb
      refine c_fialdX dX6_some_106 hc hn hb hr (Nat.le_of_ble_eq_true rfl) rfl hW hF ?_
      intro f37 ef37 h a38 hW hx hF
      replace hT := hT a38 f37 ef37
      exact c_out (rfl) hW hx hF hT
theorem vX6_some_133 {l : Launch} {E : EN} {w : CO} {d : Nat} {s : CS} {f : RH} {Q : KO → CS → RH → Prop} {b1 : Nat} {b2 : Nat} {b3 : Int32} {b4 : Int32} {b5 : Nat} {b6 : Int32}  (hT : ((b4 ≤ b6 → (EvC l E w d MX6_pack [.ref (w.1 6), .ref b5, .int b3] s f (fun o s39 f40 => KP o (fun r => ∃ a41 : Nat, r = some (.ref a41) ∧ Q (.inl (some (.ref a41))) s39 f40) (fun k => Q (.inr k) s39 f40)))) ∧ (¬ b4 ≤ b6 → (tg f b1 = some (.inl 31) ∧ (oc f b1 31 ∧ (∃ a42 : Nat, vl f b1 206 = .ref a42 ∧ (tg f b2 = some (.inr 0) ∧ ((inB b6 (ln f b2) → (∃ v43 : Int32, vl f b2 b6.toNatClampNeg = .int v43 ∧ (∃ t44 : Nat, 4 ≤ t44 ∧ (tg f a42 = some (.inr t44) ∧ ((inB v43 (ln f a42) → (∃ a45 : Nat, vl f a42 v43.toNatClampNeg = .ref a45 ∧ (∃ k47 : Nat, (tg f b5 = some (.inr 4) ∧ tg f a45 = some (.inl k47) ∧ k47 ∈ CKs 4 ∧ ((inB b6 (ln f b5) → (f.2.2.2 ≤ b5 ∧ ∀ f46 : RH, f46 = fset f b5 b6.toNatClampNeg (.ref a45) → ExC l E w (d + 1) MX6_some 133 [some (.ref (w.1 6)), some (.ref b1), some (.ref b2), some (.int b3), some (.int b4), some (.ref b5), some (.int (b6 + 1)), none] [] s f46 Q)) ∧ (¬ inB b6 (ln f b5) → (ln f b5 < 2 ^ 31 ∧ rmF E f 3 222 ∧ (∀ (a49 : Nat) (f48 : RH), f48 = fexc f → Q (.inr 35) s f48)))))))) ∧ (¬ inB v43 (ln f a42) → (ln f a42 < 2 ^ 31 ∧ rmF E f 3 222 ∧ (∀ (a51 : Nat) (f50 : RH), f50 = fexc f → Q (.inr 35) s f50)))))))) ∧ (¬ inB b6 (ln f b2) → (ln f b2 < 2 ^ 31 ∧ rmF E f 3 222 ∧ (∀ (a53 : Nat) (f52 : RH), f52 = fexc f → Q (.inr 35) s f52))))))))))) : ExC l E w (d + 1) MX6_some 133 [some (.ref (w.1 6)), some (.ref b1), some (.ref b2), some (.int b3), some (.int b4), some (.ref b5), some (.int b6), none] [] s f Q := by
  intro f0 h hW hF
  refine x_iload dX6_some_133 rfl ?_
  refine x_iload dX6_some_135 rfl ?_
  refine x_icmp_ge (tgt := 163) dX6_some_137 rfl (fun c => ?_) (fun c => ?_)
  · replace hT := hT.1 c
    refine x_aload_n dX6_some_163 rfl rfl rfl ?_
    refine x_aload dX6_some_164 rfl rfl ?_
    refine x_iload_n dX6_some_166 rfl rfl ?_
    obtain ⟨-, -, cc, hcc, -⟩ := hW.ob 6 (by decide)
    refine c_invV (vs := [.ref b5, .int b3]) dX6_some_167 oX6_pack q1554 q1553 hcc q1555 (Or.inl rfl) rfl rfl (Nat.le_of_ble_eq_true rfl) rfl hW hF hT ?_ ?_
    · intro _ s39 f40 hT h hW hF
      obtain ⟨a41, rfl, hT⟩ := hT
      exact x_aret dX6_some_170 rfl (by first | exact Or.inl ⟨_, rfl⟩ | exact Or.inr ⟨_, rfl⟩) rfl ⟨_, _, hW, hF, Or.inl ⟨_, rfl, hT⟩⟩
    · intro k s39 f40 hT h a hW hx hF
      exact c_out (rfl) hW hx hF hT
  · replace hT := hT.2 c
    refine x_aload dX6_some_140 rfl rfl ?_
    refine x_iload dX6_some_142 rfl ?_
    refine x_aload_n dX6_some_144 rfl rfl rfl ?_
    obtain ⟨hc, hT⟩ := hT
    refine c_cast (K := 31) dX6_some_145 q1552 hc hW ?_
    obtain ⟨hc, hT⟩ := hT
    obtain ⟨a42, ev, hT⟩ := hT
    refine c_fgetG dX6_some_148 f_TallySlate_Maker_125 hc (by decide) (by decide) hW ev ?_
    refine x_aload_n dX6_some_151 rfl rfl rfl ?_
    refine x_iload dX6_some_152 rfl ?_
    obtain ⟨hc, hT⟩ := hT
    by_cases hb : inB b6 (ln f b2)
    · replace hT := hT.1 hb
      obtain ⟨v43, ev, hT⟩ := hT
      refine c_fiald dX6_some_154 hc hb hW ev ?_
      obtain ⟨t44, ht2, hc, hT⟩ := hT
      by_cases hb : inB v43 (ln f a42)
      · replace hT := hT.1 hb
        obtain ⟨a45, ev, hT⟩ := hT
        refine c_faald dX6_some_155 hc ht2 hb hW ev ?_
        obtain ⟨k47, hc, hv, hck, hT⟩ := hT
        by_cases hb : inB b6 (ln f b5)
        · obtain ⟨hz, hT⟩ := hT.1 hb
          refine c_faastG dX6_some_156 hc (by decide) hv hck hb hz hW hF ?_
          intro f46 ef46 h hW hF
          replace hT := hT f46 ef46
          refine x_iinc (lo' := [some (.ref (w.1 6)), some (.ref b1), some (.ref b2), some (.int b3), some (.int b4), some (.ref b5), some (.int (b6 + 1)), none]) dX6_some_157 rfl (show _ = (b6 + 1) from rfl) rfl ?_
          refine x_goto (tgt := 133) dX6_some_160 rfl ?_
          exact hT f0 h hW hF
        · obtain ⟨hn, hr, hT⟩ := hT.2 hb
          refine c_faastX dX6_some_156 rfl hc hn hb hr (Nat.le_of_ble_eq_true rfl) rfl hW hF ?_
          intro f48 ef48 h a49 hW hx hF
          replace hT := hT a49 f48 ef48
          exact c_out (rfl) hW hx hF hT
      · obtain ⟨hn, hr, hT⟩ := hT.2 hb
        refine c_faaldX dX6_some_155 hc hn hb hr (Nat.le_of_ble_eq_true rfl) rfl hW hF ?_
        intro f50 ef50 h a51 hW hx hF
        replace hT := hT a51 f50 ef50
        exact c_out (rfl) hW hx hF hT
    · obtain ⟨hn, hr, hT⟩ := hT.2 hb
      refine c_fialdX dX6_some_154 hc hn hb hr (Nat.le_of_ble_eq_true rfl) rfl hW hF ?_
      intro f52 ef52 h a53 hW hx hF
      replace hT := hT a53 f52 ef52
      exact c_out (rfl) hW hx hF hT
theorem vX6_table_0 {l : Launch} {E : EN} {w : CO} {d : Nat} {s : CS} {f : RH} {Q : KO → CS → RH → Prop} {x1 : Nat} {x2 : Int32}  (hT : (rmF E f 1 2 ∧ ∀ (a1 : Nat) (f2 : RH), a1 = f.1 → f2 = fnew f 30 → (EvC l E w d MX33_init [.ref a1, .ref x1] s f2 (fun o s3 f4 => KP o (fun r => r = none ∧ (∃ t5 : Nat, tg f4 x1 = some (.inr t5) ∧ ((20 < (nI (ln f4 x1)) → (EvC l E w d MX3_wrong [.ref (w.1 3), .int 2, .int x2] s3 f4 (fun o s6 f7 => KP o (fun r => r = some (.ref (w.1 9)) ∧ Q (.inr 9) s6 f7) (fun k => Q (.inr k) s6 f7)))) ∧ (¬ 20 < (nI (ln f4 x1)) → (oc f4 a1 30 ∧ EvC l E w d MX33_ints [.ref a1] s3 f4 (fun o s8 f9 => KP o (fun r => ∃ v10 : Int32, r = some (.int v10) ∧ ((v10 ≤ 200 → Q (.inl (some (.ref a1))) s8 f9) ∧ (¬ v10 ≤ 200 → (EvC l E w d MX3_wrong [.ref (w.1 3), .int 2, .int x2] s8 f9 (fun o s11 f12 => KP o (fun r => r = some (.ref (w.1 9)) ∧ Q (.inr 9) s11 f12) (fun k => Q (.inr k) s11 f12)))))) (fun k => Q (.inr k) s8 f9))))))) (fun k => Q (.inr k) s3 f4))))) : ExC l E w (d + 1) MX6_table 0 [some (.ref (w.1 6)), some (.ref x1), some (.int x2), none] [] s f Q := by
  intro f0 h hW hF
  obtain ⟨hr, hT⟩ := hT
  refine c_newG (k := 30) dX6_table_0 (by decide) q1542 q206 hr hW hF ?_
  intro a1 f2 ea1 ef2 h hW hF
  replace hT := hT a1 f2 ea1 ef2
  refine x_dup dX6_table_3 rfl ?_
  refine x_aload_n dX6_table_4 rfl rfl rfl ?_
  refine c_invI (b := a1) (vs := [.ref x1]) dX6_table_5 oX33_init rfl rfl rfl q1469 (Or.inl q1548) rfl rfl (Nat.le_of_ble_eq_true rfl) rfl hW hF hT ?_ ?_
  · intro _ s3 f4 hT h hW hF
    obtain ⟨rfl, hT⟩ := hT
    refine x_astore_n (lo' := [some (.ref (w.1 6)), some (.ref x1), some (.int x2), some (.ref a1)]) dX6_table_8 rfl (Nat.le_of_ble_eq_true rfl) rfl rfl ?_
    refine x_aload_n dX6_table_9 rfl rfl rfl ?_
    obtain ⟨t5, hc, hT⟩ := hT
    refine c_alen dX6_table_10 hc hW ?_
    refine x_bipush (v := 20) dX6_table_11 rfl ?_
    refine x_icmp_gt (tgt := 26) dX6_table_13 rfl (fun c => ?_) (fun c => ?_)
    · replace hT := hT.1 c
      refine x_aload_n dX6_table_26 rfl rfl rfl ?_
      refine c_getO dX6_table_27 f_TallySlate_Maker_9 (by decide) (by decide) rfl hW ?_
      refine x_iconst (v := 2) dX6_table_30 rfl ?_
      refine x_iload_n dX6_table_31 rfl rfl ?_
      obtain ⟨-, -, cc, hcc, -⟩ := hW.ob 3 (by decide)
      refine c_invV (vs := [.int 2, .int x2]) dX6_table_32 oX3_wrong q1323 q1550 hcc q1324 (Or.inl rfl) rfl rfl (Nat.le_of_ble_eq_true rfl) rfl hW hF hT ?_ ?_
      · intro _ s6 f7 hT h hW hF
        obtain ⟨rfl, hT⟩ := hT
        refine x_athrow dX6_table_35 ?_
        exact c_out (rfl) hW (Or.inl ⟨rfl, rfl⟩) hF hT
      · intro k s6 f7 hT h a hW hx hF
        exact c_out (rfl) hW hx hF hT
    · replace hT := hT.2 c
      refine x_aload_n dX6_table_16 rfl rfl rfl ?_
      obtain ⟨hc, hT⟩ := hT
      obtain ⟨cc, hcc⟩ := hW.ocell hc
      refine c_invV (vs := []) dX6_table_17 oX33_ints q1428 q1549 hcc q1429 (Or.inl rfl) rfl rfl (Nat.le_of_ble_eq_true rfl) rfl hW hF hT ?_ ?_
      · intro _ s8 f9 hT h hW hF
        obtain ⟨v10, rfl, hT⟩ := hT
        refine x_sipush (v := 200) dX6_table_20 rfl ?_
        refine x_icmp_le (tgt := 36) dX6_table_23 rfl (fun c => ?_) (fun c => ?_)
        · replace hT := hT.1 c
          refine x_aload_n dX6_table_36 rfl rfl rfl ?_
          exact x_aret dX6_table_37 rfl (by first | exact Or.inl ⟨_, rfl⟩ | exact Or.inr ⟨_, rfl⟩) rfl ⟨_, _, hW, hF, Or.inl ⟨_, rfl, hT⟩⟩
        · replace hT := hT.2 c
          refine x_aload_n dX6_table_26 rfl rfl rfl ?_
          refine c_getO dX6_table_27 f_TallySlate_Maker_9 (by decide) (by decide) rfl hW ?_
          refine x_iconst (v := 2) dX6_table_30 rfl ?_
          refine x_iload_n dX6_table_31 rfl rfl ?_
          obtain ⟨-, -, cc, hcc, -⟩ := hW.ob 3 (by decide)
          refine c_invV (vs := [.int 2, .int x2]) dX6_table_32 oX3_wrong q1323 q1550 hcc q1324 (Or.inl rfl) rfl rfl (Nat.le_of_ble_eq_true rfl) rfl hW hF hT ?_ ?_
          · intro _ s11 f12 hT h hW hF
            obtain ⟨rfl, hT⟩ := hT
            refine x_athrow dX6_table_35 ?_
            exact c_out (rfl) hW (Or.inl ⟨rfl, rfl⟩) hF hT
          · intro k s11 f12 hT h a hW hx hF
            exact c_out (rfl) hW hx hF hT
      · intro k s8 f9 hT h a hW hx hF
        exact c_out (rfl) hW hx hF hT
  · intro k s3 f4 hT h a hW hx hF
    exact c_out (rfl) hW hx hF hT
theorem eX6_table {l : Launch} {E : EN} {w : CO} {d : Nat} {s : CS} {f : RH} {Q : KO → CS → RH → Prop} {x1 : Nat} {x2 : Int32}  (hst : l.stackTraces = false) (hT : (rmF E f 1 2 ∧ ∀ (a1 : Nat) (f2 : RH), a1 = f.1 → f2 = fnew f 30 → (EvC l E w d MX33_init [.ref a1, .ref x1] s f2 (fun o s3 f4 => KP o (fun r => r = none ∧ (∃ t5 : Nat, tg f4 x1 = some (.inr t5) ∧ ((20 < (nI (ln f4 x1)) → (EvC l E w d MX3_wrong [.ref (w.1 3), .int 2, .int x2] s3 f4 (fun o s6 f7 => KP o (fun r => r = some (.ref (w.1 9)) ∧ Q (.inr 9) s6 f7) (fun k => Q (.inr k) s6 f7)))) ∧ (¬ 20 < (nI (ln f4 x1)) → (oc f4 a1 30 ∧ EvC l E w d MX33_ints [.ref a1] s3 f4 (fun o s8 f9 => KP o (fun r => ∃ v10 : Int32, r = some (.int v10) ∧ ((v10 ≤ 200 → Q (.inl (some (.ref a1))) s8 f9) ∧ (¬ v10 ≤ 200 → (EvC l E w d MX3_wrong [.ref (w.1 3), .int 2, .int x2] s8 f9 (fun o s11 f12 => KP o (fun r => r = some (.ref (w.1 9)) ∧ Q (.inr 9) s11 f12) (fun k => Q (.inr k) s11 f12)))))) (fun k => Q (.inr k) s8 f9))))))) (fun k => Q (.inr k) s3 f4))))) : EvC l E w (d + 1) MX6_table [.ref (w.1 6), .ref x1, .int x2] s f Q :=
  EvC.of hst (by decide) (Nat.le_of_ble_eq_true rfl) (vX6_table_0  hT)
set_option maxHeartbeats 16000000 in
theorem vX6_pack_0 {l : Launch} {E : EN} {w : CO} {d : Nat} {s : CS} {f : RH} {Q : KO → CS → RH → Prop} {x1 : Nat} {x2 : Int32}  (hT : (rmF E f 1 3 ∧ ∀ (a1 : Nat) (f2 : RH), a1 = f.1 → f2 = fnew f 31 → (EvC l E w d MX34_init [.ref a1, .ref x1] s f2 (fun o s3 f4 => KP o (fun r => r = none ∧ (∃ t5 : Nat, tg f4 x1 = some (.inr t5) ∧ ((20 < (nI (ln f4 x1)) → (EvC l E w d MX3_wrong [.ref (w.1 3), .int 2, .int x2] s3 f4 (fun o s6 f7 => KP o (fun r => r = some (.ref (w.1 9)) ∧ Q (.inr 9) s6 f7) (fun k => Q (.inr k) s6 f7)))) ∧ (¬ 20 < (nI (ln f4 x1)) → (oc f4 a1 31 ∧ EvC l E w d MX34_depth [.ref a1] s3 f4 (fun o s8 f9 => KP o (fun r => ∃ v10 : Int32, r = some (.int v10) ∧ ((4 < v10 → (EvC l E w d MX3_wrong [.ref (w.1 3), .int 2, .int x2] s8 f9 (fun o s11 f12 => KP o (fun r => r = some (.ref (w.1 9)) ∧ Q (.inr 9) s11 f12) (fun k => Q (.inr k) s11 f12)))) ∧ (¬ 4 < v10 → (oc f9 a1 31 ∧ EvC l E w d MX34_bulk [.ref a1] s8 f9 (fun o s13 f14 => KP o (fun r => ∃ v15 : Int32, r = some (.int v15) ∧ ((v15 ≤ 600 → Q (.inl (some (.ref a1))) s13 f14) ∧ (¬ v15 ≤ 600 → (EvC l E w d MX3_wrong [.ref (w.1 3), .int 2, .int x2] s13 f14 (fun o s16 f17 => KP o (fun r => r = some (.ref (w.1 9)) ∧ Q (.inr 9) s16 f17) (fun k => Q (.inr k) s16 f17)))))) (fun k => Q (.inr k) s13 f14)))))) (fun k => Q (.inr k) s8 f9))))))) (fun k => Q (.inr k) s3 f4))))) : ExC l E w (d + 1) MX6_pack 0 [some (.ref (w.1 6)), some (.ref x1), some (.int x2), none] [] s f Q := by
  intro f0 h hW hF
  obtain ⟨hr, hT⟩ := hT
  refine c_newG (k := 31) dX6_pack_0 (by decide) q1552 q209 hr hW hF ?_
  intro a1 f2 ea1 ef2 h hW hF
  replace hT := hT a1 f2 ea1 ef2
  refine x_dup dX6_pack_3 rfl ?_
  refine x_aload_n dX6_pack_4 rfl rfl rfl ?_
  refine c_invI (b := a1) (vs := [.ref x1]) dX6_pack_5 oX34_init rfl rfl rfl q1559 (Or.inl q1558) rfl rfl (Nat.le_of_ble_eq_true rfl) rfl hW hF hT ?_ ?_
  · intro _ s3 f4 hT h hW hF
    obtain ⟨rfl, hT⟩ := hT
    refine x_astore_n (lo' := [some (.ref (w.1 6)), some (.ref x1), some (.int x2), some (.ref a1)]) dX6_pack_8 rfl (Nat.le_of_ble_eq_true rfl) rfl rfl ?_
    refine x_aload_n dX6_pack_9 rfl rfl rfl ?_
    obtain ⟨t5, hc, hT⟩ := hT
    refine c_alen dX6_pack_10 hc hW ?_
    refine x_bipush (v := 20) dX6_pack_11 rfl ?_
    refine x_icmp_gt (tgt := 34) dX6_pack_13 rfl (fun c => ?_) (fun c => ?_)
    · replace hT := hT.1 c
      refine x_aload_n dX6_pack_34 rfl rfl rfl ?_
      refine c_getO dX6_pack_35 f_TallySlate_Maker_9 (by decide) (by decide) rfl hW ?_
      refine x_iconst (v := 2) dX6_pack_38 rfl ?_
      refine x_iload_n dX6_pack_39 rfl rfl ?_
      obtain ⟨-, -, cc, hcc, -⟩ := hW.ob 3 (by decide)
      refine c_invV (vs := [.int 2, .int x2]) dX6_pack_40 oX3_wrong q1323 q1550 hcc q1324 (Or.inl rfl) rfl rfl (Nat.le_of_ble_eq_true rfl) rfl hW hF hT ?_ ?_
      · intro _ s6 f7 hT h hW hF
        obtain ⟨rfl, hT⟩ := hT
        refine x_athrow dX6_pack_43 ?_
        exact c_out (rfl) hW (Or.inl ⟨rfl, rfl⟩) hF hT
      · intro k s6 f7 hT h a hW hx hF
        exact c_out (rfl) hW hx hF hT
    · replace hT := hT.2 c
      refine x_aload_n dX6_pack_16 rfl rfl rfl ?_
      obtain ⟨hc, hT⟩ := hT
      obtain ⟨cc, hcc⟩ := hW.ocell hc
      refine c_invV (vs := []) dX6_pack_17 oX34_depth q1566 q1602 hcc q3028 (Or.inl rfl) rfl rfl (Nat.le_of_ble_eq_true rfl) rfl hW hF hT ?_ ?_
      · intro _ s8 f9 hT h hW hF
        obtain ⟨v10, rfl, hT⟩ := hT
        refine x_iconst (v := 4) dX6_pack_20 rfl ?_
        refine x_icmp_gt (tgt := 34) dX6_pack_21 rfl (fun c => ?_) (fun c => ?_)
        · replace hT := hT.1 c
          refine x_aload_n dX6_pack_34 rfl rfl rfl ?_
          refine c_getO dX6_pack_35 f_TallySlate_Maker_9 (by decide) (by decide) rfl hW ?_
          refine x_iconst (v := 2) dX6_pack_38 rfl ?_
          refine x_iload_n dX6_pack_39 rfl rfl ?_
          obtain ⟨-, -, cc, hcc, -⟩ := hW.ob 3 (by decide)
          refine c_invV (vs := [.int 2, .int x2]) dX6_pack_40 oX3_wrong q1323 q1550 hcc q1324 (Or.inl rfl) rfl rfl (Nat.le_of_ble_eq_true rfl) rfl hW hF hT ?_ ?_
          · intro _ s11 f12 hT h hW hF
            obtain ⟨rfl, hT⟩ := hT
            refine x_athrow dX6_pack_43 ?_
            exact c_out (rfl) hW (Or.inl ⟨rfl, rfl⟩) hF hT
          · intro k s11 f12 hT h a hW hx hF
            exact c_out (rfl) hW hx hF hT
        · replace hT := hT.2 c
          refine x_aload_n dX6_pack_24 rfl rfl rfl ?_
          obtain ⟨hc, hT⟩ := hT
          obtain ⟨cc, hcc⟩ := hW.ocell hc
          refine c_invV (vs := []) dX6_pack_25 oX34_bulk q1577 q1603 hcc q3029 (Or.inl rfl) rfl rfl (Nat.le_of_ble_eq_true rfl) rfl hW hF hT ?_ ?_
          · intro _ s13 f14 hT h hW hF
            obtain ⟨v15, rfl, hT⟩ := hT
            refine x_sipush (v := 600) dX6_pack_28 rfl ?_
            refine x_icmp_le (tgt := 44) dX6_pack_31 rfl (fun c => ?_) (fun c => ?_)
            · replace hT := hT.1 c
              refine x_aload_n dX6_pack_44 rfl rfl rfl ?_
              exact x_aret dX6_pack_45 rfl (by first | exact Or.inl ⟨_, rfl⟩ | exact Or.inr ⟨_, rfl⟩) rfl ⟨_, _, hW, hF, Or.inl ⟨_, rfl, hT⟩⟩
            · replace hT := hT.2 c
              refine x_aload_n dX6_pack_34 rfl rfl rfl ?_
              refine c_getO dX6_pack_35 f_TallySlate_Maker_9 (by decide) (by decide) rfl hW ?_
              refine x_iconst (v := 2) dX6_pack_38 rfl ?_
              refine x_iload_n dX6_pack_39 rfl rfl ?_
              obtain ⟨-, -, cc, hcc, -⟩ := hW.ob 3 (by decide)
              refine c_invV (vs := [.int 2, .int x2]) dX6_pack_40 oX3_wrong q1323 q1550 hcc q1324 (Or.inl rfl) rfl rfl (Nat.le_of_ble_eq_true rfl) rfl hW hF hT ?_ ?_
              · intro _ s16 f17 hT h hW hF
                obtain ⟨rfl, hT⟩ := hT
                refine x_athrow dX6_pack_43 ?_
                exact c_out (rfl) hW (Or.inl ⟨rfl, rfl⟩) hF hT
              · intro k s16 f17 hT h a hW hx hF
                exact c_out (rfl) hW hx hF hT
          · intro k s13 f14 hT h a hW hx hF
            exact c_out (rfl) hW hx hF hT
      · intro k s8 f9 hT h a hW hx hF
        exact c_out (rfl) hW hx hF hT
  · intro k s3 f4 hT h a hW hx hF
    exact c_out (rfl) hW hx hF hT
theorem eX6_pack {l : Launch} {E : EN} {w : CO} {d : Nat} {s : CS} {f : RH} {Q : KO → CS → RH → Prop} {x1 : Nat} {x2 : Int32}  (hst : l.stackTraces = false) (hT : (rmF E f 1 3 ∧ ∀ (a1 : Nat) (f2 : RH), a1 = f.1 → f2 = fnew f 31 → (EvC l E w d MX34_init [.ref a1, .ref x1] s f2 (fun o s3 f4 => KP o (fun r => r = none ∧ (∃ t5 : Nat, tg f4 x1 = some (.inr t5) ∧ ((20 < (nI (ln f4 x1)) → (EvC l E w d MX3_wrong [.ref (w.1 3), .int 2, .int x2] s3 f4 (fun o s6 f7 => KP o (fun r => r = some (.ref (w.1 9)) ∧ Q (.inr 9) s6 f7) (fun k => Q (.inr k) s6 f7)))) ∧ (¬ 20 < (nI (ln f4 x1)) → (oc f4 a1 31 ∧ EvC l E w d MX34_depth [.ref a1] s3 f4 (fun o s8 f9 => KP o (fun r => ∃ v10 : Int32, r = some (.int v10) ∧ ((4 < v10 → (EvC l E w d MX3_wrong [.ref (w.1 3), .int 2, .int x2] s8 f9 (fun o s11 f12 => KP o (fun r => r = some (.ref (w.1 9)) ∧ Q (.inr 9) s11 f12) (fun k => Q (.inr k) s11 f12)))) ∧ (¬ 4 < v10 → (oc f9 a1 31 ∧ EvC l E w d MX34_bulk [.ref a1] s8 f9 (fun o s13 f14 => KP o (fun r => ∃ v15 : Int32, r = some (.int v15) ∧ ((v15 ≤ 600 → Q (.inl (some (.ref a1))) s13 f14) ∧ (¬ v15 ≤ 600 → (EvC l E w d MX3_wrong [.ref (w.1 3), .int 2, .int x2] s13 f14 (fun o s16 f17 => KP o (fun r => r = some (.ref (w.1 9)) ∧ Q (.inr 9) s16 f17) (fun k => Q (.inr k) s16 f17)))))) (fun k => Q (.inr k) s13 f14)))))) (fun k => Q (.inr k) s8 f9))))))) (fun k => Q (.inr k) s3 f4))))) : EvC l E w (d + 1) MX6_pack [.ref (w.1 6), .ref x1, .int x2] s f Q :=
  EvC.of hst (by decide) (Nat.le_of_ble_eq_true rfl) (vX6_pack_0  hT)
theorem vX6_rowOf_0 {l : Launch} {E : EN} {w : CO} {d : Nat} {s : CS} {f : RH} {Q : KO → CS → RH → Prop} {x1 : Int32} {x2 : Int32} {x3 : Int32}  (hT : ((x2 ≤ 64 → (¬ x2 < 0 ∧ x2.toNatClampNeg ≤ 60000000 ∧ rmF E f 1 x2.toNatClampNeg ∧ ∀ (a1 : Nat) (f2 : RH), a1 = f.1 → f2 = fnewA f 0 x2.toNatClampNeg → ExC l E w (d + 1) MX6_rowOf 24 [some (.ref (w.1 6)), some (.int x1), some (.int x2), none, some (.ref a1), some (.int 0)] [] s f2 Q)) ∧ (¬ x2 ≤ 64 → (EvC l E w d MX3_wrong [.ref (w.1 3), .int 2, .int x3] s f (fun o s3 f4 => KP o (fun r => r = some (.ref (w.1 9)) ∧ Q (.inr 9) s3 f4) (fun k => Q (.inr k) s3 f4)))))) : ExC l E w (d + 1) MX6_rowOf 0 [some (.ref (w.1 6)), some (.int x1), some (.int x2), some (.int x3), none, none] [] s f Q := by
  intro f0 h hW hF
  refine x_iload_n dX6_rowOf_0 rfl rfl ?_
  refine x_bipush (v := 64) dX6_rowOf_1 rfl ?_
  refine x_icmp_le (tgt := 16) dX6_rowOf_3 rfl (fun c => ?_) (fun c => ?_)
  · replace hT := hT.1 c
    refine x_iload_n dX6_rowOf_16 rfl rfl ?_
    obtain ⟨hn, hT⟩ := hT
    obtain ⟨hb, hr, hT⟩ := hT
    refine c_newarrayG (t := 0) dX6_rowOf_17 (by decide) rfl hn hb hr hW hF ?_
    intro a1 f2 ea1 ef2 h hW hF
    replace hT := hT a1 f2 ea1 ef2
    refine x_astore (lo' := [some (.ref (w.1 6)), some (.int x1), some (.int x2), some (.int x3), some (.ref a1), none]) dX6_rowOf_19 (Nat.le_of_ble_eq_true rfl) rfl rfl ?_
    refine x_iconst (v := 0) dX6_rowOf_21 rfl ?_
    refine x_istore (lo' := [some (.ref (w.1 6)), some (.int x1), some (.int x2), some (.int x3), some (.ref a1), some (.int 0)]) dX6_rowOf_22 (Nat.le_of_ble_eq_true rfl) rfl ?_
    refine Ex.wkl (lo' := [some (.ref (w.1 6)), some (.int x1), some (.int x2), none, some (.ref a1), some (.int 0)]) ⟨rfl, rfl, rfl, rfl, rfl, trivial⟩ ?_
    exact hT f0 h hW hF
  · replace hT := hT.2 c
    refine x_aload_n dX6_rowOf_6 rfl rfl rfl ?_
    refine c_getO dX6_rowOf_7 f_TallySlate_Maker_9 (by decide) (by decide) rfl hW ?_
    refine x_iconst (v := 2) dX6_rowOf_10 rfl ?_
    refine x_iload_n dX6_rowOf_11 rfl rfl ?_
    obtain ⟨-, -, cc, hcc, -⟩ := hW.ob 3 (by decide)
    refine c_invV (vs := [.int 2, .int x3]) dX6_rowOf_12 oX3_wrong q1323 q1550 hcc q1324 (Or.inl rfl) rfl rfl (Nat.le_of_ble_eq_true rfl) rfl hW hF hT ?_ ?_
    · intro _ s3 f4 hT h hW hF
      obtain ⟨rfl, hT⟩ := hT
      refine x_athrow dX6_rowOf_15 ?_
      exact c_out (rfl) hW (Or.inl ⟨rfl, rfl⟩) hF hT
    · intro k s3 f4 hT h a hW hx hF
      exact c_out (rfl) hW hx hF hT
theorem eX6_rowOf {l : Launch} {E : EN} {w : CO} {d : Nat} {s : CS} {f : RH} {Q : KO → CS → RH → Prop} {x1 : Int32} {x2 : Int32} {x3 : Int32}  (hst : l.stackTraces = false) (hT : ((x2 ≤ 64 → (¬ x2 < 0 ∧ x2.toNatClampNeg ≤ 60000000 ∧ rmF E f 1 x2.toNatClampNeg ∧ ∀ (a1 : Nat) (f2 : RH), a1 = f.1 → f2 = fnewA f 0 x2.toNatClampNeg → ExC l E w (d + 1) MX6_rowOf 24 [some (.ref (w.1 6)), some (.int x1), some (.int x2), none, some (.ref a1), some (.int 0)] [] s f2 Q)) ∧ (¬ x2 ≤ 64 → (EvC l E w d MX3_wrong [.ref (w.1 3), .int 2, .int x3] s f (fun o s3 f4 => KP o (fun r => r = some (.ref (w.1 9)) ∧ Q (.inr 9) s3 f4) (fun k => Q (.inr k) s3 f4)))))) : EvC l E w (d + 1) MX6_rowOf [.ref (w.1 6), .int x1, .int x2, .int x3] s f Q :=
  EvC.of hst (by decide) (Nat.le_of_ble_eq_true rfl) (vX6_rowOf_0  hT)
theorem vX6_rowOf_24 {l : Launch} {E : EN} {w : CO} {d : Nat} {s : CS} {f : RH} {Q : KO → CS → RH → Prop} {b1 : Int32} {b2 : Int32} {b4 : Nat} {b5 : Int32}  (hT : ((b2 ≤ b5 → (rmF E f 1 1 ∧ ∀ (a5 : Nat) (f6 : RH), a5 = f.1 → f6 = fnew f 29 → (EvC l E w d MX32_init [.ref a5, .ref b4] s f6 (fun o s7 f8 => KP o (fun r => r = none ∧ Q (.inl (some (.ref a5))) s7 f8) (fun k => Q (.inr k) s7 f8))))) ∧ (¬ b2 ≤ b5 → (inB (b1 + b5) 8400 ∧ (tg f b4 = some (.inr 0) ∧ inB b5 (ln f b4) ∧ f.2.2.2 ≤ b4 ∧ ∀ f9 : RH, f9 = fset f b4 b5.toNatClampNeg (.int (s.2.2.1 24 (b1 + b5).toNatClampNeg)) → ExC l E w (d + 1) MX6_rowOf 24 [some (.ref (w.1 6)), some (.int b1), some (.int b2), none, some (.ref b4), some (.int (b5 + 1))] [] s f9 Q))))) : ExC l E w (d + 1) MX6_rowOf 24 [some (.ref (w.1 6)), some (.int b1), some (.int b2), none, some (.ref b4), some (.int b5)] [] s f Q := by
  intro f0 h hW hF
  refine x_iload dX6_rowOf_24 rfl ?_
  refine x_iload_n dX6_rowOf_26 rfl rfl ?_
  refine x_icmp_ge (tgt := 53) dX6_rowOf_27 rfl (fun c => ?_) (fun c => ?_)
  · replace hT := hT.1 c
    obtain ⟨hr, hT⟩ := hT
    refine c_newG (k := 29) dX6_rowOf_53 (by decide) q1540 q205 hr hW hF ?_
    intro a5 f6 ea5 ef6 h hW hF
    replace hT := hT a5 f6 ea5 ef6
    refine x_dup dX6_rowOf_56 rfl ?_
    refine x_aload dX6_rowOf_57 rfl rfl ?_
    refine c_invI (b := a5) (vs := [.ref b4]) dX6_rowOf_59 oX32_init rfl rfl rfl q1396 (Or.inl q1541) rfl rfl (Nat.le_of_ble_eq_true rfl) rfl hW hF hT ?_ ?_
    · intro _ s7 f8 hT h hW hF
      obtain ⟨rfl, hT⟩ := hT
      exact x_aret dX6_rowOf_62 rfl (by first | exact Or.inl ⟨_, rfl⟩ | exact Or.inr ⟨_, rfl⟩) rfl ⟨_, _, hW, hF, Or.inl ⟨_, rfl, hT⟩⟩
    · intro k s7 f8 hT h a hW hx hF
      exact c_out (rfl) hW hx hF hT
  · replace hT := hT.2 c
    refine x_aload dX6_rowOf_30 rfl rfl ?_
    refine x_iload dX6_rowOf_32 rfl ?_
    refine x_aload_n dX6_rowOf_34 rfl rfl rfl ?_
    refine c_getO dX6_rowOf_35 f_TallySlate_Maker_9 (by decide) (by decide) rfl hW ?_
    refine c_getA dX6_rowOf_38 f_TallySlate_Maker_95 (by decide) (by decide) rfl hW ?_
    refine x_iload_n dX6_rowOf_41 rfl rfl ?_
    refine x_iload dX6_rowOf_42 rfl ?_
    refine x_iadd dX6_rowOf_44 ?_
    obtain ⟨hb, hT⟩ := hT
    refine c_iald (v := (s.2.2.1 24 (b1 + b5).toNatClampNeg)) dX6_rowOf_45 rfl hb hW rfl ?_
    obtain ⟨hc, hT⟩ := hT
    obtain ⟨hb, hz, hT⟩ := hT
    refine c_fiastG dX6_rowOf_46 hc hb hz hW hF ?_
    intro f9 ef9 h hW hF
    replace hT := hT f9 ef9
    refine x_iinc (lo' := [some (.ref (w.1 6)), some (.int b1), some (.int b2), none, some (.ref b4), some (.int (b5 + 1))]) dX6_rowOf_47 rfl (show _ = (b5 + 1) from rfl) rfl ?_
    refine x_goto (tgt := 24) dX6_rowOf_50 rfl ?_
    exact hT f0 h hW hF
theorem vX6_tableOf_0 {l : Launch} {E : EN} {w : CO} {d : Nat} {s : CS} {f : RH} {Q : KO → CS → RH → Prop} {x1 : Int32} {x2 : Int32} {x3 : Int32}  (hT : ((x2 ≤ 20 → (¬ x2 < 0 ∧ x2.toNatClampNeg ≤ 60000000 ∧ rmF E f 1 x2.toNatClampNeg ∧ ∀ (a1 : Nat) (f2 : RH), a1 = f.1 → f2 = fnewA f 11 x2.toNatClampNeg → ExC l E w (d + 1) MX6_tableOf 25 [some (.ref (w.1 6)), some (.int x1), some (.int x2), some (.int x3), some (.ref a1), some (.int 0)] [] s f2 Q)) ∧ (¬ x2 ≤ 20 → (EvC l E w d MX3_wrong [.ref (w.1 3), .int 2, .int x3] s f (fun o s3 f4 => KP o (fun r => r = some (.ref (w.1 9)) ∧ Q (.inr 9) s3 f4) (fun k => Q (.inr k) s3 f4)))))) : ExC l E w (d + 1) MX6_tableOf 0 [some (.ref (w.1 6)), some (.int x1), some (.int x2), some (.int x3), none, none] [] s f Q := by
  intro f0 h hW hF
  refine x_iload_n dX6_tableOf_0 rfl rfl ?_
  refine x_bipush (v := 20) dX6_tableOf_1 rfl ?_
  refine x_icmp_le (tgt := 16) dX6_tableOf_3 rfl (fun c => ?_) (fun c => ?_)
  · replace hT := hT.1 c
    refine x_iload_n dX6_tableOf_16 rfl rfl ?_
    obtain ⟨hn, hT⟩ := hT
    obtain ⟨hb, hr, hT⟩ := hT
    refine c_anewarrayG (t := 11) dX6_tableOf_17 (by decide) (by decide) (by decide) rfl q1463 (Or.inr ⟨_, rfl, q1543⟩) hn hb hr hW hF ?_
    intro a1 f2 ea1 ef2 h hW hF
    replace hT := hT a1 f2 ea1 ef2
    refine x_astore (lo' := [some (.ref (w.1 6)), some (.int x1), some (.int x2), some (.int x3), some (.ref a1), none]) dX6_tableOf_20 (Nat.le_of_ble_eq_true rfl) rfl rfl ?_
    refine x_iconst (v := 0) dX6_tableOf_22 rfl ?_
    refine x_istore (lo' := [some (.ref (w.1 6)), some (.int x1), some (.int x2), some (.int x3), some (.ref a1), some (.int 0)]) dX6_tableOf_23 (Nat.le_of_ble_eq_true rfl) rfl ?_
    exact hT f0 h hW hF
  · replace hT := hT.2 c
    refine x_aload_n dX6_tableOf_6 rfl rfl rfl ?_
    refine c_getO dX6_tableOf_7 f_TallySlate_Maker_9 (by decide) (by decide) rfl hW ?_
    refine x_iconst (v := 2) dX6_tableOf_10 rfl ?_
    refine x_iload_n dX6_tableOf_11 rfl rfl ?_
    obtain ⟨-, -, cc, hcc, -⟩ := hW.ob 3 (by decide)
    refine c_invV (vs := [.int 2, .int x3]) dX6_tableOf_12 oX3_wrong q1323 q1550 hcc q1324 (Or.inl rfl) rfl rfl (Nat.le_of_ble_eq_true rfl) rfl hW hF hT ?_ ?_
    · intro _ s3 f4 hT h hW hF
      obtain ⟨rfl, hT⟩ := hT
      refine x_athrow dX6_tableOf_15 ?_
      exact c_out (rfl) hW (Or.inl ⟨rfl, rfl⟩) hF hT
    · intro k s3 f4 hT h a hW hx hF
      exact c_out (rfl) hW hx hF hT
theorem eX6_tableOf {l : Launch} {E : EN} {w : CO} {d : Nat} {s : CS} {f : RH} {Q : KO → CS → RH → Prop} {x1 : Int32} {x2 : Int32} {x3 : Int32}  (hst : l.stackTraces = false) (hT : ((x2 ≤ 20 → (¬ x2 < 0 ∧ x2.toNatClampNeg ≤ 60000000 ∧ rmF E f 1 x2.toNatClampNeg ∧ ∀ (a1 : Nat) (f2 : RH), a1 = f.1 → f2 = fnewA f 11 x2.toNatClampNeg → ExC l E w (d + 1) MX6_tableOf 25 [some (.ref (w.1 6)), some (.int x1), some (.int x2), some (.int x3), some (.ref a1), some (.int 0)] [] s f2 Q)) ∧ (¬ x2 ≤ 20 → (EvC l E w d MX3_wrong [.ref (w.1 3), .int 2, .int x3] s f (fun o s3 f4 => KP o (fun r => r = some (.ref (w.1 9)) ∧ Q (.inr 9) s3 f4) (fun k => Q (.inr k) s3 f4)))))) : EvC l E w (d + 1) MX6_tableOf [.ref (w.1 6), .int x1, .int x2, .int x3] s f Q :=
  EvC.of hst (by decide) (Nat.le_of_ble_eq_true rfl) (vX6_tableOf_0  hT)
theorem vX6_tableOf_25 {l : Launch} {E : EN} {w : CO} {d : Nat} {s : CS} {f : RH} {Q : KO → CS → RH → Prop} {b1 : Int32} {b2 : Int32} {b3 : Int32} {b4 : Nat} {b5 : Int32}  (hT : ((b2 ≤ b5 → (EvC l E w d MX6_table [.ref (w.1 6), .ref b4, .int b3] s f (fun o s5 f6 => KP o (fun r => ∃ a7 : Nat, r = some (.ref a7) ∧ Q (.inl (some (.ref a7))) s5 f6) (fun k => Q (.inr k) s5 f6)))) ∧ (¬ b2 ≤ b5 → (inB (b1 + b5) 8400 ∧ ∃ v8 : Value, (s.2.2.2 25 (b1 + b5).toNatClampNeg) = v8 ∧ isR v8 = true ∧ (∃ a9 : Nat, v8 = .ref a9 ∧ (tg f a9 = some (.inl 29) ∧ (oc f a9 29 ∧ (∃ a10 : Nat, vl f a9 203 = .ref a10 ∧ (tg f b4 = some (.inr 11) ∧ tg f a10 = some (.inr 0) ∧ ez E ≤ a10 ∧ inB b5 (ln f b4) ∧ f.2.2.2 ≤ b4 ∧ ∀ f11 : RH, f11 = fset f b4 b5.toNatClampNeg (.ref a10) → ExC l E w (d + 1) MX6_tableOf 25 [some (.ref (w.1 6)), some (.int b1), some (.int b2), some (.int b3), some (.ref b4), some (.int (b5 + 1))] [] s f11 Q))))))))) : ExC l E w (d + 1) MX6_tableOf 25 [some (.ref (w.1 6)), some (.int b1), some (.int b2), some (.int b3), some (.ref b4), some (.int b5)] [] s f Q := by
  intro f0 h hW hF
  refine x_iload dX6_tableOf_25 rfl ?_
  refine x_iload_n dX6_tableOf_27 rfl rfl ?_
  refine x_icmp_ge (tgt := 60) dX6_tableOf_28 rfl (fun c => ?_) (fun c => ?_)
  · replace hT := hT.1 c
    refine x_aload_n dX6_tableOf_60 rfl rfl rfl ?_
    refine x_aload dX6_tableOf_61 rfl rfl ?_
    refine x_iload_n dX6_tableOf_63 rfl rfl ?_
    obtain ⟨-, -, cc, hcc, -⟩ := hW.ob 6 (by decide)
    refine c_invV (vs := [.ref b4, .int b3]) dX6_tableOf_64 oX6_table q1545 q1544 hcc q1546 (Or.inl rfl) rfl rfl (Nat.le_of_ble_eq_true rfl) rfl hW hF hT ?_ ?_
    · intro _ s5 f6 hT h hW hF
      obtain ⟨a7, rfl, hT⟩ := hT
      exact x_aret dX6_tableOf_67 rfl (by first | exact Or.inl ⟨_, rfl⟩ | exact Or.inr ⟨_, rfl⟩) rfl ⟨_, _, hW, hF, Or.inl ⟨_, rfl, hT⟩⟩
    · intro k s5 f6 hT h a hW hx hF
      exact c_out (rfl) hW hx hF hT
  · replace hT := hT.2 c
    refine x_aload dX6_tableOf_31 rfl rfl ?_
    refine x_iload dX6_tableOf_33 rfl ?_
    refine x_aload_n dX6_tableOf_35 rfl rfl rfl ?_
    refine c_getO dX6_tableOf_36 f_TallySlate_Maker_9 (by decide) (by decide) rfl hW ?_
    refine c_getA dX6_tableOf_39 f_TallySlate_Maker_98 (by decide) (by decide) rfl hW ?_
    refine x_iload_n dX6_tableOf_42 rfl rfl ?_
    refine x_iload dX6_tableOf_43 rfl ?_
    refine x_iadd dX6_tableOf_45 ?_
    obtain ⟨hb, v8, ev, iv8, hT⟩ := hT
    refine c_aald (v := v8) dX6_tableOf_46 rfl hb hW ev ?_
    obtain ⟨a9, rfl, hT⟩ := hT
    obtain ⟨hc, hT⟩ := hT
    refine c_cast (K := 29) dX6_tableOf_47 q1540 hc hW ?_
    obtain ⟨hc, hT⟩ := hT
    obtain ⟨a10, ev, hT⟩ := hT
    refine c_fgetG dX6_tableOf_50 f_TallySlate_Maker_60 hc (by decide) (by decide) hW ev ?_
    obtain ⟨hc, hv, hzb, hT⟩ := hT
    obtain ⟨hb, hz, hT⟩ := hT
    refine c_faastAG dX6_tableOf_53 hc hv hzb hb hz hW hF ?_
    intro f11 ef11 h hW hF
    replace hT := hT f11 ef11
    refine x_iinc (lo' := [some (.ref (w.1 6)), some (.int b1), some (.int b2), some (.int b3), some (.ref b4), some (.int (b5 + 1))]) dX6_tableOf_54 rfl (show _ = (b5 + 1) from rfl) rfl ?_
    refine x_goto (tgt := 25) dX6_tableOf_57 rfl ?_
    exact hT f0 h hW hF
theorem vX6_packOf_0 {l : Launch} {E : EN} {w : CO} {d : Nat} {s : CS} {f : RH} {Q : KO → CS → RH → Prop} {x1 : Int32} {x2 : Int32} {x3 : Int32}  (hT : ((x2 ≤ 20 → (¬ x2 < 0 ∧ x2.toNatClampNeg ≤ 60000000 ∧ rmF E f 1 x2.toNatClampNeg ∧ ∀ (a1 : Nat) (f2 : RH), a1 = f.1 → f2 = fnewA f 4 x2.toNatClampNeg → ExC l E w (d + 1) MX6_packOf 25 [some (.ref (w.1 6)), some (.int x1), some (.int x2), some (.int x3), some (.ref a1), some (.int 0)] [] s f2 Q)) ∧ (¬ x2 ≤ 20 → (EvC l E w d MX3_wrong [.ref (w.1 3), .int 2, .int x3] s f (fun o s3 f4 => KP o (fun r => r = some (.ref (w.1 9)) ∧ Q (.inr 9) s3 f4) (fun k => Q (.inr k) s3 f4)))))) : ExC l E w (d + 1) MX6_packOf 0 [some (.ref (w.1 6)), some (.int x1), some (.int x2), some (.int x3), none, none] [] s f Q := by
  intro f0 h hW hF
  refine x_iload_n dX6_packOf_0 rfl rfl ?_
  refine x_bipush (v := 20) dX6_packOf_1 rfl ?_
  refine x_icmp_le (tgt := 16) dX6_packOf_3 rfl (fun c => ?_) (fun c => ?_)
  · replace hT := hT.1 c
    refine x_iload_n dX6_packOf_16 rfl rfl ?_
    obtain ⟨hn, hT⟩ := hT
    obtain ⟨hb, hr, hT⟩ := hT
    refine c_anewarrayG (t := 4) dX6_packOf_17 (by decide) (by decide) (by decide) rfl q337 (Or.inl ⟨_, rfl, q1551⟩) hn hb hr hW hF ?_
    intro a1 f2 ea1 ef2 h hW hF
    replace hT := hT a1 f2 ea1 ef2
    refine x_astore (lo' := [some (.ref (w.1 6)), some (.int x1), some (.int x2), some (.int x3), some (.ref a1), none]) dX6_packOf_20 (Nat.le_of_ble_eq_true rfl) rfl rfl ?_
    refine x_iconst (v := 0) dX6_packOf_22 rfl ?_
    refine x_istore (lo' := [some (.ref (w.1 6)), some (.int x1), some (.int x2), some (.int x3), some (.ref a1), some (.int 0)]) dX6_packOf_23 (Nat.le_of_ble_eq_true rfl) rfl ?_
    exact hT f0 h hW hF
  · replace hT := hT.2 c
    refine x_aload_n dX6_packOf_6 rfl rfl rfl ?_
    refine c_getO dX6_packOf_7 f_TallySlate_Maker_9 (by decide) (by decide) rfl hW ?_
    refine x_iconst (v := 2) dX6_packOf_10 rfl ?_
    refine x_iload_n dX6_packOf_11 rfl rfl ?_
    obtain ⟨-, -, cc, hcc, -⟩ := hW.ob 3 (by decide)
    refine c_invV (vs := [.int 2, .int x3]) dX6_packOf_12 oX3_wrong q1323 q1550 hcc q1324 (Or.inl rfl) rfl rfl (Nat.le_of_ble_eq_true rfl) rfl hW hF hT ?_ ?_
    · intro _ s3 f4 hT h hW hF
      obtain ⟨rfl, hT⟩ := hT
      refine x_athrow dX6_packOf_15 ?_
      exact c_out (rfl) hW (Or.inl ⟨rfl, rfl⟩) hF hT
    · intro k s3 f4 hT h a hW hx hF
      exact c_out (rfl) hW hx hF hT
theorem eX6_packOf {l : Launch} {E : EN} {w : CO} {d : Nat} {s : CS} {f : RH} {Q : KO → CS → RH → Prop} {x1 : Int32} {x2 : Int32} {x3 : Int32}  (hst : l.stackTraces = false) (hT : ((x2 ≤ 20 → (¬ x2 < 0 ∧ x2.toNatClampNeg ≤ 60000000 ∧ rmF E f 1 x2.toNatClampNeg ∧ ∀ (a1 : Nat) (f2 : RH), a1 = f.1 → f2 = fnewA f 4 x2.toNatClampNeg → ExC l E w (d + 1) MX6_packOf 25 [some (.ref (w.1 6)), some (.int x1), some (.int x2), some (.int x3), some (.ref a1), some (.int 0)] [] s f2 Q)) ∧ (¬ x2 ≤ 20 → (EvC l E w d MX3_wrong [.ref (w.1 3), .int 2, .int x3] s f (fun o s3 f4 => KP o (fun r => r = some (.ref (w.1 9)) ∧ Q (.inr 9) s3 f4) (fun k => Q (.inr k) s3 f4)))))) : EvC l E w (d + 1) MX6_packOf [.ref (w.1 6), .int x1, .int x2, .int x3] s f Q :=
  EvC.of hst (by decide) (Nat.le_of_ble_eq_true rfl) (vX6_packOf_0  hT)
theorem vX6_packOf_25 {l : Launch} {E : EN} {w : CO} {d : Nat} {s : CS} {f : RH} {Q : KO → CS → RH → Prop} {b1 : Int32} {b2 : Int32} {b3 : Int32} {b4 : Nat} {b5 : Int32}  (hT : ((b2 ≤ b5 → (EvC l E w d MX6_pack [.ref (w.1 6), .ref b4, .int b3] s f (fun o s5 f6 => KP o (fun r => ∃ a7 : Nat, r = some (.ref a7) ∧ Q (.inl (some (.ref a7))) s5 f6) (fun k => Q (.inr k) s5 f6)))) ∧ (¬ b2 ≤ b5 → (EvC l E w d MX3_asThing [.ref (w.1 3), .int (b1 + b5)] s f (fun o s8 f9 => KP o (fun r => ∃ a10 : Nat, r = some (.ref a10) ∧ (∃ k12 : Nat, (tg f9 b4 = some (.inr 4) ∧ tg f9 a10 = some (.inl k12) ∧ k12 ∈ CKs 4 ∧ inB b5 (ln f9 b4) ∧ f9.2.2.2 ≤ b4 ∧ ∀ f11 : RH, f11 = fset f9 b4 b5.toNatClampNeg (.ref a10) → ExC l E w (d + 1) MX6_packOf 25 [some (.ref (w.1 6)), some (.int b1), some (.int b2), some (.int b3), some (.ref b4), some (.int (b5 + 1))] [] s8 f11 Q))) (fun k => Q (.inr k) s8 f9)))))) : ExC l E w (d + 1) MX6_packOf 25 [some (.ref (w.1 6)), some (.int b1), some (.int b2), some (.int b3), some (.ref b4), some (.int b5)] [] s f Q := by
  intro f0 h hW hF
  refine x_iload dX6_packOf_25 rfl ?_
  refine x_iload_n dX6_packOf_27 rfl rfl ?_
  refine x_icmp_ge (tgt := 53) dX6_packOf_28 rfl (fun c => ?_) (fun c => ?_)
  · replace hT := hT.1 c
    refine x_aload_n dX6_packOf_53 rfl rfl rfl ?_
    refine x_aload dX6_packOf_54 rfl rfl ?_
    refine x_iload_n dX6_packOf_56 rfl rfl ?_
    obtain ⟨-, -, cc, hcc, -⟩ := hW.ob 6 (by decide)
    refine c_invV (vs := [.ref b4, .int b3]) dX6_packOf_57 oX6_pack q1554 q1553 hcc q1555 (Or.inl rfl) rfl rfl (Nat.le_of_ble_eq_true rfl) rfl hW hF hT ?_ ?_
    · intro _ s5 f6 hT h hW hF
      obtain ⟨a7, rfl, hT⟩ := hT
      exact x_aret dX6_packOf_60 rfl (by first | exact Or.inl ⟨_, rfl⟩ | exact Or.inr ⟨_, rfl⟩) rfl ⟨_, _, hW, hF, Or.inl ⟨_, rfl, hT⟩⟩
    · intro k s5 f6 hT h a hW hx hF
      exact c_out (rfl) hW hx hF hT
  · replace hT := hT.2 c
    refine x_aload dX6_packOf_31 rfl rfl ?_
    refine x_iload dX6_packOf_33 rfl ?_
    refine x_aload_n dX6_packOf_35 rfl rfl rfl ?_
    refine c_getO dX6_packOf_36 f_TallySlate_Maker_9 (by decide) (by decide) rfl hW ?_
    refine x_iload_n dX6_packOf_39 rfl rfl ?_
    refine x_iload dX6_packOf_40 rfl ?_
    refine x_iadd dX6_packOf_42 ?_
    obtain ⟨-, -, cc, hcc, -⟩ := hW.ob 3 (by decide)
    refine c_invV (vs := [.int (b1 + b5)]) dX6_packOf_43 oX3_asThing q1661 q1660 hcc q1662 (Or.inl rfl) rfl rfl (Nat.le_of_ble_eq_true rfl) rfl hW hF hT ?_ ?_
    · intro _ s8 f9 hT h hW hF
      obtain ⟨a10, rfl, hT⟩ := hT
      obtain ⟨k12, hc, hv, hck, hT⟩ := hT
      obtain ⟨hb, hz, hT⟩ := hT
      refine c_faastG dX6_packOf_46 hc (by decide) hv hck hb hz hW hF ?_
      intro f11 ef11 h hW hF
      replace hT := hT f11 ef11
      refine x_iinc (lo' := [some (.ref (w.1 6)), some (.int b1), some (.int b2), some (.int b3), some (.ref b4), some (.int (b5 + 1))]) dX6_packOf_47 rfl (show _ = (b5 + 1) from rfl) rfl ?_
      refine x_goto (tgt := 25) dX6_packOf_50 rfl ?_
      exact hT f0 h hW hF
    · intro k s8 f9 hT h a hW hx hF
      exact c_out (rfl) hW hx hF hT
set_option maxHeartbeats 16000000 in
theorem vX6_work_0 {l : Launch} {E : EN} {w : CO} {d : Nat} {s : CS} {f : RH} {Q : KO → CS → RH → Prop} {x1 : Int32} {x2 : Int32} {x3 : Int32}  (hT : ((x1 = 0 → (rmF E f 1 1 ∧ ∀ (a1 : Nat) (f2 : RH), a1 = f.1 → f2 = fnew f 29 → (EvC l E w d MX3_asInt [.ref (w.1 3), .int ((s.1 26) - 1), .int x3] s f2 (fun o s3 f4 => KP o (fun r => ∃ v5 : Int32, r = some (.int v5) ∧ (EvC l E w d MX6_ints [.ref (w.1 6), .int v5, .int x3] s3 f4 (fun o s6 f7 => KP o (fun r => ∃ a8 : Nat, r = some (.ref a8) ∧ (EvC l E w d MX32_init [.ref a1, .ref a8] s6 f7 (fun o s9 f10 => KP o (fun r => r = none ∧ (EvC l E w d MX3_give_2 [.ref (w.1 3), .ref a1, .int 1, .int x3] s9 f10 (fun o s11 f12 => KP o (fun r => r = none ∧ Q (.inl none) s11 f12) (fun k => Q (.inr k) s11 f12)))) (fun k => Q (.inr k) s9 f10)))) (fun k => Q (.inr k) s6 f7)))) (fun k => Q (.inr k) s3 f4))))) ∧ (¬ (x1 = 0) → ((x1 = 1 → (EvC l E w d MX3_asInt [.ref (w.1 3), .int ((s.1 26) - 1), .int x3] s f (fun o s13 f14 => KP o (fun r => ∃ v15 : Int32, r = some (.int v15) ∧ (EvC l E w d MX6_ints [.ref (w.1 6), .int v15, .int x3] s13 f14 (fun o s16 f17 => KP o (fun r => ∃ a18 : Nat, r = some (.ref a18) ∧ ExC l E w (d + 1) MX6_work 104 [some (.ref (w.1 6)), none, none, some (.int x3), some (.ref a18), some (.int 0)] [] s16 f17 Q) (fun k => Q (.inr k) s16 f17)))) (fun k => Q (.inr k) s13 f14)))) ∧ (¬ (x1 = 1) → ((x1 = 2 → (rmF E f 1 3 ∧ ∀ (a19 : Nat) (f20 : RH), a19 = f.1 → f20 = fnew f 31 → (EvC l E w d MX3_asInt [.ref (w.1 3), .int ((s.1 26) - 1), .int x3] s f20 (fun o s21 f22 => KP o (fun r => ∃ v23 : Int32, r = some (.int v23) ∧ (EvC l E w d MX6_things [.ref (w.1 6), .int v23, .int x3] s21 f22 (fun o s24 f25 => KP o (fun r => ∃ a26 : Nat, r = some (.ref a26) ∧ (EvC l E w d MX34_init [.ref a19, .ref a26] s24 f25 (fun o s27 f28 => KP o (fun r => r = none ∧ (EvC l E w d MX3_give_2 [.ref (w.1 3), .ref a19, .int 1, .int x3] s27 f28 (fun o s29 f30 => KP o (fun r => r = none ∧ Q (.inl none) s29 f30) (fun k => Q (.inr k) s29 f30)))) (fun k => Q (.inr k) s27 f28)))) (fun k => Q (.inr k) s24 f25)))) (fun k => Q (.inr k) s21 f22))))) ∧ (¬ (x1 = 2) → ((x1 = 3 → (rmF E f 1 2 ∧ ∀ (a31 : Nat) (f32 : RH), a31 = f.1 → f32 = fnew f 30 → (EvC l E w d MX3_asInt [.ref (w.1 3), .int ((s.1 26) - 2), .int x3] s f32 (fun o s33 f34 => KP o (fun r => ∃ v35 : Int32, r = some (.int v35) ∧ (EvC l E w d MX3_asInt [.ref (w.1 3), .int ((s33.1 26) - 1), .int x3] s33 f34 (fun o s36 f37 => KP o (fun r => ∃ v38 : Int32, r = some (.int v38) ∧ (EvC l E w d MX6_grid [.ref (w.1 6), .int v35, .int v38, .int x3] s36 f37 (fun o s39 f40 => KP o (fun r => ∃ a41 : Nat, r = some (.ref a41) ∧ (EvC l E w d MX33_init [.ref a31, .ref a41] s39 f40 (fun o s42 f43 => KP o (fun r => r = none ∧ (EvC l E w d MX3_give_2 [.ref (w.1 3), .ref a31, .int 2, .int x3] s42 f43 (fun o s44 f45 => KP o (fun r => r = none ∧ Q (.inl none) s44 f45) (fun k => Q (.inr k) s44 f45)))) (fun k => Q (.inr k) s42 f43)))) (fun k => Q (.inr k) s39 f40)))) (fun k => Q (.inr k) s36 f37)))) (fun k => Q (.inr k) s33 f34))))) ∧ (¬ (x1 = 3) → ((x1 = 4 → (rmF E f 1 2 ∧ ∀ (a46 : Nat) (f47 : RH), a46 = f.1 → f47 = fnew f 30 → (EvC l E w d MX3_asRow [.ref (w.1 3), .int ((s.1 26) - 1), .int x3] s f47 (fun o s48 f49 => KP o (fun r => ∃ a50 : Nat, r = some (.ref a50) ∧ (oc f49 a50 29 ∧ (∃ a51 : Nat, vl f49 a50 203 = .ref a51 ∧ (EvC l E w d MX6_rows [.ref (w.1 6), .ref a51, .int x3] s48 f49 (fun o s52 f53 => KP o (fun r => ∃ a54 : Nat, r = some (.ref a54) ∧ (EvC l E w d MX33_init [.ref a46, .ref a54] s52 f53 (fun o s55 f56 => KP o (fun r => r = none ∧ (EvC l E w d MX3_give_2 [.ref (w.1 3), .ref a46, .int 1, .int x3] s55 f56 (fun o s57 f58 => KP o (fun r => r = none ∧ Q (.inl none) s57 f58) (fun k => Q (.inr k) s57 f58)))) (fun k => Q (.inr k) s55 f56)))) (fun k => Q (.inr k) s52 f53)))))) (fun k => Q (.inr k) s48 f49))))) ∧ (¬ (x1 = 4) → ((EvC l E w d MX6_packOf [.ref (w.1 6), .int ((s.1 26) - x2), .int x2, .int x3] s f (fun o s59 f60 => KP o (fun r => ∃ a61 : Nat, r = some (.ref a61) ∧ (EvC l E w d MX3_give_2 [.ref (w.1 3), .ref a61, .int x2, .int x3] s59 f60 (fun o s62 f63 => KP o (fun r => r = none ∧ Q (.inl none) s62 f63) (fun k => Q (.inr k) s62 f63)))) (fun k => Q (.inr k) s59 f60))))))))))))))) : ExC l E w (d + 1) MX6_work 0 [some (.ref (w.1 6)), some (.int x1), some (.int x2), some (.int x3), none, none] [] s f Q := by
  intro f0 h hW hF
  refine x_iload_n dX6_work_0 rfl rfl ?_
  by_cases c : x1 = 0
  · replace hT := hT.1 c
    refine x_tableIn (tgt := 36) (off := 35) dX6_work_1 (by rw [c]; decide) (by rw [c]; decide) (by rw [c]; rfl) rfl ?_
    refine x_aload_n dX6_work_36 rfl rfl rfl ?_
    refine c_getO dX6_work_37 f_TallySlate_Maker_9 (by decide) (by decide) rfl hW ?_
    obtain ⟨hr, hT⟩ := hT
    refine c_newG (k := 29) dX6_work_40 (by decide) q1540 q205 hr hW hF ?_
    intro a1 f2 ea1 ef2 h hW hF
    replace hT := hT a1 f2 ea1 ef2
    refine x_dup dX6_work_43 rfl ?_
    refine x_aload_n dX6_work_44 rfl rfl rfl ?_
    refine x_aload_n dX6_work_45 rfl rfl rfl ?_
    refine c_getO dX6_work_46 f_TallySlate_Maker_9 (by decide) (by decide) rfl hW ?_
    refine x_aload_n dX6_work_49 rfl rfl rfl ?_
    refine c_getO dX6_work_50 f_TallySlate_Maker_9 (by decide) (by decide) rfl hW ?_
    refine c_getI (v := (s.1 26)) dX6_work_53 f_TallySlate_Maker_17 (by decide) (by decide) rfl hW rfl ?_
    refine x_iconst (v := 1) dX6_work_56 rfl ?_
    refine x_isub dX6_work_57 ?_
    refine x_iload_n dX6_work_58 rfl rfl ?_
    obtain ⟨-, -, cc, hcc, -⟩ := hW.ob 3 (by decide)
    refine c_invV (vs := [.int ((s.1 26) - 1), .int x3]) dX6_work_59 oX3_asInt q1697 q1696 hcc q1698 (Or.inl rfl) rfl rfl (Nat.le_of_ble_eq_true rfl) rfl hW hF hT ?_ ?_
    · intro _ s3 f4 hT h hW hF
      obtain ⟨v5, rfl, hT⟩ := hT
      refine x_iload_n dX6_work_62 rfl rfl ?_
      obtain ⟨-, -, cc, hcc, -⟩ := hW.ob 6 (by decide)
      refine c_invV (vs := [.int v5, .int x3]) dX6_work_63 oX6_ints q1701 q1700 hcc q1702 (Or.inl rfl) rfl rfl (Nat.le_of_ble_eq_true rfl) rfl hW hF hT ?_ ?_
      · intro _ s6 f7 hT h hW hF
        obtain ⟨a8, rfl, hT⟩ := hT
        refine c_invI (b := a1) (vs := [.ref a8]) dX6_work_66 oX32_init rfl rfl rfl q1396 (Or.inl q1541) rfl rfl (Nat.le_of_ble_eq_true rfl) rfl hW hF hT ?_ ?_
        · intro _ s9 f10 hT h hW hF
          obtain ⟨rfl, hT⟩ := hT
          refine x_iconst (v := 1) dX6_work_69 rfl ?_
          refine x_iload_n dX6_work_70 rfl rfl ?_
          obtain ⟨-, -, cc, hcc, -⟩ := hW.ob 3 (by decide)
          refine c_invV (vs := [.ref a1, .int 1, .int x3]) dX6_work_71 oX3_give_2 q1412 q1718 hcc q1413 (Or.inl rfl) rfl rfl (Nat.le_of_ble_eq_true rfl) rfl hW hF hT ?_ ?_
          · intro _ s11 f12 hT h hW hF
            obtain ⟨rfl, hT⟩ := hT
            refine x_goto (tgt := 313) dX6_work_74 rfl ?_
            exact x_vret dX6_work_313 rfl ⟨_, _, hW, hF, Or.inl ⟨_, rfl, hT⟩⟩
          · intro k s11 f12 hT h a hW hx hF
            exact c_out (rfl) hW hx hF hT
        · intro k s9 f10 hT h a hW hx hF
          exact c_out (rfl) hW hx hF hT
      · intro k s6 f7 hT h a hW hx hF
        exact c_out (rfl) hW hx hF hT
    · intro k s3 f4 hT h a hW hx hF
      exact c_out (rfl) hW hx hF hT
  · replace hT := hT.2 c
    have cs0 := c
    by_cases c : x1 = 1
    · replace hT := hT.1 c
      refine x_tableIn (tgt := 77) (off := 76) dX6_work_1 (by rw [c]; decide) (by rw [c]; decide) (by rw [c]; rfl) rfl ?_
      refine x_aload_n dX6_work_77 rfl rfl rfl ?_
      refine x_aload_n dX6_work_78 rfl rfl rfl ?_
      refine c_getO dX6_work_79 f_TallySlate_Maker_9 (by decide) (by decide) rfl hW ?_
      refine x_aload_n dX6_work_82 rfl rfl rfl ?_
      refine c_getO dX6_work_83 f_TallySlate_Maker_9 (by decide) (by decide) rfl hW ?_
      refine c_getI (v := (s.1 26)) dX6_work_86 f_TallySlate_Maker_17 (by decide) (by decide) rfl hW rfl ?_
      refine x_iconst (v := 1) dX6_work_89 rfl ?_
      refine x_isub dX6_work_90 ?_
      refine x_iload_n dX6_work_91 rfl rfl ?_
      obtain ⟨-, -, cc, hcc, -⟩ := hW.ob 3 (by decide)
      refine c_invV (vs := [.int ((s.1 26) - 1), .int x3]) dX6_work_92 oX3_asInt q1697 q1696 hcc q1698 (Or.inl rfl) rfl rfl (Nat.le_of_ble_eq_true rfl) rfl hW hF hT ?_ ?_
      · intro _ s13 f14 hT h hW hF
        obtain ⟨v15, rfl, hT⟩ := hT
        refine x_iload_n dX6_work_95 rfl rfl ?_
        obtain ⟨-, -, cc, hcc, -⟩ := hW.ob 6 (by decide)
        refine c_invV (vs := [.int v15, .int x3]) dX6_work_96 oX6_ints q1701 q1700 hcc q1702 (Or.inl rfl) rfl rfl (Nat.le_of_ble_eq_true rfl) rfl hW hF hT ?_ ?_
        · intro _ s16 f17 hT h hW hF
          obtain ⟨a18, rfl, hT⟩ := hT
          refine x_astore (lo' := [some (.ref (w.1 6)), some (.int x1), some (.int x2), some (.int x3), some (.ref a18), none]) dX6_work_99 (Nat.le_of_ble_eq_true rfl) rfl rfl ?_
          refine x_iconst (v := 0) dX6_work_101 rfl ?_
          refine x_istore (lo' := [some (.ref (w.1 6)), some (.int x1), some (.int x2), some (.int x3), some (.ref a18), some (.int 0)]) dX6_work_102 (Nat.le_of_ble_eq_true rfl) rfl ?_
          refine Ex.wkl (lo' := [some (.ref (w.1 6)), none, none, some (.int x3), some (.ref a18), some (.int 0)]) ⟨rfl, rfl, rfl, rfl, trivial⟩ ?_
          exact hT f0 h hW hF
        · intro k s16 f17 hT h a hW hx hF
          exact c_out (rfl) hW hx hF hT
      · intro k s13 f14 hT h a hW hx hF
        exact c_out (rfl) hW hx hF hT
    · replace hT := hT.2 c
      have cs1 := c
      by_cases c : x1 = 2
      · replace hT := hT.1 c
        refine x_tableIn (tgt := 146) (off := 145) dX6_work_1 (by rw [c]; decide) (by rw [c]; decide) (by rw [c]; rfl) rfl ?_
        refine x_aload_n dX6_work_146 rfl rfl rfl ?_
        refine c_getO dX6_work_147 f_TallySlate_Maker_9 (by decide) (by decide) rfl hW ?_
        obtain ⟨hr, hT⟩ := hT
        refine c_newG (k := 31) dX6_work_150 (by decide) q1552 q209 hr hW hF ?_
        intro a19 f20 ea19 ef20 h hW hF
        replace hT := hT a19 f20 ea19 ef20
        refine x_dup dX6_work_153 rfl ?_
        refine x_aload_n dX6_work_154 rfl rfl rfl ?_
        refine x_aload_n dX6_work_155 rfl rfl rfl ?_
        refine c_getO dX6_work_156 f_TallySlate_Maker_9 (by decide) (by decide) rfl hW ?_
        refine x_aload_n dX6_work_159 rfl rfl rfl ?_
        refine c_getO dX6_work_160 f_TallySlate_Maker_9 (by decide) (by decide) rfl hW ?_
        refine c_getI (v := (s.1 26)) dX6_work_163 f_TallySlate_Maker_17 (by decide) (by decide) rfl hW rfl ?_
        refine x_iconst (v := 1) dX6_work_166 rfl ?_
        refine x_isub dX6_work_167 ?_
        refine x_iload_n dX6_work_168 rfl rfl ?_
        obtain ⟨-, -, cc, hcc, -⟩ := hW.ob 3 (by decide)
        refine c_invV (vs := [.int ((s.1 26) - 1), .int x3]) dX6_work_169 oX3_asInt q1697 q1696 hcc q1698 (Or.inl rfl) rfl rfl (Nat.le_of_ble_eq_true rfl) rfl hW hF hT ?_ ?_
        · intro _ s21 f22 hT h hW hF
          obtain ⟨v23, rfl, hT⟩ := hT
          refine x_iload_n dX6_work_172 rfl rfl ?_
          obtain ⟨-, -, cc, hcc, -⟩ := hW.ob 6 (by decide)
          refine c_invV (vs := [.int v23, .int x3]) dX6_work_173 oX6_things q1721 q1719 hcc qs37 (Or.inl rfl) rfl rfl (Nat.le_of_ble_eq_true rfl) rfl hW hF hT ?_ ?_
          · intro _ s24 f25 hT h hW hF
            obtain ⟨a26, rfl, hT⟩ := hT
            refine c_invI (b := a19) (vs := [.ref a26]) dX6_work_176 oX34_init rfl rfl rfl q1559 (Or.inl q1558) rfl rfl (Nat.le_of_ble_eq_true rfl) rfl hW hF hT ?_ ?_
            · intro _ s27 f28 hT h hW hF
              obtain ⟨rfl, hT⟩ := hT
              refine x_iconst (v := 1) dX6_work_179 rfl ?_
              refine x_iload_n dX6_work_180 rfl rfl ?_
              obtain ⟨-, -, cc, hcc, -⟩ := hW.ob 3 (by decide)
              refine c_invV (vs := [.ref a19, .int 1, .int x3]) dX6_work_181 oX3_give_2 q1412 q1718 hcc q1413 (Or.inl rfl) rfl rfl (Nat.le_of_ble_eq_true rfl) rfl hW hF hT ?_ ?_
              · intro _ s29 f30 hT h hW hF
                obtain ⟨rfl, hT⟩ := hT
                refine x_goto (tgt := 313) dX6_work_184 rfl ?_
                exact x_vret dX6_work_313 rfl ⟨_, _, hW, hF, Or.inl ⟨_, rfl, hT⟩⟩
              · intro k s29 f30 hT h a hW hx hF
                exact c_out (rfl) hW hx hF hT
            · intro k s27 f28 hT h a hW hx hF
              exact c_out (rfl) hW hx hF hT
          · intro k s24 f25 hT h a hW hx hF
            exact c_out (rfl) hW hx hF hT
        · intro k s21 f22 hT h a hW hx hF
          exact c_out (rfl) hW hx hF hT
      · replace hT := hT.2 c
        have cs2 := c
        by_cases c : x1 = 3
        · replace hT := hT.1 c
          refine x_tableIn (tgt := 187) (off := 186) dX6_work_1 (by rw [c]; decide) (by rw [c]; decide) (by rw [c]; rfl) rfl ?_
          refine x_aload_n dX6_work_187 rfl rfl rfl ?_
          refine c_getO dX6_work_188 f_TallySlate_Maker_9 (by decide) (by decide) rfl hW ?_
          obtain ⟨hr, hT⟩ := hT
          refine c_newG (k := 30) dX6_work_191 (by decide) q1542 q206 hr hW hF ?_
          intro a31 f32 ea31 ef32 h hW hF
          replace hT := hT a31 f32 ea31 ef32
          refine x_dup dX6_work_194 rfl ?_
          refine x_aload_n dX6_work_195 rfl rfl rfl ?_
          refine x_aload_n dX6_work_196 rfl rfl rfl ?_
          refine c_getO dX6_work_197 f_TallySlate_Maker_9 (by decide) (by decide) rfl hW ?_
          refine x_aload_n dX6_work_200 rfl rfl rfl ?_
          refine c_getO dX6_work_201 f_TallySlate_Maker_9 (by decide) (by decide) rfl hW ?_
          refine c_getI (v := (s.1 26)) dX6_work_204 f_TallySlate_Maker_17 (by decide) (by decide) rfl hW rfl ?_
          refine x_iconst (v := 2) dX6_work_207 rfl ?_
          refine x_isub dX6_work_208 ?_
          refine x_iload_n dX6_work_209 rfl rfl ?_
          obtain ⟨-, -, cc, hcc, -⟩ := hW.ob 3 (by decide)
          refine c_invV (vs := [.int ((s.1 26) - 2), .int x3]) dX6_work_210 oX3_asInt q1697 q1696 hcc q1698 (Or.inl rfl) rfl rfl (Nat.le_of_ble_eq_true rfl) rfl hW hF hT ?_ ?_
          · intro _ s33 f34 hT h hW hF
            obtain ⟨v35, rfl, hT⟩ := hT
            refine x_aload_n dX6_work_213 rfl rfl rfl ?_
            refine c_getO dX6_work_214 f_TallySlate_Maker_9 (by decide) (by decide) rfl hW ?_
            refine x_aload_n dX6_work_217 rfl rfl rfl ?_
            refine c_getO dX6_work_218 f_TallySlate_Maker_9 (by decide) (by decide) rfl hW ?_
            refine c_getI (v := (s33.1 26)) dX6_work_221 f_TallySlate_Maker_17 (by decide) (by decide) rfl hW rfl ?_
            refine x_iconst (v := 1) dX6_work_224 rfl ?_
            refine x_isub dX6_work_225 ?_
            refine x_iload_n dX6_work_226 rfl rfl ?_
            obtain ⟨-, -, cc, hcc, -⟩ := hW.ob 3 (by decide)
            refine c_invV (vs := [.int ((s33.1 26) - 1), .int x3]) dX6_work_227 oX3_asInt q1697 q1696 hcc q1698 (Or.inl rfl) rfl rfl (Nat.le_of_ble_eq_true rfl) rfl hW hF hT ?_ ?_
            · intro _ s36 f37 hT h hW hF
              obtain ⟨v38, rfl, hT⟩ := hT
              refine x_iload_n dX6_work_230 rfl rfl ?_
              obtain ⟨-, -, cc, hcc, -⟩ := hW.ob 6 (by decide)
              refine c_invV (vs := [.int v35, .int v38, .int x3]) dX6_work_231 oX6_grid q1726 q1725 hcc q1727 (Or.inl rfl) rfl rfl (Nat.le_of_ble_eq_true rfl) rfl hW hF hT ?_ ?_
              · intro _ s39 f40 hT h hW hF
                obtain ⟨a41, rfl, hT⟩ := hT
                refine c_invI (b := a31) (vs := [.ref a41]) dX6_work_234 oX33_init rfl rfl rfl q1469 (Or.inl q1548) rfl rfl (Nat.le_of_ble_eq_true rfl) rfl hW hF hT ?_ ?_
                · intro _ s42 f43 hT h hW hF
                  obtain ⟨rfl, hT⟩ := hT
                  refine x_iconst (v := 2) dX6_work_237 rfl ?_
                  refine x_iload_n dX6_work_238 rfl rfl ?_
                  obtain ⟨-, -, cc, hcc, -⟩ := hW.ob 3 (by decide)
                  refine c_invV (vs := [.ref a31, .int 2, .int x3]) dX6_work_239 oX3_give_2 q1412 q1718 hcc q1413 (Or.inl rfl) rfl rfl (Nat.le_of_ble_eq_true rfl) rfl hW hF hT ?_ ?_
                  · intro _ s44 f45 hT h hW hF
                    obtain ⟨rfl, hT⟩ := hT
                    refine x_goto (tgt := 313) dX6_work_242 rfl ?_
                    exact x_vret dX6_work_313 rfl ⟨_, _, hW, hF, Or.inl ⟨_, rfl, hT⟩⟩
                  · intro k s44 f45 hT h a hW hx hF
                    exact c_out (rfl) hW hx hF hT
                · intro k s42 f43 hT h a hW hx hF
                  exact c_out (rfl) hW hx hF hT
              · intro k s39 f40 hT h a hW hx hF
                exact c_out (rfl) hW hx hF hT
            · intro k s36 f37 hT h a hW hx hF
              exact c_out (rfl) hW hx hF hT
          · intro k s33 f34 hT h a hW hx hF
            exact c_out (rfl) hW hx hF hT
        · replace hT := hT.2 c
          have cs3 := c
          by_cases c : x1 = 4
          · replace hT := hT.1 c
            refine x_tableIn (tgt := 245) (off := 244) dX6_work_1 (by rw [c]; decide) (by rw [c]; decide) (by rw [c]; rfl) rfl ?_
            refine x_aload_n dX6_work_245 rfl rfl rfl ?_
            refine c_getO dX6_work_246 f_TallySlate_Maker_9 (by decide) (by decide) rfl hW ?_
            obtain ⟨hr, hT⟩ := hT
            refine c_newG (k := 30) dX6_work_249 (by decide) q1542 q206 hr hW hF ?_
            intro a46 f47 ea46 ef47 h hW hF
            replace hT := hT a46 f47 ea46 ef47
            refine x_dup dX6_work_252 rfl ?_
            refine x_aload_n dX6_work_253 rfl rfl rfl ?_
            refine x_aload_n dX6_work_254 rfl rfl rfl ?_
            refine c_getO dX6_work_255 f_TallySlate_Maker_9 (by decide) (by decide) rfl hW ?_
            refine x_aload_n dX6_work_258 rfl rfl rfl ?_
            refine c_getO dX6_work_259 f_TallySlate_Maker_9 (by decide) (by decide) rfl hW ?_
            refine c_getI (v := (s.1 26)) dX6_work_262 f_TallySlate_Maker_17 (by decide) (by decide) rfl hW rfl ?_
            refine x_iconst (v := 1) dX6_work_265 rfl ?_
            refine x_isub dX6_work_266 ?_
            refine x_iload_n dX6_work_267 rfl rfl ?_
            obtain ⟨-, -, cc, hcc, -⟩ := hW.ob 3 (by decide)
            refine c_invV (vs := [.int ((s.1 26) - 1), .int x3]) dX6_work_268 oX3_asRow q1731 q1730 hcc q1732 (Or.inl rfl) rfl rfl (Nat.le_of_ble_eq_true rfl) rfl hW hF hT ?_ ?_
            · intro _ s48 f49 hT h hW hF
              obtain ⟨a50, rfl, hT⟩ := hT
              obtain ⟨hc, hT⟩ := hT
              obtain ⟨a51, ev, hT⟩ := hT
              refine c_fgetG dX6_work_271 f_TallySlate_Maker_60 hc (by decide) (by decide) hW ev ?_
              refine x_iload_n dX6_work_274 rfl rfl ?_
              obtain ⟨-, -, cc, hcc, -⟩ := hW.ob 6 (by decide)
              refine c_invV (vs := [.ref a51, .int x3]) dX6_work_275 oX6_rows q1736 q1734 hcc qs38 (Or.inl rfl) rfl rfl (Nat.le_of_ble_eq_true rfl) rfl hW hF hT ?_ ?_
              · intro _ s52 f53 hT h hW hF
                obtain ⟨a54, rfl, hT⟩ := hT
                refine c_invI (b := a46) (vs := [.ref a54]) dX6_work_278 oX33_init rfl rfl rfl q1469 (Or.inl q1548) rfl rfl (Nat.le_of_ble_eq_true rfl) rfl hW hF hT ?_ ?_
                · intro _ s55 f56 hT h hW hF
                  obtain ⟨rfl, hT⟩ := hT
                  refine x_iconst (v := 1) dX6_work_281 rfl ?_
                  refine x_iload_n dX6_work_282 rfl rfl ?_
                  obtain ⟨-, -, cc, hcc, -⟩ := hW.ob 3 (by decide)
                  refine c_invV (vs := [.ref a46, .int 1, .int x3]) dX6_work_283 oX3_give_2 q1412 q1718 hcc q1413 (Or.inl rfl) rfl rfl (Nat.le_of_ble_eq_true rfl) rfl hW hF hT ?_ ?_
                  · intro _ s57 f58 hT h hW hF
                    obtain ⟨rfl, hT⟩ := hT
                    refine x_goto (tgt := 313) dX6_work_286 rfl ?_
                    exact x_vret dX6_work_313 rfl ⟨_, _, hW, hF, Or.inl ⟨_, rfl, hT⟩⟩
                  · intro k s57 f58 hT h a hW hx hF
                    exact c_out (rfl) hW hx hF hT
                · intro k s55 f56 hT h a hW hx hF
                  exact c_out (rfl) hW hx hF hT
              · intro k s52 f53 hT h a hW hx hF
                exact c_out (rfl) hW hx hF hT
            · intro k s48 f49 hT h a hW hx hF
              exact c_out (rfl) hW hx hF hT
          · replace hT := hT.2 c
            have cs4 := c
            refine x_tableD (tgt := 289) [0, 1, 2, 3, 4] dX6_work_1 (List.forall_mem_cons.mpr ⟨fun h => cs0 (i32_of (h.trans (show (0 : Int) = (0 : Int32).toInt from by decide))), List.forall_mem_cons.mpr ⟨fun h => cs1 (i32_of (h.trans (show (1 : Int) = (1 : Int32).toInt from by decide))), List.forall_mem_cons.mpr ⟨fun h => cs2 (i32_of (h.trans (show (2 : Int) = (2 : Int32).toInt from by decide))), List.forall_mem_cons.mpr ⟨fun h => cs3 (i32_of (h.trans (show (3 : Int) = (3 : Int32).toInt from by decide))), List.forall_mem_cons.mpr ⟨fun h => cs4 (i32_of (h.trans (show (4 : Int) = (4 : Int32).toInt from by decide))), fun _ h => absurd h List.not_mem_nil⟩⟩⟩⟩⟩) (by decide) (by decide) rfl ?_
            refine x_aload_n dX6_work_289 rfl rfl rfl ?_
            refine c_getO dX6_work_290 f_TallySlate_Maker_9 (by decide) (by decide) rfl hW ?_
            refine x_aload_n dX6_work_293 rfl rfl rfl ?_
            refine x_aload_n dX6_work_294 rfl rfl rfl ?_
            refine c_getO dX6_work_295 f_TallySlate_Maker_9 (by decide) (by decide) rfl hW ?_
            refine c_getI (v := (s.1 26)) dX6_work_298 f_TallySlate_Maker_17 (by decide) (by decide) rfl hW rfl ?_
            refine x_iload_n dX6_work_301 rfl rfl ?_
            refine x_isub dX6_work_302 ?_
            refine x_iload_n dX6_work_303 rfl rfl ?_
            refine x_iload_n dX6_work_304 rfl rfl ?_
            obtain ⟨-, -, cc, hcc, -⟩ := hW.ob 6 (by decide)
            refine c_invV (vs := [.int ((s.1 26) - x2), .int x2, .int x3]) dX6_work_305 oX6_packOf q1657 q1740 hcc q1658 (Or.inl rfl) rfl rfl (Nat.le_of_ble_eq_true rfl) rfl hW hF hT ?_ ?_
            · intro _ s59 f60 hT h hW hF
              obtain ⟨a61, rfl, hT⟩ := hT
              refine x_iload_n dX6_work_308 rfl rfl ?_
              refine x_iload_n dX6_work_309 rfl rfl ?_
              obtain ⟨-, -, cc, hcc, -⟩ := hW.ob 3 (by decide)
              refine c_invV (vs := [.ref a61, .int x2, .int x3]) dX6_work_310 oX3_give_2 q1412 q1718 hcc q1413 (Or.inl rfl) rfl rfl (Nat.le_of_ble_eq_true rfl) rfl hW hF hT ?_ ?_
              · intro _ s62 f63 hT h hW hF
                obtain ⟨rfl, hT⟩ := hT
                exact x_vret dX6_work_313 rfl ⟨_, _, hW, hF, Or.inl ⟨_, rfl, hT⟩⟩
              · intro k s62 f63 hT h a hW hx hF
                exact c_out (rfl) hW hx hF hT
            · intro k s59 f60 hT h a hW hx hF
              exact c_out (rfl) hW hx hF hT
theorem eX6_work {l : Launch} {E : EN} {w : CO} {d : Nat} {s : CS} {f : RH} {Q : KO → CS → RH → Prop} {x1 : Int32} {x2 : Int32} {x3 : Int32}  (hst : l.stackTraces = false) (hT : ((x1 = 0 → (rmF E f 1 1 ∧ ∀ (a1 : Nat) (f2 : RH), a1 = f.1 → f2 = fnew f 29 → (EvC l E w d MX3_asInt [.ref (w.1 3), .int ((s.1 26) - 1), .int x3] s f2 (fun o s3 f4 => KP o (fun r => ∃ v5 : Int32, r = some (.int v5) ∧ (EvC l E w d MX6_ints [.ref (w.1 6), .int v5, .int x3] s3 f4 (fun o s6 f7 => KP o (fun r => ∃ a8 : Nat, r = some (.ref a8) ∧ (EvC l E w d MX32_init [.ref a1, .ref a8] s6 f7 (fun o s9 f10 => KP o (fun r => r = none ∧ (EvC l E w d MX3_give_2 [.ref (w.1 3), .ref a1, .int 1, .int x3] s9 f10 (fun o s11 f12 => KP o (fun r => r = none ∧ Q (.inl none) s11 f12) (fun k => Q (.inr k) s11 f12)))) (fun k => Q (.inr k) s9 f10)))) (fun k => Q (.inr k) s6 f7)))) (fun k => Q (.inr k) s3 f4))))) ∧ (¬ (x1 = 0) → ((x1 = 1 → (EvC l E w d MX3_asInt [.ref (w.1 3), .int ((s.1 26) - 1), .int x3] s f (fun o s13 f14 => KP o (fun r => ∃ v15 : Int32, r = some (.int v15) ∧ (EvC l E w d MX6_ints [.ref (w.1 6), .int v15, .int x3] s13 f14 (fun o s16 f17 => KP o (fun r => ∃ a18 : Nat, r = some (.ref a18) ∧ ExC l E w (d + 1) MX6_work 104 [some (.ref (w.1 6)), none, none, some (.int x3), some (.ref a18), some (.int 0)] [] s16 f17 Q) (fun k => Q (.inr k) s16 f17)))) (fun k => Q (.inr k) s13 f14)))) ∧ (¬ (x1 = 1) → ((x1 = 2 → (rmF E f 1 3 ∧ ∀ (a19 : Nat) (f20 : RH), a19 = f.1 → f20 = fnew f 31 → (EvC l E w d MX3_asInt [.ref (w.1 3), .int ((s.1 26) - 1), .int x3] s f20 (fun o s21 f22 => KP o (fun r => ∃ v23 : Int32, r = some (.int v23) ∧ (EvC l E w d MX6_things [.ref (w.1 6), .int v23, .int x3] s21 f22 (fun o s24 f25 => KP o (fun r => ∃ a26 : Nat, r = some (.ref a26) ∧ (EvC l E w d MX34_init [.ref a19, .ref a26] s24 f25 (fun o s27 f28 => KP o (fun r => r = none ∧ (EvC l E w d MX3_give_2 [.ref (w.1 3), .ref a19, .int 1, .int x3] s27 f28 (fun o s29 f30 => KP o (fun r => r = none ∧ Q (.inl none) s29 f30) (fun k => Q (.inr k) s29 f30)))) (fun k => Q (.inr k) s27 f28)))) (fun k => Q (.inr k) s24 f25)))) (fun k => Q (.inr k) s21 f22))))) ∧ (¬ (x1 = 2) → ((x1 = 3 → (rmF E f 1 2 ∧ ∀ (a31 : Nat) (f32 : RH), a31 = f.1 → f32 = fnew f 30 → (EvC l E w d MX3_asInt [.ref (w.1 3), .int ((s.1 26) - 2), .int x3] s f32 (fun o s33 f34 => KP o (fun r => ∃ v35 : Int32, r = some (.int v35) ∧ (EvC l E w d MX3_asInt [.ref (w.1 3), .int ((s33.1 26) - 1), .int x3] s33 f34 (fun o s36 f37 => KP o (fun r => ∃ v38 : Int32, r = some (.int v38) ∧ (EvC l E w d MX6_grid [.ref (w.1 6), .int v35, .int v38, .int x3] s36 f37 (fun o s39 f40 => KP o (fun r => ∃ a41 : Nat, r = some (.ref a41) ∧ (EvC l E w d MX33_init [.ref a31, .ref a41] s39 f40 (fun o s42 f43 => KP o (fun r => r = none ∧ (EvC l E w d MX3_give_2 [.ref (w.1 3), .ref a31, .int 2, .int x3] s42 f43 (fun o s44 f45 => KP o (fun r => r = none ∧ Q (.inl none) s44 f45) (fun k => Q (.inr k) s44 f45)))) (fun k => Q (.inr k) s42 f43)))) (fun k => Q (.inr k) s39 f40)))) (fun k => Q (.inr k) s36 f37)))) (fun k => Q (.inr k) s33 f34))))) ∧ (¬ (x1 = 3) → ((x1 = 4 → (rmF E f 1 2 ∧ ∀ (a46 : Nat) (f47 : RH), a46 = f.1 → f47 = fnew f 30 → (EvC l E w d MX3_asRow [.ref (w.1 3), .int ((s.1 26) - 1), .int x3] s f47 (fun o s48 f49 => KP o (fun r => ∃ a50 : Nat, r = some (.ref a50) ∧ (oc f49 a50 29 ∧ (∃ a51 : Nat, vl f49 a50 203 = .ref a51 ∧ (EvC l E w d MX6_rows [.ref (w.1 6), .ref a51, .int x3] s48 f49 (fun o s52 f53 => KP o (fun r => ∃ a54 : Nat, r = some (.ref a54) ∧ (EvC l E w d MX33_init [.ref a46, .ref a54] s52 f53 (fun o s55 f56 => KP o (fun r => r = none ∧ (EvC l E w d MX3_give_2 [.ref (w.1 3), .ref a46, .int 1, .int x3] s55 f56 (fun o s57 f58 => KP o (fun r => r = none ∧ Q (.inl none) s57 f58) (fun k => Q (.inr k) s57 f58)))) (fun k => Q (.inr k) s55 f56)))) (fun k => Q (.inr k) s52 f53)))))) (fun k => Q (.inr k) s48 f49))))) ∧ (¬ (x1 = 4) → ((EvC l E w d MX6_packOf [.ref (w.1 6), .int ((s.1 26) - x2), .int x2, .int x3] s f (fun o s59 f60 => KP o (fun r => ∃ a61 : Nat, r = some (.ref a61) ∧ (EvC l E w d MX3_give_2 [.ref (w.1 3), .ref a61, .int x2, .int x3] s59 f60 (fun o s62 f63 => KP o (fun r => r = none ∧ Q (.inl none) s62 f63) (fun k => Q (.inr k) s62 f63)))) (fun k => Q (.inr k) s59 f60))))))))))))))) : EvC l E w (d + 1) MX6_work [.ref (w.1 6), .int x1, .int x2, .int x3] s f Q :=
  EvC.of hst (by decide) (Nat.le_of_ble_eq_true rfl) (vX6_work_0  hT)
theorem vX6_work_104 {l : Launch} {E : EN} {w : CO} {d : Nat} {s : CS} {f : RH} {Q : KO → CS → RH → Prop} {b3 : Int32} {b4 : Nat} {b5 : Int32}  (hT : (∃ t64 : Nat, tg f b4 = some (.inr t64) ∧ (((nI (ln f b4)) ≤ b5 → (rmF E f 1 1 ∧ ∀ (a65 : Nat) (f66 : RH), a65 = f.1 → f66 = fnew f 29 → (EvC l E w d MX32_init [.ref a65, .ref b4] s f66 (fun o s67 f68 => KP o (fun r => r = none ∧ (EvC l E w d MX3_give_2 [.ref (w.1 3), .ref a65, .int 1, .int b3] s67 f68 (fun o s69 f70 => KP o (fun r => r = none ∧ Q (.inl none) s69 f70) (fun k => Q (.inr k) s69 f70)))) (fun k => Q (.inr k) s67 f68))))) ∧ (¬ (nI (ln f b4)) ≤ b5 → (tg f b4 = some (.inr 0) ∧ inB b5 (ln f b4) ∧ f.2.2.2 ≤ b4 ∧ ∀ f71 : RH, f71 = fset f b4 b5.toNatClampNeg (.int b5) → ExC l E w (d + 1) MX6_work 104 [some (.ref (w.1 6)), none, none, some (.int b3), some (.ref b4), some (.int (b5 + 1))] [] s f71 Q))))) : ExC l E w (d + 1) MX6_work 104 [some (.ref (w.1 6)), none, none, some (.int b3), some (.ref b4), some (.int b5)] [] s f Q := by
  intro f0 h hW hF
  refine x_iload dX6_work_104 rfl ?_
  refine x_aload dX6_work_106 rfl rfl ?_
  obtain ⟨t64, hc, hT⟩ := hT
  refine c_alen dX6_work_108 hc hW ?_
  refine x_icmp_ge (tgt := 125) dX6_work_109 rfl (fun c => ?_) (fun c => ?_)
  · replace hT := hT.1 c
    refine x_aload_n dX6_work_125 rfl rfl rfl ?_
    refine c_getO dX6_work_126 f_TallySlate_Maker_9 (by decide) (by decide) rfl hW ?_
    obtain ⟨hr, hT⟩ := hT
    refine c_newG (k := 29) dX6_work_129 (by decide) q1540 q205 hr hW hF ?_
    intro a65 f66 ea65 ef66 h hW hF
    replace hT := hT a65 f66 ea65 ef66
    refine x_dup dX6_work_132 rfl ?_
    refine x_aload dX6_work_133 rfl rfl ?_
    refine c_invI (b := a65) (vs := [.ref b4]) dX6_work_135 oX32_init rfl rfl rfl q1396 (Or.inl q1541) rfl rfl (Nat.le_of_ble_eq_true rfl) rfl hW hF hT ?_ ?_
    · intro _ s67 f68 hT h hW hF
      obtain ⟨rfl, hT⟩ := hT
      refine x_iconst (v := 1) dX6_work_138 rfl ?_
      refine x_iload_n dX6_work_139 rfl rfl ?_
      obtain ⟨-, -, cc, hcc, -⟩ := hW.ob 3 (by decide)
      refine c_invV (vs := [.ref a65, .int 1, .int b3]) dX6_work_140 oX3_give_2 q1412 q1718 hcc q1413 (Or.inl rfl) rfl rfl (Nat.le_of_ble_eq_true rfl) rfl hW hF hT ?_ ?_
      · intro _ s69 f70 hT h hW hF
        obtain ⟨rfl, hT⟩ := hT
        refine x_goto (tgt := 313) dX6_work_143 rfl ?_
        exact x_vret dX6_work_313 rfl ⟨_, _, hW, hF, Or.inl ⟨_, rfl, hT⟩⟩
      · intro k s69 f70 hT h a hW hx hF
        exact c_out (rfl) hW hx hF hT
    · intro k s67 f68 hT h a hW hx hF
      exact c_out (rfl) hW hx hF hT
  · replace hT := hT.2 c
    refine x_aload dX6_work_112 rfl rfl ?_
    refine x_iload dX6_work_114 rfl ?_
    refine x_iload dX6_work_116 rfl ?_
    obtain ⟨hc, hT⟩ := hT
    obtain ⟨hb, hz, hT⟩ := hT
    refine c_fiastG dX6_work_118 hc hb hz hW hF ?_
    intro f71 ef71 h hW hF
    replace hT := hT f71 ef71
    refine x_iinc (lo' := [some (.ref (w.1 6)), none, none, some (.int b3), some (.ref b4), some (.int (b5 + 1))]) dX6_work_119 rfl (show _ = (b5 + 1) from rfl) rfl ?_
    refine x_goto (tgt := 104) dX6_work_122 rfl ?_
    exact hT f0 h hW hF
theorem vX6_ints_0 {l : Launch} {E : EN} {w : CO} {d : Nat} {s : CS} {f : RH} {Q : KO → CS → RH → Prop} {x1 : Int32} {x2 : Int32}  (hT : ((x1 ≤ 64 → ((¬ x1 < 0 → x1.toNatClampNeg ≤ 60000000 ∧ rmF E f 1 x1.toNatClampNeg ∧ ∀ (a1 : Nat) (f2 : RH), a1 = f.1 → f2 = fnewA f 0 x1.toNatClampNeg → Q (.inl (some (.ref a1))) s f2) ∧ (x1 < 0 → (rmF E f 3 222 ∧ (∀ (a4 : Nat) (f3 : RH), f3 = fexc f → (EvC l E w d MX3_wrong [.ref (w.1 3), .int 1, .int x2] s f3 (fun o s5 f6 => KP o (fun r => r = some (.ref (w.1 9)) ∧ Q (.inr 9) s5 f6) (fun k => Q (.inr k) s5 f6)))))))) ∧ (¬ x1 ≤ 64 → (EvC l E w d MX3_wrong [.ref (w.1 3), .int 2, .int x2] s f (fun o s7 f8 => KP o (fun r => r = some (.ref (w.1 9)) ∧ Q (.inr 9) s7 f8) (fun k => Q (.inr k) s7 f8)))))) : ExC l E w (d + 1) MX6_ints 0 [some (.ref (w.1 6)), some (.int x1), some (.int x2), none] [] s f Q := by
  intro f0 h hW hF
  refine x_iload_n dX6_ints_0 rfl rfl ?_
  refine x_bipush (v := 64) dX6_ints_1 rfl ?_
  refine x_icmp_le (tgt := 16) dX6_ints_3 rfl (fun c => ?_) (fun c => ?_)
  · replace hT := hT.1 c
    refine x_iload_n dX6_ints_16 rfl rfl ?_
    by_cases hn : x1 < 0
    · obtain ⟨hr, hT⟩ := hT.2 hn
      refine c_newarrayX dX6_ints_17 hn hr (Nat.le_of_ble_eq_true rfl) rfl hW hF ?_
      intro f3 ef3 h a4 hW hx hF
      replace hT := hT a4 f3 ef3
      refine c_catch (hsr_yes (by decide) (by decide) q1704 (Or.inl rfl)) hW hx ?_
      refine x_astore_n (lo' := [some (.ref (w.1 6)), some (.int x1), some (.int x2), some (.ref a4)]) dX6_ints_20 rfl (Nat.le_of_ble_eq_true rfl) rfl rfl ?_
      refine x_aload_n dX6_ints_21 rfl rfl rfl ?_
      refine c_getO dX6_ints_22 f_TallySlate_Maker_9 (by decide) (by decide) rfl hW ?_
      refine x_iconst (v := 1) dX6_ints_25 rfl ?_
      refine x_iload_n dX6_ints_26 rfl rfl ?_
      obtain ⟨-, -, cc, hcc, -⟩ := hW.ob 3 (by decide)
      refine c_invV (vs := [.int 1, .int x2]) dX6_ints_27 oX3_wrong q1323 q1550 hcc q1324 (Or.inl rfl) rfl rfl (Nat.le_of_ble_eq_true rfl) rfl hW hF hT ?_ ?_
      · intro _ s5 f6 hT h hW hF
        obtain ⟨rfl, hT⟩ := hT
        refine x_athrow dX6_ints_30 ?_
        exact c_out (hsr_skip (by decide) (rfl)) hW (Or.inl ⟨rfl, rfl⟩) hF hT
      · intro k s5 f6 hT h a hW hx hF
        exact c_out (hsr_skip (by decide) (rfl)) hW hx hF hT
    · replace hT := hT.1 hn
      obtain ⟨hb, hr, hT⟩ := hT
      refine c_newarrayG (t := 0) dX6_ints_17 (by decide) rfl hn hb hr hW hF ?_
      intro a1 f2 ea1 ef2 h hW hF
      replace hT := hT a1 f2 ea1 ef2
      exact x_aret dX6_ints_19 rfl (by first | exact Or.inl ⟨_, rfl⟩ | exact Or.inr ⟨_, rfl⟩) rfl ⟨_, _, hW, hF, Or.inl ⟨_, rfl, hT⟩⟩
  · replace hT := hT.2 c
    refine x_aload_n dX6_ints_6 rfl rfl rfl ?_
    refine c_getO dX6_ints_7 f_TallySlate_Maker_9 (by decide) (by decide) rfl hW ?_
    refine x_iconst (v := 2) dX6_ints_10 rfl ?_
    refine x_iload_n dX6_ints_11 rfl rfl ?_
    obtain ⟨-, -, cc, hcc, -⟩ := hW.ob 3 (by decide)
    refine c_invV (vs := [.int 2, .int x2]) dX6_ints_12 oX3_wrong q1323 q1550 hcc q1324 (Or.inl rfl) rfl rfl (Nat.le_of_ble_eq_true rfl) rfl hW hF hT ?_ ?_
    · intro _ s7 f8 hT h hW hF
      obtain ⟨rfl, hT⟩ := hT
      refine x_athrow dX6_ints_15 ?_
      exact c_out (hsr_skip (by decide) (rfl)) hW (Or.inl ⟨rfl, rfl⟩) hF hT
    · intro k s7 f8 hT h a hW hx hF
      exact c_out (hsr_skip (by decide) (rfl)) hW hx hF hT
theorem eX6_ints {l : Launch} {E : EN} {w : CO} {d : Nat} {s : CS} {f : RH} {Q : KO → CS → RH → Prop} {x1 : Int32} {x2 : Int32}  (hst : l.stackTraces = false) (hT : ((x1 ≤ 64 → ((¬ x1 < 0 → x1.toNatClampNeg ≤ 60000000 ∧ rmF E f 1 x1.toNatClampNeg ∧ ∀ (a1 : Nat) (f2 : RH), a1 = f.1 → f2 = fnewA f 0 x1.toNatClampNeg → Q (.inl (some (.ref a1))) s f2) ∧ (x1 < 0 → (rmF E f 3 222 ∧ (∀ (a4 : Nat) (f3 : RH), f3 = fexc f → (EvC l E w d MX3_wrong [.ref (w.1 3), .int 1, .int x2] s f3 (fun o s5 f6 => KP o (fun r => r = some (.ref (w.1 9)) ∧ Q (.inr 9) s5 f6) (fun k => Q (.inr k) s5 f6)))))))) ∧ (¬ x1 ≤ 64 → (EvC l E w d MX3_wrong [.ref (w.1 3), .int 2, .int x2] s f (fun o s7 f8 => KP o (fun r => r = some (.ref (w.1 9)) ∧ Q (.inr 9) s7 f8) (fun k => Q (.inr k) s7 f8)))))) : EvC l E w (d + 1) MX6_ints [.ref (w.1 6), .int x1, .int x2] s f Q :=
  EvC.of hst (by decide) (Nat.le_of_ble_eq_true rfl) (vX6_ints_0  hT)
