/-! weakest preconditions of methods of the model: printed by wp.py -/
set_option maxRecDepth 100000
set_option maxHeartbeats 16000000 in
theorem vX10_act_0 {l : Launch} {E : EN} {w : MO} {d : Nat} {s : MS} {Q : Option Value → MS → Prop} {x1 : Int32} {x2 : Int32} {x3 : Int32} (hT : ((x1 = 37 → (¬ x3 = 0 ∧ Q (some (.int (x2 - x2 / x3 * x3))) s)) ∧ (¬ x1 = 37 → ((x1 = 38 → Q (some (.int (x2 &&& x3))) s) ∧ (¬ x1 = 38 → ((x1 = 42 → Q (some (.int (x2 * x3))) s) ∧ (¬ x1 = 42 → ((x1 = 43 → Q (some (.int (x2 + x3))) s) ∧ (¬ x1 = 43 → ((x1 = 45 → Q (some (.int (x2 - x3))) s) ∧ (¬ x1 = 45 → ((x1 = 47 → (¬ x3 = 0 ∧ Q (some (.int (x2 / x3))) s)) ∧ (¬ x1 = 47 → ((x1 = 60 → ((x3 ≤ x2 → Q (some (.int 0)) s) ∧ (¬ x3 ≤ x2 → Q (some (.int 1)) s))) ∧ (¬ x1 = 60 → ((x1 = 62 → ((x2 ≤ x3 → Q (some (.int 0)) s) ∧ (¬ x2 ≤ x3 → Q (some (.int 1)) s))) ∧ (¬ x1 = 62 → ((x1 = 124 → Q (some (.int (x2 ||| x3))) s) ∧ (¬ x1 = 124 → ((x1 = 256 → ((¬ x2 = x3 → Q (some (.int 0)) s) ∧ (x2 = x3 → Q (some (.int 1)) s))) ∧ (¬ x1 = 256 → ((x1 = 257 → ((x2 = x3 → Q (some (.int 0)) s) ∧ (¬ x2 = x3 → Q (some (.int 1)) s))) ∧ (¬ x1 = 257 → ((x1 = 258 → ((x3 < x2 → Q (some (.int 0)) s) ∧ (¬ x3 < x2 → Q (some (.int 1)) s))) ∧ (¬ x1 = 258 → (((x2 < x3 → Q (some (.int 0)) s) ∧ (¬ x2 < x3 → Q (some (.int 1)) s)))))))))))))))))))))))))))) : ExM l E w d MX10_act 0 [some (.int x1), some (.int x2), some (.int x3)] [] s Q := by
  intro h0 h hW hF
  refine x_iload_n dX10_act_0 rfl rfl ?_
  by_cases c : x1 = 37
  · have hT := hT.1 c
    refine x_lookup (tgt := 124) (off := 123) dX10_act_1 (by decide) (by rw [c]; decide) rfl ?_
    refine x_iload_n dX10_act_124 rfl rfl ?_
    refine x_iload_n dX10_act_125 rfl rfl ?_
    obtain ⟨hb, hT⟩ := hT
    refine x_irem dX10_act_126 hb ?_
    exact x_iret dX10_act_127 rfl rfl ⟨_, _, rfl, hW, hF, hT⟩
  · have hT := hT.2 c
    have cs0 := c
    by_cases c : x1 = 38
    · have hT := hT.1 c
      refine x_lookup (tgt := 128) (off := 127) dX10_act_1 (by decide) (by rw [c]; decide) rfl ?_
      refine x_iload_n dX10_act_128 rfl rfl ?_
      refine x_iload_n dX10_act_129 rfl rfl ?_
      refine x_iand dX10_act_130 ?_
      exact x_iret dX10_act_131 rfl rfl ⟨_, _, rfl, hW, hF, hT⟩
    · have hT := hT.2 c
      have cs1 := c
      by_cases c : x1 = 42
      · have hT := hT.1 c
        refine x_lookup (tgt := 116) (off := 115) dX10_act_1 (by decide) (by rw [c]; decide) rfl ?_
        refine x_iload_n dX10_act_116 rfl rfl ?_
        refine x_iload_n dX10_act_117 rfl rfl ?_
        refine x_imul dX10_act_118 ?_
        exact x_iret dX10_act_119 rfl rfl ⟨_, _, rfl, hW, hF, hT⟩
      · have hT := hT.2 c
        have cs2 := c
        by_cases c : x1 = 43
        · have hT := hT.1 c
          refine x_lookup (tgt := 108) (off := 107) dX10_act_1 (by decide) (by rw [c]; decide) rfl ?_
          refine x_iload_n dX10_act_108 rfl rfl ?_
          refine x_iload_n dX10_act_109 rfl rfl ?_
          refine x_iadd dX10_act_110 ?_
          exact x_iret dX10_act_111 rfl rfl ⟨_, _, rfl, hW, hF, hT⟩
        · have hT := hT.2 c
          have cs3 := c
          by_cases c : x1 = 45
          · have hT := hT.1 c
            refine x_lookup (tgt := 112) (off := 111) dX10_act_1 (by decide) (by rw [c]; decide) rfl ?_
            refine x_iload_n dX10_act_112 rfl rfl ?_
            refine x_iload_n dX10_act_113 rfl rfl ?_
            refine x_isub dX10_act_114 ?_
            exact x_iret dX10_act_115 rfl rfl ⟨_, _, rfl, hW, hF, hT⟩
          · have hT := hT.2 c
            have cs4 := c
            by_cases c : x1 = 47
            · have hT := hT.1 c
              refine x_lookup (tgt := 120) (off := 119) dX10_act_1 (by decide) (by rw [c]; decide) rfl ?_
              refine x_iload_n dX10_act_120 rfl rfl ?_
              refine x_iload_n dX10_act_121 rfl rfl ?_
              obtain ⟨hb, hT⟩ := hT
              refine x_idiv dX10_act_122 hb ?_
              exact x_iret dX10_act_123 rfl rfl ⟨_, _, rfl, hW, hF, hT⟩
            · have hT := hT.2 c
              have cs5 := c
              by_cases c : x1 = 60
              · have hT := hT.1 c
                refine x_lookup (tgt := 158) (off := 157) dX10_act_1 (by decide) (by rw [c]; decide) rfl ?_
                refine x_iload_n dX10_act_158 rfl rfl ?_
                refine x_iload_n dX10_act_159 rfl rfl ?_
                refine x_icmp_ge (tgt := 167) dX10_act_160 rfl (fun c => ?_) (fun c => ?_)
                · have hT := hT.1 c
                  refine x_iconst (v := 0) dX10_act_167 rfl ?_
                  exact x_iret dX10_act_168 rfl rfl ⟨_, _, rfl, hW, hF, hT⟩
                · have hT := hT.2 c
                  refine x_iconst (v := 1) dX10_act_163 rfl ?_
                  refine x_goto (tgt := 168) dX10_act_164 rfl ?_
                  exact x_iret dX10_act_168 rfl rfl ⟨_, _, rfl, hW, hF, hT⟩
              · have hT := hT.2 c
                have cs6 := c
                by_cases c : x1 = 62
                · have hT := hT.1 c
                  refine x_lookup (tgt := 180) (off := 179) dX10_act_1 (by decide) (by rw [c]; decide) rfl ?_
                  refine x_iload_n dX10_act_180 rfl rfl ?_
                  refine x_iload_n dX10_act_181 rfl rfl ?_
                  refine x_icmp_le (tgt := 189) dX10_act_182 rfl (fun c => ?_) (fun c => ?_)
                  · have hT := hT.1 c
                    refine x_iconst (v := 0) dX10_act_189 rfl ?_
                    exact x_iret dX10_act_190 rfl rfl ⟨_, _, rfl, hW, hF, hT⟩
                  · have hT := hT.2 c
                    refine x_iconst (v := 1) dX10_act_185 rfl ?_
                    refine x_goto (tgt := 190) dX10_act_186 rfl ?_
                    exact x_iret dX10_act_190 rfl rfl ⟨_, _, rfl, hW, hF, hT⟩
                · have hT := hT.2 c
                  have cs7 := c
                  by_cases c : x1 = 124
                  · have hT := hT.1 c
                    refine x_lookup (tgt := 132) (off := 131) dX10_act_1 (by decide) (by rw [c]; decide) rfl ?_
                    refine x_iload_n dX10_act_132 rfl rfl ?_
                    refine x_iload_n dX10_act_133 rfl rfl ?_
                    refine x_ior dX10_act_134 ?_
                    exact x_iret dX10_act_135 rfl rfl ⟨_, _, rfl, hW, hF, hT⟩
                  · have hT := hT.2 c
                    have cs8 := c
                    by_cases c : x1 = 256
                    · have hT := hT.1 c
                      refine x_lookup (tgt := 136) (off := 135) dX10_act_1 (by decide) (by rw [c]; decide) rfl ?_
                      refine x_iload_n dX10_act_136 rfl rfl ?_
                      refine x_iload_n dX10_act_137 rfl rfl ?_
                      refine x_icmp_ne (tgt := 145) dX10_act_138 rfl (fun c => ?_) (fun c => ?_)
                      · have hT := hT.1 c
                        refine x_iconst (v := 0) dX10_act_145 rfl ?_
                        exact x_iret dX10_act_146 rfl rfl ⟨_, _, rfl, hW, hF, hT⟩
                      · have hT := hT.2 c
                        refine x_iconst (v := 1) dX10_act_141 rfl ?_
                        refine x_goto (tgt := 146) dX10_act_142 rfl ?_
                        exact x_iret dX10_act_146 rfl rfl ⟨_, _, rfl, hW, hF, hT⟩
                    · have hT := hT.2 c
                      have cs9 := c
                      by_cases c : x1 = 257
                      · have hT := hT.1 c
                        refine x_lookup (tgt := 147) (off := 146) dX10_act_1 (by decide) (by rw [c]; decide) rfl ?_
                        refine x_iload_n dX10_act_147 rfl rfl ?_
                        refine x_iload_n dX10_act_148 rfl rfl ?_
                        refine x_icmp_eq (tgt := 156) dX10_act_149 rfl (fun c => ?_) (fun c => ?_)
                        · have hT := hT.1 c
                          refine x_iconst (v := 0) dX10_act_156 rfl ?_
                          exact x_iret dX10_act_157 rfl rfl ⟨_, _, rfl, hW, hF, hT⟩
                        · have hT := hT.2 c
                          refine x_iconst (v := 1) dX10_act_152 rfl ?_
                          refine x_goto (tgt := 157) dX10_act_153 rfl ?_
                          exact x_iret dX10_act_157 rfl rfl ⟨_, _, rfl, hW, hF, hT⟩
                      · have hT := hT.2 c
                        have cs10 := c
                        by_cases c : x1 = 258
                        · have hT := hT.1 c
                          refine x_lookup (tgt := 169) (off := 168) dX10_act_1 (by decide) (by rw [c]; decide) rfl ?_
                          refine x_iload_n dX10_act_169 rfl rfl ?_
                          refine x_iload_n dX10_act_170 rfl rfl ?_
                          refine x_icmp_gt (tgt := 178) dX10_act_171 rfl (fun c => ?_) (fun c => ?_)
                          · have hT := hT.1 c
                            refine x_iconst (v := 0) dX10_act_178 rfl ?_
                            exact x_iret dX10_act_179 rfl rfl ⟨_, _, rfl, hW, hF, hT⟩
                          · have hT := hT.2 c
                            refine x_iconst (v := 1) dX10_act_174 rfl ?_
                            refine x_goto (tgt := 179) dX10_act_175 rfl ?_
                            exact x_iret dX10_act_179 rfl rfl ⟨_, _, rfl, hW, hF, hT⟩
                        · have hT := hT.2 c
                          have cs11 := c
                          refine x_lookup (tgt := 191) (off := 190) dX10_act_1 (by decide) (lkd _ _ _ (fun q hq => by
                            simp only [List.mem_cons, List.not_mem_nil, or_false] at hq
                            rcases hq with rfl | rfl | rfl | rfl | rfl | rfl | rfl | rfl | rfl | rfl | rfl | rfl
                            · exact fun h => cs0 (i32_of (h.symm.trans (show (37 : Int) = (37 : Int32).toInt from by decide)))
                            · exact fun h => cs1 (i32_of (h.symm.trans (show (38 : Int) = (38 : Int32).toInt from by decide)))
                            · exact fun h => cs2 (i32_of (h.symm.trans (show (42 : Int) = (42 : Int32).toInt from by decide)))
                            · exact fun h => cs3 (i32_of (h.symm.trans (show (43 : Int) = (43 : Int32).toInt from by decide)))
                            · exact fun h => cs4 (i32_of (h.symm.trans (show (45 : Int) = (45 : Int32).toInt from by decide)))
                            · exact fun h => cs5 (i32_of (h.symm.trans (show (47 : Int) = (47 : Int32).toInt from by decide)))
                            · exact fun h => cs6 (i32_of (h.symm.trans (show (60 : Int) = (60 : Int32).toInt from by decide)))
                            · exact fun h => cs7 (i32_of (h.symm.trans (show (62 : Int) = (62 : Int32).toInt from by decide)))
                            · exact fun h => cs8 (i32_of (h.symm.trans (show (124 : Int) = (124 : Int32).toInt from by decide)))
                            · exact fun h => cs9 (i32_of (h.symm.trans (show (256 : Int) = (256 : Int32).toInt from by decide)))
                            · exact fun h => cs10 (i32_of (h.symm.trans (show (257 : Int) = (257 : Int32).toInt from by decide)))
                            · exact fun h => cs11 (i32_of (h.symm.trans (show (258 : Int) = (258 : Int32).toInt from by decide))))) rfl ?_
                          refine x_iload_n dX10_act_191 rfl rfl ?_
                          refine x_iload_n dX10_act_192 rfl rfl ?_
                          refine x_icmp_lt (tgt := 200) dX10_act_193 rfl (fun c => ?_) (fun c => ?_)
                          · have hT := hT.1 c
                            refine x_iconst (v := 0) dX10_act_200 rfl ?_
                            exact x_iret dX10_act_201 rfl rfl ⟨_, _, rfl, hW, hF, hT⟩
                          · have hT := hT.2 c
                            refine x_iconst (v := 1) dX10_act_196 rfl ?_
                            refine x_goto (tgt := 201) dX10_act_197 rfl ?_
                            exact x_iret dX10_act_201 rfl rfl ⟨_, _, rfl, hW, hF, hT⟩
theorem eX10_act {l : Launch} {E : EN} {w : MO} {d : Nat} {s : MS} {Q : Option Value → MS → Prop} {x1 : Int32} {x2 : Int32} {x3 : Int32} (hst : l.stackTraces = false) (hT : ((x1 = 37 → (¬ x3 = 0 ∧ Q (some (.int (x2 - x2 / x3 * x3))) s)) ∧ (¬ x1 = 37 → ((x1 = 38 → Q (some (.int (x2 &&& x3))) s) ∧ (¬ x1 = 38 → ((x1 = 42 → Q (some (.int (x2 * x3))) s) ∧ (¬ x1 = 42 → ((x1 = 43 → Q (some (.int (x2 + x3))) s) ∧ (¬ x1 = 43 → ((x1 = 45 → Q (some (.int (x2 - x3))) s) ∧ (¬ x1 = 45 → ((x1 = 47 → (¬ x3 = 0 ∧ Q (some (.int (x2 / x3))) s)) ∧ (¬ x1 = 47 → ((x1 = 60 → ((x3 ≤ x2 → Q (some (.int 0)) s) ∧ (¬ x3 ≤ x2 → Q (some (.int 1)) s))) ∧ (¬ x1 = 60 → ((x1 = 62 → ((x2 ≤ x3 → Q (some (.int 0)) s) ∧ (¬ x2 ≤ x3 → Q (some (.int 1)) s))) ∧ (¬ x1 = 62 → ((x1 = 124 → Q (some (.int (x2 ||| x3))) s) ∧ (¬ x1 = 124 → ((x1 = 256 → ((¬ x2 = x3 → Q (some (.int 0)) s) ∧ (x2 = x3 → Q (some (.int 1)) s))) ∧ (¬ x1 = 256 → ((x1 = 257 → ((x2 = x3 → Q (some (.int 0)) s) ∧ (¬ x2 = x3 → Q (some (.int 1)) s))) ∧ (¬ x1 = 257 → ((x1 = 258 → ((x3 < x2 → Q (some (.int 0)) s) ∧ (¬ x3 < x2 → Q (some (.int 1)) s))) ∧ (¬ x1 = 258 → (((x2 < x3 → Q (some (.int 0)) s) ∧ (¬ x2 < x3 → Q (some (.int 1)) s)))))))))))))))))))))))))))) : EvM l E w d MX10_act [.int x1, .int x2, .int x3] s Q :=
  EvM.of hst (by decide) (Nat.le_of_ble_eq_true rfl) (vX10_act_0 hT)
theorem vX10_beside_0 {l : Launch} {E : EN} {w : MO} {d : Nat} {s : MS} {Q : Option Value → MS → Prop} {x1 : Int32} {x2 : Int32} {x3 : Int32} (hT : ((¬ x1 = 0 → (inB x2 166300 ∧ ((¬ (s.2.2.1 104 x2.toNatClampNeg) = 2 → Q (some (.int x2)) s) ∧ ((s.2.2.1 104 x2.toNatClampNeg) = 2 → (EvM l E w d MX10_partAt [.ref w.1, .int x2, .int x3] s (fun r s1 => ∃ v2 : Int32, r = some (.int v2) ∧ Q (some (.int v2)) s1)))))) ∧ (x1 = 0 → Q (some (.int (-1))) s))) : ExM l E w (d + 1) MX10_beside 0 [some (.ref w.1), some (.int x1), some (.int x2), some (.int x3)] [] s Q := by
  intro h0 h hW hF
  refine x_iload_n dX10_beside_0 rfl rfl ?_
  refine x_if_ne (tgt := 8) dX10_beside_1 rfl (fun c => ?_) (fun c => ?_)
  · have hT := hT.1 c
    refine x_aload_n dX10_beside_8 rfl rfl rfl ?_
    refine m_geta dX10_beside_9 f_TallySlateModel_183 (by decide) rfl hW ?_
    refine x_iload_n dX10_beside_12 rfl rfl ?_
    obtain ⟨hb, hT⟩ := hT
    refine m_iald (v := (s.2.2.1 104 x2.toNatClampNeg)) dX10_beside_13 rfl hb hW rfl ?_
    refine x_iconst (v := 2) dX10_beside_14 rfl ?_
    refine x_icmp_ne (tgt := 27) dX10_beside_15 rfl (fun c => ?_) (fun c => ?_)
    · have hT := hT.1 c
      refine x_iload_n dX10_beside_27 rfl rfl ?_
      exact x_iret dX10_beside_28 rfl rfl ⟨_, _, rfl, hW, hF, hT⟩
    · have hT := hT.2 c
      refine x_aload_n dX10_beside_18 rfl rfl rfl ?_
      refine x_iload_n dX10_beside_19 rfl rfl ?_
      refine x_iload_n dX10_beside_20 rfl rfl ?_
      refine m_inv (vs := [.int x2, .int x3]) dX10_beside_21 oX10_partAt q2751 q2749 qs111 rfl rfl (Nat.le_of_ble_eq_true rfl) rfl hW hF hT ?_
      rintro _ s1 ⟨v2, rfl, hT⟩ h hW hF
      refine x_goto (tgt := 28) dX10_beside_24 rfl ?_
      exact x_iret dX10_beside_28 rfl rfl ⟨_, _, rfl, hW, hF, hT⟩
  · have hT := hT.2 c
    refine x_iconst (v := (-1)) dX10_beside_4 rfl ?_
    refine x_goto (tgt := 28) dX10_beside_5 rfl ?_
    exact x_iret dX10_beside_28 rfl rfl ⟨_, _, rfl, hW, hF, hT⟩
theorem eX10_beside {l : Launch} {E : EN} {w : MO} {d : Nat} {s : MS} {Q : Option Value → MS → Prop} {x1 : Int32} {x2 : Int32} {x3 : Int32} (hst : l.stackTraces = false) (hT : ((¬ x1 = 0 → (inB x2 166300 ∧ ((¬ (s.2.2.1 104 x2.toNatClampNeg) = 2 → Q (some (.int x2)) s) ∧ ((s.2.2.1 104 x2.toNatClampNeg) = 2 → (EvM l E w d MX10_partAt [.ref w.1, .int x2, .int x3] s (fun r s1 => ∃ v2 : Int32, r = some (.int v2) ∧ Q (some (.int v2)) s1)))))) ∧ (x1 = 0 → Q (some (.int (-1))) s))) : EvM l E w (d + 1) MX10_beside [.ref w.1, .int x1, .int x2, .int x3] s Q :=
  EvM.of hst (by decide) (Nat.le_of_ble_eq_true rfl) (vX10_beside_0 hT)
theorem vX10_literal_0 {l : Launch} {E : EN} {w : MO} {d : Nat} {s : MS} {Q : Option Value → MS → Prop} {x1 : Int32} (hT : ExM l E w (d + 1) MX10_literal 7 [some (.ref w.1), some (.int x1), some (.int 1), some (.int 1), some (.int x1)] [] s Q) : ExM l E w (d + 1) MX10_literal 0 [some (.ref w.1), some (.int x1), none, none, none] [] s Q := by
  intro h0 h hW hF
  refine x_iconst (v := 1) dX10_literal_0 rfl ?_
  refine x_istore_n (lo' := [some (.ref w.1), some (.int x1), some (.int 1), none, none]) dX10_literal_1 rfl (Nat.le_of_ble_eq_true rfl) rfl ?_
  refine x_iconst (v := 1) dX10_literal_2 rfl ?_
  refine x_istore_n (lo' := [some (.ref w.1), some (.int x1), some (.int 1), some (.int 1), none]) dX10_literal_3 rfl (Nat.le_of_ble_eq_true rfl) rfl ?_
  refine x_iload_n dX10_literal_4 rfl rfl ?_
  refine x_istore (lo' := [some (.ref w.1), some (.int x1), some (.int 1), some (.int 1), some (.int x1)]) dX10_literal_5 (Nat.le_of_ble_eq_true rfl) rfl ?_
  exact hT h0 h hW hF
theorem eX10_literal {l : Launch} {E : EN} {w : MO} {d : Nat} {s : MS} {Q : Option Value → MS → Prop} {x1 : Int32} (hst : l.stackTraces = false) (hT : ExM l E w (d + 1) MX10_literal 7 [some (.ref w.1), some (.int x1), some (.int 1), some (.int 1), some (.int x1)] [] s Q) : EvM l E w (d + 1) MX10_literal [.ref w.1, .int x1] s Q :=
  EvM.of hst (by decide) (Nat.le_of_ble_eq_true rfl) (vX10_literal_0 hT)
set_option maxHeartbeats 16000000 in
theorem vX10_literal_7 {l : Launch} {E : EN} {w : MO} {d : Nat} {s : MS} {Q : Option Value → MS → Prop} {a1 : Int32} {a2 : Int32} {a3 : Int32} {a4 : Int32} (hT : (((s.1 108) ≤ a4 → ((a2 = 0 → ((a3 = 0 → (EvM l E w d MX10_trouble [.ref w.1, .int 3, .int (s.1 127)] s (fun r s1 => r = none ∧ Q none s1))) ∧ (¬ a3 = 0 → (EvM l E w d MX10_builds [.ref w.1, .int 2, .int a1] s (fun r s2 => r = none ∧ Q none s2))))) ∧ (¬ a2 = 0 → (EvM l E w d MX10_builds [.ref w.1, .int 1, .int a1] s (fun r s3 => r = none ∧ Q none s3))))) ∧ (¬ (s.1 108) ≤ a4 → ((a2 = 0 → ((a3 = 0 → ExM l E w (d + 1) MX10_literal 7 [some (.ref w.1), some (.int a1), some (.int 0), some (.int 0), some (.int (a4 + 1))] [] s Q) ∧ (¬ a3 = 0 → (EvM l E w d MX10_kindAt [.ref w.1, .int a4] s (fun r s4 => ∃ v5 : Int32, r = some (.int v5) ∧ ((¬ v5 = 1 → ExM l E w (d + 1) MX10_literal 7 [some (.ref w.1), some (.int a1), some (.int 0), some (.int 0), some (.int (a4 + 1))] [] s4 Q) ∧ (v5 = 1 → ExM l E w (d + 1) MX10_literal 7 [some (.ref w.1), some (.int a1), some (.int 0), some (.int 1), some (.int (a4 + 1))] [] s4 Q))))))) ∧ (¬ a2 = 0 → (inB a4 9000 ∧ ((¬ (s.2.2.1 106 a4.toNatClampNeg) = 0 → ((a3 = 0 → ExM l E w (d + 1) MX10_literal 7 [some (.ref w.1), some (.int a1), some (.int 0), some (.int 0), some (.int (a4 + 1))] [] s Q) ∧ (¬ a3 = 0 → (EvM l E w d MX10_kindAt [.ref w.1, .int a4] s (fun r s6 => ∃ v7 : Int32, r = some (.int v7) ∧ ((¬ v7 = 1 → ExM l E w (d + 1) MX10_literal 7 [some (.ref w.1), some (.int a1), some (.int 0), some (.int 0), some (.int (a4 + 1))] [] s6 Q) ∧ (v7 = 1 → ExM l E w (d + 1) MX10_literal 7 [some (.ref w.1), some (.int a1), some (.int 0), some (.int 1), some (.int (a4 + 1))] [] s6 Q))))))) ∧ ((s.2.2.1 106 a4.toNatClampNeg) = 0 → ((a3 = 0 → ExM l E w (d + 1) MX10_literal 7 [some (.ref w.1), some (.int a1), some (.int 1), some (.int 0), some (.int (a4 + 1))] [] s Q) ∧ (¬ a3 = 0 → (EvM l E w d MX10_kindAt [.ref w.1, .int a4] s (fun r s8 => ∃ v9 : Int32, r = some (.int v9) ∧ ((¬ v9 = 1 → ExM l E w (d + 1) MX10_literal 7 [some (.ref w.1), some (.int a1), some (.int 1), some (.int 0), some (.int (a4 + 1))] [] s8 Q) ∧ (v9 = 1 → ExM l E w (d + 1) MX10_literal 7 [some (.ref w.1), some (.int a1), some (.int 1), some (.int 1), some (.int (a4 + 1))] [] s8 Q)))))))))))))) : ExM l E w (d + 1) MX10_literal 7 [some (.ref w.1), some (.int a1), some (.int a2), some (.int a3), some (.int a4)] [] s Q := by
  intro h0 h hW hF
  refine x_iload dX10_literal_7 rfl ?_
  refine x_aload_n dX10_literal_9 rfl rfl rfl ?_
  refine m_geti (v := (s.1 108)) dX10_literal_10 f_TallySlateModel_461 (by decide) rfl hW rfl ?_
  refine x_icmp_ge (tgt := 62) dX10_literal_13 rfl (fun c => ?_) (fun c => ?_)
  · have hT := hT.1 c
    refine x_iload_n dX10_literal_62 rfl rfl ?_
    refine x_if_eq (tgt := 75) dX10_literal_63 rfl (fun c => ?_) (fun c => ?_)
    · have hT := hT.1 c
      refine x_iload_n dX10_literal_75 rfl rfl ?_
      refine x_if_eq (tgt := 88) dX10_literal_76 rfl (fun c => ?_) (fun c => ?_)
      · have hT := hT.1 c
        refine x_aload_n dX10_literal_88 rfl rfl rfl ?_
        refine x_iconst (v := 3) dX10_literal_89 rfl ?_
        refine x_aload_n dX10_literal_90 rfl rfl rfl ?_
        refine m_geti (v := (s.1 127)) dX10_literal_91 f_TallySlateModel_507 (by decide) rfl hW rfl ?_
        refine m_inv (vs := [.int 3, .int (s.1 127)]) dX10_literal_94 oX10_trouble q2696 q2694 qs98 rfl rfl (Nat.le_of_ble_eq_true rfl) rfl hW hF hT ?_
        rintro _ s1 ⟨rfl, hT⟩ h hW hF
        exact x_vret dX10_literal_97 rfl ⟨_, _, rfl, hW, hF, hT⟩
      · have hT := hT.2 c
        refine x_aload_n dX10_literal_79 rfl rfl rfl ?_
        refine x_iconst (v := 2) dX10_literal_80 rfl ?_
        refine x_iload_n dX10_literal_81 rfl rfl ?_
        refine m_inv (vs := [.int 2, .int a1]) dX10_literal_82 oX10_builds q2739 q2737 qs108 rfl rfl (Nat.le_of_ble_eq_true rfl) rfl hW hF hT ?_
        rintro _ s2 ⟨rfl, hT⟩ h hW hF
        refine x_goto (tgt := 97) dX10_literal_85 rfl ?_
        exact x_vret dX10_literal_97 rfl ⟨_, _, rfl, hW, hF, hT⟩
    · have hT := hT.2 c
      refine x_aload_n dX10_literal_66 rfl rfl rfl ?_
      refine x_iconst (v := 1) dX10_literal_67 rfl ?_
      refine x_iload_n dX10_literal_68 rfl rfl ?_
      refine m_inv (vs := [.int 1, .int a1]) dX10_literal_69 oX10_builds q2739 q2737 qs108 rfl rfl (Nat.le_of_ble_eq_true rfl) rfl hW hF hT ?_
      rintro _ s3 ⟨rfl, hT⟩ h hW hF
      refine x_goto (tgt := 97) dX10_literal_72 rfl ?_
      exact x_vret dX10_literal_97 rfl ⟨_, _, rfl, hW, hF, hT⟩
  · have hT := hT.2 c
    refine x_iload_n dX10_literal_16 rfl rfl ?_
    refine x_if_eq (tgt := 34) dX10_literal_17 rfl (fun c => ?_) (fun c => ?_)
    · have hT := hT.1 c
      refine x_iconst (v := 0) dX10_literal_34 rfl ?_
      refine x_istore_n (lo' := [some (.ref w.1), some (.int a1), some (.int 0), some (.int a3), some (.int a4)]) dX10_literal_35 rfl (Nat.le_of_ble_eq_true rfl) rfl ?_
      refine x_iload_n dX10_literal_36 rfl rfl ?_
      refine x_if_eq (tgt := 54) dX10_literal_37 rfl (fun c => ?_) (fun c => ?_)
      · have hT := hT.1 c
        refine x_iconst (v := 0) dX10_literal_54 rfl ?_
        refine x_istore_n (lo' := [some (.ref w.1), some (.int a1), some (.int 0), some (.int 0), some (.int a4)]) dX10_literal_55 rfl (Nat.le_of_ble_eq_true rfl) rfl ?_
        refine x_iinc (lo' := [some (.ref w.1), some (.int a1), some (.int 0), some (.int 0), some (.int (a4 + 1))]) dX10_literal_56 rfl (show _ = (a4 + 1) from rfl) rfl ?_
        refine x_goto (tgt := 7) dX10_literal_59 rfl ?_
        exact hT h0 h hW hF
      · have hT := hT.2 c
        refine x_aload_n dX10_literal_40 rfl rfl rfl ?_
        refine x_iload dX10_literal_41 rfl ?_
        refine m_inv (vs := [.int a4]) dX10_literal_43 oX10_kindAt q2728 q2726 qs106 rfl rfl (Nat.le_of_ble_eq_true rfl) rfl hW hF hT ?_
        rintro _ s4 ⟨v5, rfl, hT⟩ h hW hF
        refine x_iconst (v := 1) dX10_literal_46 rfl ?_
        refine x_icmp_ne (tgt := 54) dX10_literal_47 rfl (fun c => ?_) (fun c => ?_)
        · have hT := hT.1 c
          refine x_iconst (v := 0) dX10_literal_54 rfl ?_
          refine x_istore_n (lo' := [some (.ref w.1), some (.int a1), some (.int 0), some (.int 0), some (.int a4)]) dX10_literal_55 rfl (Nat.le_of_ble_eq_true rfl) rfl ?_
          refine x_iinc (lo' := [some (.ref w.1), some (.int a1), some (.int 0), some (.int 0), some (.int (a4 + 1))]) dX10_literal_56 rfl (show _ = (a4 + 1) from rfl) rfl ?_
          refine x_goto (tgt := 7) dX10_literal_59 rfl ?_
          exact hT h0 h hW hF
        · have hT := hT.2 c
          refine x_iconst (v := 1) dX10_literal_50 rfl ?_
          refine x_goto (tgt := 55) dX10_literal_51 rfl ?_
          refine x_istore_n (lo' := [some (.ref w.1), some (.int a1), some (.int 0), some (.int 1), some (.int a4)]) dX10_literal_55 rfl (Nat.le_of_ble_eq_true rfl) rfl ?_
          refine x_iinc (lo' := [some (.ref w.1), some (.int a1), some (.int 0), some (.int 1), some (.int (a4 + 1))]) dX10_literal_56 rfl (show _ = (a4 + 1) from rfl) rfl ?_
          refine x_goto (tgt := 7) dX10_literal_59 rfl ?_
          exact hT h0 h hW hF
    · have hT := hT.2 c
      refine x_aload_n dX10_literal_20 rfl rfl rfl ?_
      refine m_geta dX10_literal_21 f_TallySlateModel_186 (by decide) rfl hW ?_
      refine x_iload dX10_literal_24 rfl ?_
      obtain ⟨hb, hT⟩ := hT
      refine m_iald (v := (s.2.2.1 106 a4.toNatClampNeg)) dX10_literal_26 rfl hb hW rfl ?_
      refine x_if_ne (tgt := 34) dX10_literal_27 rfl (fun c => ?_) (fun c => ?_)
      · have hT := hT.1 c
        refine x_iconst (v := 0) dX10_literal_34 rfl ?_
        refine x_istore_n (lo' := [some (.ref w.1), some (.int a1), some (.int 0), some (.int a3), some (.int a4)]) dX10_literal_35 rfl (Nat.le_of_ble_eq_true rfl) rfl ?_
        refine x_iload_n dX10_literal_36 rfl rfl ?_
        refine x_if_eq (tgt := 54) dX10_literal_37 rfl (fun c => ?_) (fun c => ?_)
        · have hT := hT.1 c
          refine x_iconst (v := 0) dX10_literal_54 rfl ?_
          refine x_istore_n (lo' := [some (.ref w.1), some (.int a1), some (.int 0), some (.int 0), some (.int a4)]) dX10_literal_55 rfl (Nat.le_of_ble_eq_true rfl) rfl ?_
          refine x_iinc (lo' := [some (.ref w.1), some (.int a1), some (.int 0), some (.int 0), some (.int (a4 + 1))]) dX10_literal_56 rfl (show _ = (a4 + 1) from rfl) rfl ?_
          refine x_goto (tgt := 7) dX10_literal_59 rfl ?_
          exact hT h0 h hW hF
        · have hT := hT.2 c
          refine x_aload_n dX10_literal_40 rfl rfl rfl ?_
          refine x_iload dX10_literal_41 rfl ?_
          refine m_inv (vs := [.int a4]) dX10_literal_43 oX10_kindAt q2728 q2726 qs106 rfl rfl (Nat.le_of_ble_eq_true rfl) rfl hW hF hT ?_
          rintro _ s6 ⟨v7, rfl, hT⟩ h hW hF
          refine x_iconst (v := 1) dX10_literal_46 rfl ?_
          refine x_icmp_ne (tgt := 54) dX10_literal_47 rfl (fun c => ?_) (fun c => ?_)
          · have hT := hT.1 c
            refine x_iconst (v := 0) dX10_literal_54 rfl ?_
            refine x_istore_n (lo' := [some (.ref w.1), some (.int a1), some (.int 0), some (.int 0), some (.int a4)]) dX10_literal_55 rfl (Nat.le_of_ble_eq_true rfl) rfl ?_
            refine x_iinc (lo' := [some (.ref w.1), some (.int a1), some (.int 0), some (.int 0), some (.int (a4 + 1))]) dX10_literal_56 rfl (show _ = (a4 + 1) from rfl) rfl ?_
            refine x_goto (tgt := 7) dX10_literal_59 rfl ?_
            exact hT h0 h hW hF
          · have hT := hT.2 c
            refine x_iconst (v := 1) dX10_literal_50 rfl ?_
            refine x_goto (tgt := 55) dX10_literal_51 rfl ?_
            refine x_istore_n (lo' := [some (.ref w.1), some (.int a1), some (.int 0), some (.int 1), some (.int a4)]) dX10_literal_55 rfl (Nat.le_of_ble_eq_true rfl) rfl ?_
            refine x_iinc (lo' := [some (.ref w.1), some (.int a1), some (.int 0), some (.int 1), some (.int (a4 + 1))]) dX10_literal_56 rfl (show _ = (a4 + 1) from rfl) rfl ?_
            refine x_goto (tgt := 7) dX10_literal_59 rfl ?_
            exact hT h0 h hW hF
      · have hT := hT.2 c
        refine x_iconst (v := 1) dX10_literal_30 rfl ?_
        refine x_goto (tgt := 35) dX10_literal_31 rfl ?_
        refine x_istore_n (lo' := [some (.ref w.1), some (.int a1), some (.int 1), some (.int a3), some (.int a4)]) dX10_literal_35 rfl (Nat.le_of_ble_eq_true rfl) rfl ?_
        refine x_iload_n dX10_literal_36 rfl rfl ?_
        refine x_if_eq (tgt := 54) dX10_literal_37 rfl (fun c => ?_) (fun c => ?_)
        · have hT := hT.1 c
          refine x_iconst (v := 0) dX10_literal_54 rfl ?_
          refine x_istore_n (lo' := [some (.ref w.1), some (.int a1), some (.int 1), some (.int 0), some (.int a4)]) dX10_literal_55 rfl (Nat.le_of_ble_eq_true rfl) rfl ?_
          refine x_iinc (lo' := [some (.ref w.1), some (.int a1), some (.int 1), some (.int 0), some (.int (a4 + 1))]) dX10_literal_56 rfl (show _ = (a4 + 1) from rfl) rfl ?_
          refine x_goto (tgt := 7) dX10_literal_59 rfl ?_
          exact hT h0 h hW hF
        · have hT := hT.2 c
          refine x_aload_n dX10_literal_40 rfl rfl rfl ?_
          refine x_iload dX10_literal_41 rfl ?_
          refine m_inv (vs := [.int a4]) dX10_literal_43 oX10_kindAt q2728 q2726 qs106 rfl rfl (Nat.le_of_ble_eq_true rfl) rfl hW hF hT ?_
          rintro _ s8 ⟨v9, rfl, hT⟩ h hW hF
          refine x_iconst (v := 1) dX10_literal_46 rfl ?_
          refine x_icmp_ne (tgt := 54) dX10_literal_47 rfl (fun c => ?_) (fun c => ?_)
          · have hT := hT.1 c
            refine x_iconst (v := 0) dX10_literal_54 rfl ?_
            refine x_istore_n (lo' := [some (.ref w.1), some (.int a1), some (.int 1), some (.int 0), some (.int a4)]) dX10_literal_55 rfl (Nat.le_of_ble_eq_true rfl) rfl ?_
            refine x_iinc (lo' := [some (.ref w.1), some (.int a1), some (.int 1), some (.int 0), some (.int (a4 + 1))]) dX10_literal_56 rfl (show _ = (a4 + 1) from rfl) rfl ?_
            refine x_goto (tgt := 7) dX10_literal_59 rfl ?_
            exact hT h0 h hW hF
          · have hT := hT.2 c
            refine x_iconst (v := 1) dX10_literal_50 rfl ?_
            refine x_goto (tgt := 55) dX10_literal_51 rfl ?_
            refine x_istore_n (lo' := [some (.ref w.1), some (.int a1), some (.int 1), some (.int 1), some (.int a4)]) dX10_literal_55 rfl (Nat.le_of_ble_eq_true rfl) rfl ?_
            refine x_iinc (lo' := [some (.ref w.1), some (.int a1), some (.int 1), some (.int 1), some (.int (a4 + 1))]) dX10_literal_56 rfl (show _ = (a4 + 1) from rfl) rfl ?_
            refine x_goto (tgt := 7) dX10_literal_59 rfl ?_
            exact hT h0 h hW hF
set_option maxHeartbeats 16000000 in
theorem vX10_index_0 {l : Launch} {E : EN} {w : MO} {d : Nat} {s : MS} {Q : Option Value → MS → Prop}  (hT : (EvM l E w d MX10_kindAt [.ref w.1, .int ((s.1 108) - 2)] s (fun r s1 => ∃ v2 : Int32, r = some (.int v2) ∧ (EvM l E w d MX10_kindAt [.ref w.1, .int ((s1.1 108) - 1)] s1 (fun r s3 => ∃ v4 : Int32, r = some (.int v4) ∧ (∀ y5 : Int32, y5 = ((s3.1 108) - 2) → (inB y5 9000 ∧ (∀ y6 : Int32, y6 = (s3.2.2.1 107 y5.toNatClampNeg) → (inB (y5 + 1) 9000 ∧ (∀ y7 : Int32, y7 = (s3.2.2.1 107 (y5 + 1).toNatClampNeg) → ((v2 = 0 → (EvM l E w d MX10_trouble [.ref w.1, .int 3, .int (s3.1 127)] (sI s3 108 ((s3.1 108) - 2)) (fun r s8 => r = none ∧ Q none s8))) ∧ (¬ v2 = 0 → ((v4 ≤ 1 → ((¬ v4 = 0 → (EvM l E w d MX10_sizeAt [.ref w.1, .int y7] (sI s3 108 ((s3.1 108) - 2)) (fun r s9 => ∃ v10 : Int32, r = some (.int v10) ∧ ExM l E w (d + 1) MX10_index 93 [some (.ref w.1), some (.int v2), some (.int v4), some (.int y5), some (.int y6), some (.int y7), some (.int v10), some (.int 0), none] [] s9 Q))) ∧ (v4 = 0 → ExM l E w (d + 1) MX10_index 93 [some (.ref w.1), some (.int v2), some (.int v4), some (.int y5), some (.int y6), some (.int y7), some (.int 1), some (.int 0), none] [] (sI s3 108 ((s3.1 108) - 2)) Q))) ∧ (¬ v4 ≤ 1 → (EvM l E w d MX10_trouble [.ref w.1, .int 3, .int (s3.1 127)] (sI s3 108 ((s3.1 108) - 2)) (fun r s11 => r = none ∧ Q none s11)))))))))))))))) : ExM l E w (d + 1) MX10_index 0 [some (.ref w.1), none, none, none, none, none, none, none, none] [] s Q := by
  intro h0 h hW hF
  refine x_aload_n dX10_index_0 rfl rfl rfl ?_
  refine x_aload_n dX10_index_1 rfl rfl rfl ?_
  refine m_geti (v := (s.1 108)) dX10_index_2 f_TallySlateModel_461 (by decide) rfl hW rfl ?_
  refine x_iconst (v := 2) dX10_index_5 rfl ?_
  refine x_isub dX10_index_6 ?_
  refine m_inv (vs := [.int ((s.1 108) - 2)]) dX10_index_7 oX10_kindAt q2728 q2726 qs106 rfl rfl (Nat.le_of_ble_eq_true rfl) rfl hW hF hT ?_
  rintro _ s1 ⟨v2, rfl, hT⟩ h hW hF
  refine x_istore_n (lo' := [some (.ref w.1), some (.int v2), none, none, none, none, none, none, none]) dX10_index_10 rfl (Nat.le_of_ble_eq_true rfl) rfl ?_
  refine x_aload_n dX10_index_11 rfl rfl rfl ?_
  refine x_aload_n dX10_index_12 rfl rfl rfl ?_
  refine m_geti (v := (s1.1 108)) dX10_index_13 f_TallySlateModel_461 (by decide) rfl hW rfl ?_
  refine x_iconst (v := 1) dX10_index_16 rfl ?_
  refine x_isub dX10_index_17 ?_
  refine m_inv (vs := [.int ((s1.1 108) - 1)]) dX10_index_18 oX10_kindAt q2728 q2726 qs106 rfl rfl (Nat.le_of_ble_eq_true rfl) rfl hW hF hT ?_
  rintro _ s3 ⟨v4, rfl, hT⟩ h hW hF
  refine x_istore_n (lo' := [some (.ref w.1), some (.int v2), some (.int v4), none, none, none, none, none, none]) dX10_index_21 rfl (Nat.le_of_ble_eq_true rfl) rfl ?_
  refine x_aload_n dX10_index_22 rfl rfl rfl ?_
  refine x_dup dX10_index_23 rfl ?_
  refine m_geti (v := (s3.1 108)) dX10_index_24 f_TallySlateModel_461 (by decide) rfl hW rfl ?_
  refine x_iconst (v := 2) dX10_index_27 rfl ?_
  refine x_isub dX10_index_28 ?_
  refine m_puti dX10_index_29 f_TallySlateModel_461 (by decide) rfl rfl rfl rfl hW hF ?_
  intro h hW hF
  refine x_aload_n dX10_index_32 rfl rfl rfl ?_
  refine m_geti (v := ((s3.1 108) - 2)) dX10_index_33 f_TallySlateModel_461 (by decide) rfl hW rfl ?_
  obtain ⟨y5, ey5⟩ : ∃ z : Int32, z = ((s3.1 108) - 2) := ⟨_, rfl⟩
  have hT := hT y5 ey5
  refine x_istore_n (lo' := [some (.ref w.1), some (.int v2), some (.int v4), some (.int y5), none, none, none, none, none]) dX10_index_36 rfl (Nat.le_of_ble_eq_true rfl) (by rw [ey5]; rfl) ?_
  refine x_aload_n dX10_index_37 rfl rfl rfl ?_
  refine m_geta dX10_index_38 f_TallySlateModel_189 (by decide) rfl hW ?_
  refine x_iload_n dX10_index_41 rfl rfl ?_
  obtain ⟨hb, hT⟩ := hT
  refine m_iald (v := (s3.2.2.1 107 y5.toNatClampNeg)) dX10_index_42 rfl hb hW rfl ?_
  obtain ⟨y6, ey6⟩ : ∃ z : Int32, z = (s3.2.2.1 107 y5.toNatClampNeg) := ⟨_, rfl⟩
  have hT := hT y6 ey6
  refine x_istore (lo' := [some (.ref w.1), some (.int v2), some (.int v4), some (.int y5), some (.int y6), none, none, none, none]) dX10_index_43 (Nat.le_of_ble_eq_true rfl) (by rw [ey6]; rfl) ?_
  refine x_aload_n dX10_index_45 rfl rfl rfl ?_
  refine m_geta dX10_index_46 f_TallySlateModel_189 (by decide) rfl hW ?_
  refine x_iload_n dX10_index_49 rfl rfl ?_
  refine x_iconst (v := 1) dX10_index_50 rfl ?_
  refine x_iadd dX10_index_51 ?_
  obtain ⟨hb, hT⟩ := hT
  refine m_iald (v := (s3.2.2.1 107 (y5 + 1).toNatClampNeg)) dX10_index_52 rfl hb hW rfl ?_
  obtain ⟨y7, ey7⟩ : ∃ z : Int32, z = (s3.2.2.1 107 (y5 + 1).toNatClampNeg) := ⟨_, rfl⟩
  have hT := hT y7 ey7
  refine x_istore (lo' := [some (.ref w.1), some (.int v2), some (.int v4), some (.int y5), some (.int y6), some (.int y7), none, none, none]) dX10_index_53 (Nat.le_of_ble_eq_true rfl) (by rw [ey7]; rfl) ?_
  refine x_iload_n dX10_index_55 rfl rfl ?_
  refine x_if_eq (tgt := 64) dX10_index_56 rfl (fun c => ?_) (fun c => ?_)
  · have hT := hT.1 c
    refine x_aload_n dX10_index_64 rfl rfl rfl ?_
    refine x_iconst (v := 3) dX10_index_65 rfl ?_
    refine x_aload_n dX10_index_66 rfl rfl rfl ?_
    refine m_geti (v := (s3.1 127)) dX10_index_67 f_TallySlateModel_507 (by decide) rfl hW rfl ?_
    refine m_inv (vs := [.int 3, .int (s3.1 127)]) dX10_index_70 oX10_trouble q2696 q2694 qs98 rfl rfl (Nat.le_of_ble_eq_true rfl) rfl hW hF hT ?_
    rintro _ s8 ⟨rfl, hT⟩ h hW hF
    exact x_vret dX10_index_73 rfl ⟨_, _, rfl, hW, hF, hT⟩
  · have hT := hT.2 c
    refine x_iload_n dX10_index_59 rfl rfl ?_
    refine x_iconst (v := 1) dX10_index_60 rfl ?_
    refine x_icmp_le (tgt := 74) dX10_index_61 rfl (fun c => ?_) (fun c => ?_)
    · have hT := hT.1 c
      refine x_iload_n dX10_index_74 rfl rfl ?_
      refine x_if_ne (tgt := 82) dX10_index_75 rfl (fun c => ?_) (fun c => ?_)
      · have hT := hT.1 c
        refine x_aload_n dX10_index_82 rfl rfl rfl ?_
        refine x_iload dX10_index_83 rfl ?_
        refine m_inv (vs := [.int y7]) dX10_index_85 oX10_sizeAt q2735 q2733 qs107 rfl rfl (Nat.le_of_ble_eq_true rfl) rfl hW hF hT ?_
        rintro _ s9 ⟨v10, rfl, hT⟩ h hW hF
        refine x_istore (lo' := [some (.ref w.1), some (.int v2), some (.int v4), some (.int y5), some (.int y6), some (.int y7), some (.int v10), none, none]) dX10_index_88 (Nat.le_of_ble_eq_true rfl) rfl ?_
        refine x_iconst (v := 0) dX10_index_90 rfl ?_
        refine x_istore (lo' := [some (.ref w.1), some (.int v2), some (.int v4), some (.int y5), some (.int y6), some (.int y7), some (.int v10), some (.int 0), none]) dX10_index_91 (Nat.le_of_ble_eq_true rfl) rfl ?_
        exact hT h0 h hW hF
      · have hT := hT.2 c
        refine x_iconst (v := 1) dX10_index_78 rfl ?_
        refine x_goto (tgt := 88) dX10_index_79 rfl ?_
        refine x_istore (lo' := [some (.ref w.1), some (.int v2), some (.int v4), some (.int y5), some (.int y6), some (.int y7), some (.int 1), none, none]) dX10_index_88 (Nat.le_of_ble_eq_true rfl) rfl ?_
        refine x_iconst (v := 0) dX10_index_90 rfl ?_
        refine x_istore (lo' := [some (.ref w.1), some (.int v2), some (.int v4), some (.int y5), some (.int y6), some (.int y7), some (.int 1), some (.int 0), none]) dX10_index_91 (Nat.le_of_ble_eq_true rfl) rfl ?_
        exact hT h0 h hW hF
    · have hT := hT.2 c
      refine x_aload_n dX10_index_64 rfl rfl rfl ?_
      refine x_iconst (v := 3) dX10_index_65 rfl ?_
      refine x_aload_n dX10_index_66 rfl rfl rfl ?_
      refine m_geti (v := (s3.1 127)) dX10_index_67 f_TallySlateModel_507 (by decide) rfl hW rfl ?_
      refine m_inv (vs := [.int 3, .int (s3.1 127)]) dX10_index_70 oX10_trouble q2696 q2694 qs98 rfl rfl (Nat.le_of_ble_eq_true rfl) rfl hW hF hT ?_
      rintro _ s11 ⟨rfl, hT⟩ h hW hF
      exact x_vret dX10_index_73 rfl ⟨_, _, rfl, hW, hF, hT⟩
theorem eX10_index {l : Launch} {E : EN} {w : MO} {d : Nat} {s : MS} {Q : Option Value → MS → Prop}  (hst : l.stackTraces = false) (hT : (EvM l E w d MX10_kindAt [.ref w.1, .int ((s.1 108) - 2)] s (fun r s1 => ∃ v2 : Int32, r = some (.int v2) ∧ (EvM l E w d MX10_kindAt [.ref w.1, .int ((s1.1 108) - 1)] s1 (fun r s3 => ∃ v4 : Int32, r = some (.int v4) ∧ (∀ y5 : Int32, y5 = ((s3.1 108) - 2) → (inB y5 9000 ∧ (∀ y6 : Int32, y6 = (s3.2.2.1 107 y5.toNatClampNeg) → (inB (y5 + 1) 9000 ∧ (∀ y7 : Int32, y7 = (s3.2.2.1 107 (y5 + 1).toNatClampNeg) → ((v2 = 0 → (EvM l E w d MX10_trouble [.ref w.1, .int 3, .int (s3.1 127)] (sI s3 108 ((s3.1 108) - 2)) (fun r s8 => r = none ∧ Q none s8))) ∧ (¬ v2 = 0 → ((v4 ≤ 1 → ((¬ v4 = 0 → (EvM l E w d MX10_sizeAt [.ref w.1, .int y7] (sI s3 108 ((s3.1 108) - 2)) (fun r s9 => ∃ v10 : Int32, r = some (.int v10) ∧ ExM l E w (d + 1) MX10_index 93 [some (.ref w.1), some (.int v2), some (.int v4), some (.int y5), some (.int y6), some (.int y7), some (.int v10), some (.int 0), none] [] s9 Q))) ∧ (v4 = 0 → ExM l E w (d + 1) MX10_index 93 [some (.ref w.1), some (.int v2), some (.int v4), some (.int y5), some (.int y6), some (.int y7), some (.int 1), some (.int 0), none] [] (sI s3 108 ((s3.1 108) - 2)) Q))) ∧ (¬ v4 ≤ 1 → (EvM l E w d MX10_trouble [.ref w.1, .int 3, .int (s3.1 127)] (sI s3 108 ((s3.1 108) - 2)) (fun r s11 => r = none ∧ Q none s11)))))))))))))))) : EvM l E w (d + 1) MX10_index [.ref w.1] s Q :=
  EvM.of hst (by decide) (Nat.le_of_ble_eq_true rfl) (vX10_index_0 hT)
set_option maxHeartbeats 16000000 in
theorem vX10_index_93 {l : Launch} {E : EN} {w : MO} {d : Nat} {s : MS} {Q : Option Value → MS → Prop} {a1 : Int32} {a2 : Int32} {a3 : Int32} {a4 : Int32} {a5 : Int32} {a6 : Int32} {a7 : Int32} (hT : ((a6 ≤ a7 → ((¬ a2 = 0 → ExM l E w (d + 1) MX10_index 196 [some (.ref w.1), some (.int a1), none, some (.int a3), some (.int a4), some (.int a5), some (.int a6), some (.int 0), none] [] s Q) ∧ (a2 = 0 → (EvM l E w d MX10_element [.ref w.1, .int a4, .int a5] s (fun r s1 => r = none ∧ (inB a3 9000 ∧ ((¬ (s1.2.2.1 106 a3.toNatClampNeg) = 0 → (inB a3 9000 ∧ (EvM l E w d MX10_gives [.ref w.1, .int (s1.2.2.1 107 a3.toNatClampNeg)] (sI s1 108 a3) (fun r s2 => r = none ∧ Q none s2)))) ∧ ((s1.2.2.1 106 a3.toNatClampNeg) = 0 → Q none s1)))))))) ∧ (¬ a6 ≤ a7 → ((¬ a2 = 0 → (inB ((a5 + 2) + a7) 166300 ∧ (∀ y3 : Int32, y3 = (s.2.2.1 104 ((a5 + 2) + a7).toNatClampNeg) → ((y3 < 0 → (EvM l E w d MX10_trouble [.ref w.1, .int 5, .int (s.1 127)] s (fun r s4 => r = none ∧ Q none s4))) ∧ (¬ y3 < 0 → (EvM l E w d MX10_sizeAt [.ref w.1, .int a4] s (fun r s5 => ∃ v6 : Int32, r = some (.int v6) ∧ ((y3 < v6 → ExM l E w (d + 1) MX10_index 93 [some (.ref w.1), some (.int a1), some (.int a2), some (.int a3), some (.int a4), some (.int a5), some (.int a6), some (.int (a7 + 1)), none] [] s5 Q) ∧ (¬ y3 < v6 → (EvM l E w d MX10_trouble [.ref w.1, .int 5, .int (s5.1 127)] s5 (fun r s7 => r = none ∧ Q none s7))))))))))) ∧ (a2 = 0 → ((a5 < 0 → (EvM l E w d MX10_trouble [.ref w.1, .int 5, .int (s.1 127)] s (fun r s8 => r = none ∧ Q none s8))) ∧ (¬ a5 < 0 → (EvM l E w d MX10_sizeAt [.ref w.1, .int a4] s (fun r s9 => ∃ v10 : Int32, r = some (.int v10) ∧ ((a5 < v10 → ExM l E w (d + 1) MX10_index 93 [some (.ref w.1), some (.int a1), some (.int a2), some (.int a3), some (.int a4), some (.int a5), some (.int a6), some (.int (a7 + 1)), none] [] s9 Q) ∧ (¬ a5 < v10 → (EvM l E w d MX10_trouble [.ref w.1, .int 5, .int (s9.1 127)] s9 (fun r s11 => r = none ∧ Q none s11))))))))))))) : ExM l E w (d + 1) MX10_index 93 [some (.ref w.1), some (.int a1), some (.int a2), some (.int a3), some (.int a4), some (.int a5), some (.int a6), some (.int a7), none] [] s Q := by
  intro h0 h hW hF
  refine x_iload dX10_index_93 rfl ?_
  refine x_iload dX10_index_95 rfl ?_
  refine x_icmp_ge (tgt := 155) dX10_index_97 rfl (fun c => ?_) (fun c => ?_)
  · have hT := hT.1 c
    refine x_iload_n dX10_index_155 rfl rfl ?_
    refine x_if_ne (tgt := 193) dX10_index_156 rfl (fun c => ?_) (fun c => ?_)
    · have hT := hT.1 c
      refine x_iconst (v := 0) dX10_index_193 rfl ?_
      refine x_istore (lo' := [some (.ref w.1), some (.int a1), some (.int a2), some (.int a3), some (.int a4), some (.int a5), some (.int a6), some (.int 0), none]) dX10_index_194 (Nat.le_of_ble_eq_true rfl) rfl ?_
      refine Ex.wkl (lo' := [some (.ref w.1), some (.int a1), none, some (.int a3), some (.int a4), some (.int a5), some (.int a6), some (.int 0), none]) ⟨rfl, rfl, rfl, rfl, rfl, rfl, rfl, trivial⟩ ?_
      exact hT h0 h hW hF
    · have hT := hT.2 c
      refine x_aload_n dX10_index_159 rfl rfl rfl ?_
      refine x_iload dX10_index_160 rfl ?_
      refine x_iload dX10_index_162 rfl ?_
      refine m_inv (vs := [.int a4, .int a5]) dX10_index_164 oX10_element q2798 q2796 qs122 rfl rfl (Nat.le_of_ble_eq_true rfl) rfl hW hF hT ?_
      rintro _ s1 ⟨rfl, hT⟩ h hW hF
      refine x_aload_n dX10_index_167 rfl rfl rfl ?_
      refine m_geta dX10_index_168 f_TallySlateModel_186 (by decide) rfl hW ?_
      refine x_iload_n dX10_index_171 rfl rfl ?_
      obtain ⟨hb, hT⟩ := hT
      refine m_iald (v := (s1.2.2.1 106 a3.toNatClampNeg)) dX10_index_172 rfl hb hW rfl ?_
      refine x_if_ne (tgt := 177) dX10_index_173 rfl (fun c => ?_) (fun c => ?_)
      · have hT := hT.1 c
        refine x_aload_n dX10_index_177 rfl rfl rfl ?_
        refine x_iload_n dX10_index_178 rfl rfl ?_
        refine m_puti dX10_index_179 f_TallySlateModel_461 (by decide) rfl rfl rfl rfl hW hF ?_
        intro h hW hF
        refine x_aload_n dX10_index_182 rfl rfl rfl ?_
        refine x_aload_n dX10_index_183 rfl rfl rfl ?_
        refine m_geta dX10_index_184 f_TallySlateModel_189 (by decide) rfl hW ?_
        refine x_iload_n dX10_index_187 rfl rfl ?_
        obtain ⟨hb, hT⟩ := hT
        refine m_iald (v := (s1.2.2.1 107 a3.toNatClampNeg)) dX10_index_188 rfl hb hW rfl ?_
        refine m_inv (vs := [.int (s1.2.2.1 107 a3.toNatClampNeg)]) dX10_index_189 oX10_gives q2767 q2765 qs115 rfl rfl (Nat.le_of_ble_eq_true rfl) rfl hW hF hT ?_
        rintro _ s2 ⟨rfl, hT⟩ h hW hF
        exact x_vret dX10_index_192 rfl ⟨_, _, rfl, hW, hF, hT⟩
      · have hT := hT.2 c
        exact x_vret dX10_index_176 rfl ⟨_, _, rfl, hW, hF, hT⟩
  · have hT := hT.2 c
    refine x_iload_n dX10_index_100 rfl rfl ?_
    refine x_if_ne (tgt := 109) dX10_index_101 rfl (fun c => ?_) (fun c => ?_)
    · have hT := hT.1 c
      refine x_aload_n dX10_index_109 rfl rfl rfl ?_
      refine m_geta dX10_index_110 f_TallySlateModel_183 (by decide) rfl hW ?_
      refine x_iload dX10_index_113 rfl ?_
      refine x_iconst (v := 2) dX10_index_115 rfl ?_
      refine x_iadd dX10_index_116 ?_
      refine x_iload dX10_index_117 rfl ?_
      refine x_iadd dX10_index_119 ?_
      obtain ⟨hb, hT⟩ := hT
      refine m_iald (v := (s.2.2.1 104 ((a5 + 2) + a7).toNatClampNeg)) dX10_index_120 rfl hb hW rfl ?_
      obtain ⟨y3, ey3⟩ : ∃ z : Int32, z = (s.2.2.1 104 ((a5 + 2) + a7).toNatClampNeg) := ⟨_, rfl⟩
      have hT := hT y3 ey3
      refine x_istore (lo' := [some (.ref w.1), some (.int a1), some (.int a2), some (.int a3), some (.int a4), some (.int a5), some (.int a6), some (.int a7), some (.int y3)]) dX10_index_121 (Nat.le_of_ble_eq_true rfl) (by rw [ey3]; rfl) ?_
      refine x_iload dX10_index_123 rfl ?_
      refine x_if_lt (tgt := 139) dX10_index_125 rfl (fun c => ?_) (fun c => ?_)
      · have hT := hT.1 c
        refine x_aload_n dX10_index_139 rfl rfl rfl ?_
        refine x_iconst (v := 5) dX10_index_140 rfl ?_
        refine x_aload_n dX10_index_141 rfl rfl rfl ?_
        refine m_geti (v := (s.1 127)) dX10_index_142 f_TallySlateModel_507 (by decide) rfl hW rfl ?_
        refine m_inv (vs := [.int 5, .int (s.1 127)]) dX10_index_145 oX10_trouble q2696 q2694 qs98 rfl rfl (Nat.le_of_ble_eq_true rfl) rfl hW hF hT ?_
        rintro _ s4 ⟨rfl, hT⟩ h hW hF
        exact x_vret dX10_index_148 rfl ⟨_, _, rfl, hW, hF, hT⟩
      · have hT := hT.2 c
        refine x_iload dX10_index_128 rfl ?_
        refine x_aload_n dX10_index_130 rfl rfl rfl ?_
        refine x_iload dX10_index_131 rfl ?_
        refine m_inv (vs := [.int a4]) dX10_index_133 oX10_sizeAt q2735 q2733 qs107 rfl rfl (Nat.le_of_ble_eq_true rfl) rfl hW hF hT ?_
        rintro _ s5 ⟨v6, rfl, hT⟩ h hW hF
        refine x_icmp_lt (tgt := 149) dX10_index_136 rfl (fun c => ?_) (fun c => ?_)
        · have hT := hT.1 c
          refine x_iinc (lo' := [some (.ref w.1), some (.int a1), some (.int a2), some (.int a3), some (.int a4), some (.int a5), some (.int a6), some (.int (a7 + 1)), some (.int y3)]) dX10_index_149 rfl (show _ = (a7 + 1) from rfl) rfl ?_
          refine x_goto (tgt := 93) dX10_index_152 rfl ?_
          refine Ex.wkl (lo' := [some (.ref w.1), some (.int a1), some (.int a2), some (.int a3), some (.int a4), some (.int a5), some (.int a6), some (.int (a7 + 1)), none]) ⟨rfl, rfl, rfl, rfl, rfl, rfl, rfl, rfl, trivial⟩ ?_
          exact hT h0 h hW hF
        · have hT := hT.2 c
          refine x_aload_n dX10_index_139 rfl rfl rfl ?_
          refine x_iconst (v := 5) dX10_index_140 rfl ?_
          refine x_aload_n dX10_index_141 rfl rfl rfl ?_
          refine m_geti (v := (s5.1 127)) dX10_index_142 f_TallySlateModel_507 (by decide) rfl hW rfl ?_
          refine m_inv (vs := [.int 5, .int (s5.1 127)]) dX10_index_145 oX10_trouble q2696 q2694 qs98 rfl rfl (Nat.le_of_ble_eq_true rfl) rfl hW hF hT ?_
          rintro _ s7 ⟨rfl, hT⟩ h hW hF
          exact x_vret dX10_index_148 rfl ⟨_, _, rfl, hW, hF, hT⟩
    · have hT := hT.2 c
      refine x_iload dX10_index_104 rfl ?_
      refine x_goto (tgt := 121) dX10_index_106 rfl ?_
      refine x_istore (lo' := [some (.ref w.1), some (.int a1), some (.int a2), some (.int a3), some (.int a4), some (.int a5), some (.int a6), some (.int a7), some (.int a5)]) dX10_index_121 (Nat.le_of_ble_eq_true rfl) rfl ?_
      refine x_iload dX10_index_123 rfl ?_
      refine x_if_lt (tgt := 139) dX10_index_125 rfl (fun c => ?_) (fun c => ?_)
      · have hT := hT.1 c
        refine x_aload_n dX10_index_139 rfl rfl rfl ?_
        refine x_iconst (v := 5) dX10_index_140 rfl ?_
        refine x_aload_n dX10_index_141 rfl rfl rfl ?_
        refine m_geti (v := (s.1 127)) dX10_index_142 f_TallySlateModel_507 (by decide) rfl hW rfl ?_
        refine m_inv (vs := [.int 5, .int (s.1 127)]) dX10_index_145 oX10_trouble q2696 q2694 qs98 rfl rfl (Nat.le_of_ble_eq_true rfl) rfl hW hF hT ?_
        rintro _ s8 ⟨rfl, hT⟩ h hW hF
        exact x_vret dX10_index_148 rfl ⟨_, _, rfl, hW, hF, hT⟩
      · have hT := hT.2 c
        refine x_iload dX10_index_128 rfl ?_
        refine x_aload_n dX10_index_130 rfl rfl rfl ?_
        refine x_iload dX10_index_131 rfl ?_
        refine m_inv (vs := [.int a4]) dX10_index_133 oX10_sizeAt q2735 q2733 qs107 rfl rfl (Nat.le_of_ble_eq_true rfl) rfl hW hF hT ?_
        rintro _ s9 ⟨v10, rfl, hT⟩ h hW hF
        refine x_icmp_lt (tgt := 149) dX10_index_136 rfl (fun c => ?_) (fun c => ?_)
        · have hT := hT.1 c
          refine x_iinc (lo' := [some (.ref w.1), some (.int a1), some (.int a2), some (.int a3), some (.int a4), some (.int a5), some (.int a6), some (.int (a7 + 1)), some (.int a5)]) dX10_index_149 rfl (show _ = (a7 + 1) from rfl) rfl ?_
          refine x_goto (tgt := 93) dX10_index_152 rfl ?_
          refine Ex.wkl (lo' := [some (.ref w.1), some (.int a1), some (.int a2), some (.int a3), some (.int a4), some (.int a5), some (.int a6), some (.int (a7 + 1)), none]) ⟨rfl, rfl, rfl, rfl, rfl, rfl, rfl, rfl, trivial⟩ ?_
          exact hT h0 h hW hF
        · have hT := hT.2 c
          refine x_aload_n dX10_index_139 rfl rfl rfl ?_
          refine x_iconst (v := 5) dX10_index_140 rfl ?_
          refine x_aload_n dX10_index_141 rfl rfl rfl ?_
          refine m_geti (v := (s9.1 127)) dX10_index_142 f_TallySlateModel_507 (by decide) rfl hW rfl ?_
          refine m_inv (vs := [.int 5, .int (s9.1 127)]) dX10_index_145 oX10_trouble q2696 q2694 qs98 rfl rfl (Nat.le_of_ble_eq_true rfl) rfl hW hF hT ?_
          rintro _ s11 ⟨rfl, hT⟩ h hW hF
          exact x_vret dX10_index_148 rfl ⟨_, _, rfl, hW, hF, hT⟩
theorem vX10_index_196 {l : Launch} {E : EN} {w : MO} {d : Nat} {s : MS} {Q : Option Value → MS → Prop} {a1 : Int32} {a3 : Int32} {a4 : Int32} {a5 : Int32} {a6 : Int32} {a7 : Int32} (hT : ((a6 ≤ a7 → (EvM l E w d MX10_builds [.ref w.1, .int a1, .int a3] s (fun r s1 => r = none ∧ Q none s1))) ∧ (¬ a6 ≤ a7 → (inB ((a5 + 2) + a7) 166300 ∧ (EvM l E w d MX10_element [.ref w.1, .int a4, .int (s.2.2.1 104 ((a5 + 2) + a7).toNatClampNeg)] s (fun r s2 => r = none ∧ ExM l E w (d + 1) MX10_index 196 [some (.ref w.1), some (.int a1), none, some (.int a3), some (.int a4), some (.int a5), some (.int a6), some (.int (a7 + 1)), none] [] s2 Q)))))) : ExM l E w (d + 1) MX10_index 196 [some (.ref w.1), some (.int a1), none, some (.int a3), some (.int a4), some (.int a5), some (.int a6), some (.int a7), none] [] s Q := by
  intro h0 h hW hF
  refine x_iload dX10_index_196 rfl ?_
  refine x_iload dX10_index_198 rfl ?_
  refine x_icmp_ge (tgt := 227) dX10_index_200 rfl (fun c => ?_) (fun c => ?_)
  · have hT := hT.1 c
    refine x_aload_n dX10_index_227 rfl rfl rfl ?_
    refine x_iload_n dX10_index_228 rfl rfl ?_
    refine x_iload_n dX10_index_229 rfl rfl ?_
    refine m_inv (vs := [.int a1, .int a3]) dX10_index_230 oX10_builds q2739 q2737 qs108 rfl rfl (Nat.le_of_ble_eq_true rfl) rfl hW hF hT ?_
    rintro _ s1 ⟨rfl, hT⟩ h hW hF
    exact x_vret dX10_index_233 rfl ⟨_, _, rfl, hW, hF, hT⟩
  · have hT := hT.2 c
    refine x_aload_n dX10_index_203 rfl rfl rfl ?_
    refine x_iload dX10_index_204 rfl ?_
    refine x_aload_n dX10_index_206 rfl rfl rfl ?_
    refine m_geta dX10_index_207 f_TallySlateModel_183 (by decide) rfl hW ?_
    refine x_iload dX10_index_210 rfl ?_
    refine x_iconst (v := 2) dX10_index_212 rfl ?_
    refine x_iadd dX10_index_213 ?_
    refine x_iload dX10_index_214 rfl ?_
    refine x_iadd dX10_index_216 ?_
    obtain ⟨hb, hT⟩ := hT
    refine m_iald (v := (s.2.2.1 104 ((a5 + 2) + a7).toNatClampNeg)) dX10_index_217 rfl hb hW rfl ?_
    refine m_inv (vs := [.int a4, .int (s.2.2.1 104 ((a5 + 2) + a7).toNatClampNeg)]) dX10_index_218 oX10_element q2798 q2796 qs122 rfl rfl (Nat.le_of_ble_eq_true rfl) rfl hW hF hT ?_
    rintro _ s2 ⟨rfl, hT⟩ h hW hF
    refine x_iinc (lo' := [some (.ref w.1), some (.int a1), none, some (.int a3), some (.int a4), some (.int a5), some (.int a6), some (.int (a7 + 1)), none]) dX10_index_221 rfl (show _ = (a7 + 1) from rfl) rfl ?_
    refine x_goto (tgt := 196) dX10_index_224 rfl ?_
    exact hT h0 h hW hF
set_option maxHeartbeats 16000000 in
theorem vX10_element_0 {l : Launch} {E : EN} {w : MO} {d : Nat} {s : MS} {Q : Option Value → MS → Prop} {x1 : Int32} {x2 : Int32} (hT : (inB x1 166300 ∧ ((¬ (s.2.2.1 104 x1.toNatClampNeg) = 1 → (inB x1 166300 ∧ ((¬ (s.2.2.1 104 x1.toNatClampNeg) = 3 → (EvM l E w d MX10_partAt [.ref w.1, .int x1, .int x2] s (fun r s1 => ∃ v2 : Int32, r = some (.int v2) ∧ (EvM l E w d MX10_push [.ref w.1, .int 1, .int v2] s1 (fun r s3 => r = none ∧ Q none s3))))) ∧ ((s.2.2.1 104 x1.toNatClampNeg) = 3 → (EvM l E w d MX10_isInt [.ref w.1, .int x1, .int x2] s (fun r s4 => ∃ v5 : Int32, r = some (.int v5) ∧ ((v5 = 0 → (EvM l E w d MX10_partAt [.ref w.1, .int x1, .int x2] s4 (fun r s6 => ∃ v7 : Int32, r = some (.int v7) ∧ (EvM l E w d MX10_push [.ref w.1, .int 1, .int v7] s6 (fun r s8 => r = none ∧ Q none s8))))) ∧ (¬ v5 = 0 → (inB ((x1 + 3) + (2 * x2)) 166300 ∧ (EvM l E w d MX10_push [.ref w.1, .int 0, .int (s4.2.2.1 104 ((x1 + 3) + (2 * x2)).toNatClampNeg)] s4 (fun r s9 => r = none ∧ Q none s9))))))))))) ∧ ((s.2.2.1 104 x1.toNatClampNeg) = 1 → (inB ((x1 + 2) + x2) 166300 ∧ (EvM l E w d MX10_push [.ref w.1, .int 0, .int (s.2.2.1 104 ((x1 + 2) + x2).toNatClampNeg)] s (fun r s10 => r = none ∧ Q none s10))))))) : ExM l E w (d + 1) MX10_element 0 [some (.ref w.1), some (.int x1), some (.int x2)] [] s Q := by
  intro h0 h hW hF
  refine x_aload_n dX10_element_0 rfl rfl rfl ?_
  refine m_geta dX10_element_1 f_TallySlateModel_183 (by decide) rfl hW ?_
  refine x_iload_n dX10_element_4 rfl rfl ?_
  obtain ⟨hb, hT⟩ := hT
  refine m_iald (v := (s.2.2.1 104 x1.toNatClampNeg)) dX10_element_5 rfl hb hW rfl ?_
  refine x_iconst (v := 1) dX10_element_6 rfl ?_
  refine x_icmp_ne (tgt := 28) dX10_element_7 rfl (fun c => ?_) (fun c => ?_)
  · have hT := hT.1 c
    refine x_aload_n dX10_element_28 rfl rfl rfl ?_
    refine m_geta dX10_element_29 f_TallySlateModel_183 (by decide) rfl hW ?_
    refine x_iload_n dX10_element_32 rfl rfl ?_
    obtain ⟨hb, hT⟩ := hT
    refine m_iald (v := (s.2.2.1 104 x1.toNatClampNeg)) dX10_element_33 rfl hb hW rfl ?_
    refine x_iconst (v := 3) dX10_element_34 rfl ?_
    refine x_icmp_ne (tgt := 67) dX10_element_35 rfl (fun c => ?_) (fun c => ?_)
    · have hT := hT.1 c
      refine x_aload_n dX10_element_67 rfl rfl rfl ?_
      refine x_iconst (v := 1) dX10_element_68 rfl ?_
      refine x_aload_n dX10_element_69 rfl rfl rfl ?_
      refine x_iload_n dX10_element_70 rfl rfl ?_
      refine x_iload_n dX10_element_71 rfl rfl ?_
      refine m_inv (vs := [.int x1, .int x2]) dX10_element_72 oX10_partAt q2751 q2749 qs111 rfl rfl (Nat.le_of_ble_eq_true rfl) rfl hW hF hT ?_
      rintro _ s1 ⟨v2, rfl, hT⟩ h hW hF
      refine m_inv (vs := [.int 1, .int v2]) dX10_element_75 oX10_push q2708 q2706 qs101 rfl rfl (Nat.le_of_ble_eq_true rfl) rfl hW hF hT ?_
      rintro _ s3 ⟨rfl, hT⟩ h hW hF
      exact x_vret dX10_element_78 rfl ⟨_, _, rfl, hW, hF, hT⟩
    · have hT := hT.2 c
      refine x_aload_n dX10_element_38 rfl rfl rfl ?_
      refine x_iload_n dX10_element_39 rfl rfl ?_
      refine x_iload_n dX10_element_40 rfl rfl ?_
      refine m_inv (vs := [.int x1, .int x2]) dX10_element_41 oX10_isInt q2759 q2757 qs113 rfl rfl (Nat.le_of_ble_eq_true rfl) rfl hW hF hT ?_
      rintro _ s4 ⟨v5, rfl, hT⟩ h hW hF
      refine x_if_eq (tgt := 67) dX10_element_44 rfl (fun c => ?_) (fun c => ?_)
      · have hT := hT.1 c
        refine x_aload_n dX10_element_67 rfl rfl rfl ?_
        refine x_iconst (v := 1) dX10_element_68 rfl ?_
        refine x_aload_n dX10_element_69 rfl rfl rfl ?_
        refine x_iload_n dX10_element_70 rfl rfl ?_
        refine x_iload_n dX10_element_71 rfl rfl ?_
        refine m_inv (vs := [.int x1, .int x2]) dX10_element_72 oX10_partAt q2751 q2749 qs111 rfl rfl (Nat.le_of_ble_eq_true rfl) rfl hW hF hT ?_
        rintro _ s6 ⟨v7, rfl, hT⟩ h hW hF
        refine m_inv (vs := [.int 1, .int v7]) dX10_element_75 oX10_push q2708 q2706 qs101 rfl rfl (Nat.le_of_ble_eq_true rfl) rfl hW hF hT ?_
        rintro _ s8 ⟨rfl, hT⟩ h hW hF
        exact x_vret dX10_element_78 rfl ⟨_, _, rfl, hW, hF, hT⟩
      · have hT := hT.2 c
        refine x_aload_n dX10_element_47 rfl rfl rfl ?_
        refine x_iconst (v := 0) dX10_element_48 rfl ?_
        refine x_aload_n dX10_element_49 rfl rfl rfl ?_
        refine m_geta dX10_element_50 f_TallySlateModel_183 (by decide) rfl hW ?_
        refine x_iload_n dX10_element_53 rfl rfl ?_
        refine x_iconst (v := 3) dX10_element_54 rfl ?_
        refine x_iadd dX10_element_55 ?_
        refine x_iconst (v := 2) dX10_element_56 rfl ?_
        refine x_iload_n dX10_element_57 rfl rfl ?_
        refine x_imul dX10_element_58 ?_
        refine x_iadd dX10_element_59 ?_
        obtain ⟨hb, hT⟩ := hT
        refine m_iald (v := (s4.2.2.1 104 ((x1 + 3) + (2 * x2)).toNatClampNeg)) dX10_element_60 rfl hb hW rfl ?_
        refine m_inv (vs := [.int 0, .int (s4.2.2.1 104 ((x1 + 3) + (2 * x2)).toNatClampNeg)]) dX10_element_61 oX10_push q2708 q2706 qs101 rfl rfl (Nat.le_of_ble_eq_true rfl) rfl hW hF hT ?_
        rintro _ s9 ⟨rfl, hT⟩ h hW hF
        refine x_goto (tgt := 78) dX10_element_64 rfl ?_
        exact x_vret dX10_element_78 rfl ⟨_, _, rfl, hW, hF, hT⟩
  · have hT := hT.2 c
    refine x_aload_n dX10_element_10 rfl rfl rfl ?_
    refine x_iconst (v := 0) dX10_element_11 rfl ?_
    refine x_aload_n dX10_element_12 rfl rfl rfl ?_
    refine m_geta dX10_element_13 f_TallySlateModel_183 (by decide) rfl hW ?_
    refine x_iload_n dX10_element_16 rfl rfl ?_
    refine x_iconst (v := 2) dX10_element_17 rfl ?_
    refine x_iadd dX10_element_18 ?_
    refine x_iload_n dX10_element_19 rfl rfl ?_
    refine x_iadd dX10_element_20 ?_
    obtain ⟨hb, hT⟩ := hT
    refine m_iald (v := (s.2.2.1 104 ((x1 + 2) + x2).toNatClampNeg)) dX10_element_21 rfl hb hW rfl ?_
    refine m_inv (vs := [.int 0, .int (s.2.2.1 104 ((x1 + 2) + x2).toNatClampNeg)]) dX10_element_22 oX10_push q2708 q2706 qs101 rfl rfl (Nat.le_of_ble_eq_true rfl) rfl hW hF hT ?_
    rintro _ s10 ⟨rfl, hT⟩ h hW hF
    refine x_goto (tgt := 78) dX10_element_25 rfl ?_
    exact x_vret dX10_element_78 rfl ⟨_, _, rfl, hW, hF, hT⟩
theorem eX10_element {l : Launch} {E : EN} {w : MO} {d : Nat} {s : MS} {Q : Option Value → MS → Prop} {x1 : Int32} {x2 : Int32} (hst : l.stackTraces = false) (hT : (inB x1 166300 ∧ ((¬ (s.2.2.1 104 x1.toNatClampNeg) = 1 → (inB x1 166300 ∧ ((¬ (s.2.2.1 104 x1.toNatClampNeg) = 3 → (EvM l E w d MX10_partAt [.ref w.1, .int x1, .int x2] s (fun r s1 => ∃ v2 : Int32, r = some (.int v2) ∧ (EvM l E w d MX10_push [.ref w.1, .int 1, .int v2] s1 (fun r s3 => r = none ∧ Q none s3))))) ∧ ((s.2.2.1 104 x1.toNatClampNeg) = 3 → (EvM l E w d MX10_isInt [.ref w.1, .int x1, .int x2] s (fun r s4 => ∃ v5 : Int32, r = some (.int v5) ∧ ((v5 = 0 → (EvM l E w d MX10_partAt [.ref w.1, .int x1, .int x2] s4 (fun r s6 => ∃ v7 : Int32, r = some (.int v7) ∧ (EvM l E w d MX10_push [.ref w.1, .int 1, .int v7] s6 (fun r s8 => r = none ∧ Q none s8))))) ∧ (¬ v5 = 0 → (inB ((x1 + 3) + (2 * x2)) 166300 ∧ (EvM l E w d MX10_push [.ref w.1, .int 0, .int (s4.2.2.1 104 ((x1 + 3) + (2 * x2)).toNatClampNeg)] s4 (fun r s9 => r = none ∧ Q none s9))))))))))) ∧ ((s.2.2.1 104 x1.toNatClampNeg) = 1 → (inB ((x1 + 2) + x2) 166300 ∧ (EvM l E w d MX10_push [.ref w.1, .int 0, .int (s.2.2.1 104 ((x1 + 2) + x2).toNatClampNeg)] s (fun r s10 => r = none ∧ Q none s10))))))) : EvM l E w (d + 1) MX10_element [.ref w.1, .int x1, .int x2] s Q :=
  EvM.of hst (by decide) (Nat.le_of_ble_eq_true rfl) (vX10_element_0 hT)
theorem vX10_builtIn_0 {l : Launch} {E : EN} {w : MO} {d : Nat} {s : MS} {Q : Option Value → MS → Prop} {x1 : Int32} {x2 : Int32} (hT : ExM l E w (d + 1) MX10_builtIn 5 [some (.ref w.1), some (.int x1), some (.int x2), some (.int 1), some (.int x2), none] [] s Q) : ExM l E w (d + 1) MX10_builtIn 0 [some (.ref w.1), some (.int x1), some (.int x2), none, none, none] [] s Q := by
  intro h0 h hW hF
  refine x_iconst (v := 1) dX10_builtIn_0 rfl ?_
  refine x_istore_n (lo' := [some (.ref w.1), some (.int x1), some (.int x2), some (.int 1), none, none]) dX10_builtIn_1 rfl (Nat.le_of_ble_eq_true rfl) rfl ?_
  refine x_iload_n dX10_builtIn_2 rfl rfl ?_
  refine x_istore (lo' := [some (.ref w.1), some (.int x1), some (.int x2), some (.int 1), some (.int x2), none]) dX10_builtIn_3 (Nat.le_of_ble_eq_true rfl) rfl ?_
  exact hT h0 h hW hF
theorem eX10_builtIn {l : Launch} {E : EN} {w : MO} {d : Nat} {s : MS} {Q : Option Value → MS → Prop} {x1 : Int32} {x2 : Int32} (hst : l.stackTraces = false) (hT : ExM l E w (d + 1) MX10_builtIn 5 [some (.ref w.1), some (.int x1), some (.int x2), some (.int 1), some (.int x2), none] [] s Q) : EvM l E w (d + 1) MX10_builtIn [.ref w.1, .int x1, .int x2] s Q :=
  EvM.of hst (by decide) (Nat.le_of_ble_eq_true rfl) (vX10_builtIn_0 hT)
set_option maxHeartbeats 16000000 in
theorem vX10_builtIn_5 {l : Launch} {E : EN} {w : MO} {d : Nat} {s : MS} {Q : Option Value → MS → Prop} {a1 : Int32} {a2 : Int32} {a3 : Int32} {a4 : Int32} (hT : (((s.1 108) ≤ a4 → ((¬ a3 = 0 → (inB a2 9000 ∧ (∀ y1 : Int32, y1 = (s.2.2.1 107 a2.toNatClampNeg) → (inB (a2 + 1) 9000 ∧ (∀ y2 : Int32, y2 = (s.2.2.1 107 (a2 + 1).toNatClampNeg) → ((¬ a1 = 5 → ((5 ≤ a1 → ((16 ≤ a1 → ((19 ≤ a1 → (EvM l E w d MX10_ofTwo [.ref w.1, .int a1, .int y1, .int y2, .int a2] s (fun r s3 => r = none ∧ Q none s3))) ∧ (¬ 19 ≤ a1 → (EvM l E w d MX10_shapes [.ref w.1, .int a1, .int y1, .int a2] s (fun r s4 => r = none ∧ Q none s4))))) ∧ (¬ 16 ≤ a1 → (EvM l E w d MX10_ofOneThing [.ref w.1, .int a1, .int y1, .int a2] s (fun r s5 => r = none ∧ Q none s5))))) ∧ (¬ 5 ≤ a1 → (EvM l E w d MX10_makes [.ref w.1, .int a1, .int y1, .int y2, .int a2] s (fun r s6 => r = none ∧ Q none s6))))) ∧ (a1 = 5 → (EvM l E w d MX10_builds [.ref w.1, .int 3, .int a2] s (fun r s7 => r = none ∧ Q none s7))))))))) ∧ (a3 = 0 → (EvM l E w d MX10_trouble [.ref w.1, .int 3, .int (s.1 127)] s (fun r s8 => r = none ∧ Q none s8))))) ∧ (¬ (s.1 108) ≤ a4 → ((a3 = 0 → ExM l E w (d + 1) MX10_builtIn 5 [some (.ref w.1), some (.int a1), some (.int a2), some (.int 0), some (.int (a4 + 1)), none] [] s Q) ∧ (¬ a3 = 0 → (EvM l E w d MX10_kindAt [.ref w.1, .int a4] s (fun r s9 => ∃ v10 : Int32, r = some (.int v10) ∧ (EvM l E w d MX10_kindAt [.ref w.1, .int a2] s9 (fun r s11 => ∃ v12 : Int32, r = some (.int v12) ∧ (EvM l E w d MX10_suits [.int a1, .int (a4 - a2), .int v10, .int v12] s11 (fun r s13 => ∃ v14 : Int32, r = some (.int v14) ∧ ((v14 = 0 → ExM l E w (d + 1) MX10_builtIn 5 [some (.ref w.1), some (.int a1), some (.int a2), some (.int 0), some (.int (a4 + 1)), none] [] s13 Q) ∧ (¬ v14 = 0 → ExM l E w (d + 1) MX10_builtIn 5 [some (.ref w.1), some (.int a1), some (.int a2), some (.int 1), some (.int (a4 + 1)), none] [] s13 Q))))))))))))) : ExM l E w (d + 1) MX10_builtIn 5 [some (.ref w.1), some (.int a1), some (.int a2), some (.int a3), some (.int a4), none] [] s Q := by
  intro h0 h hW hF
  refine x_iload dX10_builtIn_5 rfl ?_
  refine x_aload_n dX10_builtIn_7 rfl rfl rfl ?_
  refine m_geti (v := (s.1 108)) dX10_builtIn_8 f_TallySlateModel_461 (by decide) rfl hW rfl ?_
  refine x_icmp_ge (tgt := 52) dX10_builtIn_11 rfl (fun c => ?_) (fun c => ?_)
  · have hT := hT.1 c
    refine x_iload_n dX10_builtIn_52 rfl rfl ?_
    refine x_if_ne (tgt := 66) dX10_builtIn_53 rfl (fun c => ?_) (fun c => ?_)
    · have hT := hT.1 c
      refine x_aload_n dX10_builtIn_66 rfl rfl rfl ?_
      refine m_geta dX10_builtIn_67 f_TallySlateModel_189 (by decide) rfl hW ?_
      refine x_iload_n dX10_builtIn_70 rfl rfl ?_
      obtain ⟨hb, hT⟩ := hT
      refine m_iald (v := (s.2.2.1 107 a2.toNatClampNeg)) dX10_builtIn_71 rfl hb hW rfl ?_
      obtain ⟨y1, ey1⟩ : ∃ z : Int32, z = (s.2.2.1 107 a2.toNatClampNeg) := ⟨_, rfl⟩
      have hT := hT y1 ey1
      refine x_istore (lo' := [some (.ref w.1), some (.int a1), some (.int a2), some (.int a3), some (.int y1), none]) dX10_builtIn_72 (Nat.le_of_ble_eq_true rfl) (by rw [ey1]; rfl) ?_
      refine x_aload_n dX10_builtIn_74 rfl rfl rfl ?_
      refine m_geta dX10_builtIn_75 f_TallySlateModel_189 (by decide) rfl hW ?_
      refine x_iload_n dX10_builtIn_78 rfl rfl ?_
      refine x_iconst (v := 1) dX10_builtIn_79 rfl ?_
      refine x_iadd dX10_builtIn_80 ?_
      obtain ⟨hb, hT⟩ := hT
      refine m_iald (v := (s.2.2.1 107 (a2 + 1).toNatClampNeg)) dX10_builtIn_81 rfl hb hW rfl ?_
      obtain ⟨y2, ey2⟩ : ∃ z : Int32, z = (s.2.2.1 107 (a2 + 1).toNatClampNeg) := ⟨_, rfl⟩
      have hT := hT y2 ey2
      refine x_istore (lo' := [some (.ref w.1), some (.int a1), some (.int a2), some (.int a3), some (.int y1), some (.int y2)]) dX10_builtIn_82 (Nat.le_of_ble_eq_true rfl) (by rw [ey2]; rfl) ?_
      refine x_iload_n dX10_builtIn_84 rfl rfl ?_
      refine x_iconst (v := 5) dX10_builtIn_85 rfl ?_
      refine x_icmp_ne (tgt := 98) dX10_builtIn_86 rfl (fun c => ?_) (fun c => ?_)
      · have hT := hT.1 c
        refine x_iload_n dX10_builtIn_98 rfl rfl ?_
        refine x_iconst (v := 5) dX10_builtIn_99 rfl ?_
        refine x_icmp_ge (tgt := 116) dX10_builtIn_100 rfl (fun c => ?_) (fun c => ?_)
        · have hT := hT.1 c
          refine x_iload_n dX10_builtIn_116 rfl rfl ?_
          refine x_bipush (v := 16) dX10_builtIn_117 rfl ?_
          refine x_icmp_ge (tgt := 133) dX10_builtIn_119 rfl (fun c => ?_) (fun c => ?_)
          · have hT := hT.1 c
            refine x_iload_n dX10_builtIn_133 rfl rfl ?_
            refine x_bipush (v := 19) dX10_builtIn_134 rfl ?_
            refine x_icmp_ge (tgt := 150) dX10_builtIn_136 rfl (fun c => ?_) (fun c => ?_)
            · have hT := hT.1 c
              refine x_aload_n dX10_builtIn_150 rfl rfl rfl ?_
              refine x_iload_n dX10_builtIn_151 rfl rfl ?_
              refine x_iload dX10_builtIn_152 rfl ?_
              refine x_iload dX10_builtIn_154 rfl ?_
              refine x_iload_n dX10_builtIn_156 rfl rfl ?_
              refine m_inv (vs := [.int a1, .int y1, .int y2, .int a2]) dX10_builtIn_157 oX10_ofTwo q2841 q2839 qs131 rfl rfl (Nat.le_of_ble_eq_true rfl) rfl hW hF hT ?_
              rintro _ s3 ⟨rfl, hT⟩ h hW hF
              exact x_vret dX10_builtIn_160 rfl ⟨_, _, rfl, hW, hF, hT⟩
            · have hT := hT.2 c
              refine x_aload_n dX10_builtIn_139 rfl rfl rfl ?_
              refine x_iload_n dX10_builtIn_140 rfl rfl ?_
              refine x_iload dX10_builtIn_141 rfl ?_
              refine x_iload_n dX10_builtIn_143 rfl rfl ?_
              refine m_inv (vs := [.int a1, .int y1, .int a2]) dX10_builtIn_144 oX10_shapes q2834 q2832 qs130 rfl rfl (Nat.le_of_ble_eq_true rfl) rfl hW hF hT ?_
              rintro _ s4 ⟨rfl, hT⟩ h hW hF
              refine x_goto (tgt := 160) dX10_builtIn_147 rfl ?_
              exact x_vret dX10_builtIn_160 rfl ⟨_, _, rfl, hW, hF, hT⟩
          · have hT := hT.2 c
            refine x_aload_n dX10_builtIn_122 rfl rfl rfl ?_
            refine x_iload_n dX10_builtIn_123 rfl rfl ?_
            refine x_iload dX10_builtIn_124 rfl ?_
            refine x_iload_n dX10_builtIn_126 rfl rfl ?_
            refine m_inv (vs := [.int a1, .int y1, .int a2]) dX10_builtIn_127 oX10_ofOneThing q2818 q2816 qs126 rfl rfl (Nat.le_of_ble_eq_true rfl) rfl hW hF hT ?_
            rintro _ s5 ⟨rfl, hT⟩ h hW hF
            refine x_goto (tgt := 160) dX10_builtIn_130 rfl ?_
            exact x_vret dX10_builtIn_160 rfl ⟨_, _, rfl, hW, hF, hT⟩
        · have hT := hT.2 c
          refine x_aload_n dX10_builtIn_103 rfl rfl rfl ?_
          refine x_iload_n dX10_builtIn_104 rfl rfl ?_
          refine x_iload dX10_builtIn_105 rfl ?_
          refine x_iload dX10_builtIn_107 rfl ?_
          refine x_iload_n dX10_builtIn_109 rfl rfl ?_
          refine m_inv (vs := [.int a1, .int y1, .int y2, .int a2]) dX10_builtIn_110 oX10_makes q2809 q2807 qs124 rfl rfl (Nat.le_of_ble_eq_true rfl) rfl hW hF hT ?_
          rintro _ s6 ⟨rfl, hT⟩ h hW hF
          refine x_goto (tgt := 160) dX10_builtIn_113 rfl ?_
          exact x_vret dX10_builtIn_160 rfl ⟨_, _, rfl, hW, hF, hT⟩
      · have hT := hT.2 c
        refine x_aload_n dX10_builtIn_89 rfl rfl rfl ?_
        refine x_iconst (v := 3) dX10_builtIn_90 rfl ?_
        refine x_iload_n dX10_builtIn_91 rfl rfl ?_
        refine m_inv (vs := [.int 3, .int a2]) dX10_builtIn_92 oX10_builds q2739 q2737 qs108 rfl rfl (Nat.le_of_ble_eq_true rfl) rfl hW hF hT ?_
        rintro _ s7 ⟨rfl, hT⟩ h hW hF
        refine x_goto (tgt := 160) dX10_builtIn_95 rfl ?_
        exact x_vret dX10_builtIn_160 rfl ⟨_, _, rfl, hW, hF, hT⟩
    · have hT := hT.2 c
      refine x_aload_n dX10_builtIn_56 rfl rfl rfl ?_
      refine x_iconst (v := 3) dX10_builtIn_57 rfl ?_
      refine x_aload_n dX10_builtIn_58 rfl rfl rfl ?_
      refine m_geti (v := (s.1 127)) dX10_builtIn_59 f_TallySlateModel_507 (by decide) rfl hW rfl ?_
      refine m_inv (vs := [.int 3, .int (s.1 127)]) dX10_builtIn_62 oX10_trouble q2696 q2694 qs98 rfl rfl (Nat.le_of_ble_eq_true rfl) rfl hW hF hT ?_
      rintro _ s8 ⟨rfl, hT⟩ h hW hF
      exact x_vret dX10_builtIn_65 rfl ⟨_, _, rfl, hW, hF, hT⟩
  · have hT := hT.2 c
    refine x_iload_n dX10_builtIn_14 rfl rfl ?_
    refine x_if_eq (tgt := 44) dX10_builtIn_15 rfl (fun c => ?_) (fun c => ?_)
    · have hT := hT.1 c
      refine x_iconst (v := 0) dX10_builtIn_44 rfl ?_
      refine x_istore_n (lo' := [some (.ref w.1), some (.int a1), some (.int a2), some (.int 0), some (.int a4), none]) dX10_builtIn_45 rfl (Nat.le_of_ble_eq_true rfl) rfl ?_
      refine x_iinc (lo' := [some (.ref w.1), some (.int a1), some (.int a2), some (.int 0), some (.int (a4 + 1)), none]) dX10_builtIn_46 rfl (show _ = (a4 + 1) from rfl) rfl ?_
      refine x_goto (tgt := 5) dX10_builtIn_49 rfl ?_
      exact hT h0 h hW hF
    · have hT := hT.2 c
      refine x_iload_n dX10_builtIn_18 rfl rfl ?_
      refine x_iload dX10_builtIn_19 rfl ?_
      refine x_iload_n dX10_builtIn_21 rfl rfl ?_
      refine x_isub dX10_builtIn_22 ?_
      refine x_aload_n dX10_builtIn_23 rfl rfl rfl ?_
      refine x_iload dX10_builtIn_24 rfl ?_
      refine m_inv (vs := [.int a4]) dX10_builtIn_26 oX10_kindAt q2728 q2726 qs106 rfl rfl (Nat.le_of_ble_eq_true rfl) rfl hW hF hT ?_
      rintro _ s9 ⟨v10, rfl, hT⟩ h hW hF
      refine x_aload_n dX10_builtIn_29 rfl rfl rfl ?_
      refine x_iload_n dX10_builtIn_30 rfl rfl ?_
      refine m_inv (vs := [.int a2]) dX10_builtIn_31 oX10_kindAt q2728 q2726 qs106 rfl rfl (Nat.le_of_ble_eq_true rfl) rfl hW hF hT ?_
      rintro _ s11 ⟨v12, rfl, hT⟩ h hW hF
      refine m_invS (vs := [.int a1, .int (a4 - a2), .int v10, .int v12]) dX10_builtIn_34 oX10_suits q2805 q2804 rfl rfl (Nat.le_of_ble_eq_true rfl) rfl hW hF hT ?_
      rintro _ s13 ⟨v14, rfl, hT⟩ h hW hF
      refine x_if_eq (tgt := 44) dX10_builtIn_37 rfl (fun c => ?_) (fun c => ?_)
      · have hT := hT.1 c
        refine x_iconst (v := 0) dX10_builtIn_44 rfl ?_
        refine x_istore_n (lo' := [some (.ref w.1), some (.int a1), some (.int a2), some (.int 0), some (.int a4), none]) dX10_builtIn_45 rfl (Nat.le_of_ble_eq_true rfl) rfl ?_
        refine x_iinc (lo' := [some (.ref w.1), some (.int a1), some (.int a2), some (.int 0), some (.int (a4 + 1)), none]) dX10_builtIn_46 rfl (show _ = (a4 + 1) from rfl) rfl ?_
        refine x_goto (tgt := 5) dX10_builtIn_49 rfl ?_
        exact hT h0 h hW hF
      · have hT := hT.2 c
        refine x_iconst (v := 1) dX10_builtIn_40 rfl ?_
        refine x_goto (tgt := 45) dX10_builtIn_41 rfl ?_
        refine x_istore_n (lo' := [some (.ref w.1), some (.int a1), some (.int a2), some (.int 1), some (.int a4), none]) dX10_builtIn_45 rfl (Nat.le_of_ble_eq_true rfl) rfl ?_
        refine x_iinc (lo' := [some (.ref w.1), some (.int a1), some (.int a2), some (.int 1), some (.int (a4 + 1)), none]) dX10_builtIn_46 rfl (show _ = (a4 + 1) from rfl) rfl ?_
        refine x_goto (tgt := 5) dX10_builtIn_49 rfl ?_
        exact hT h0 h hW hF
set_option maxHeartbeats 16000000 in
theorem vX10_suits_0 {l : Launch} {E : EN} {w : MO} {d : Nat} {s : MS} {Q : Option Value → MS → Prop} {x1 : Int32} {x2 : Int32} {x3 : Int32} {x4 : Int32} (hT : ((x1 = 5 → Q (some (.int 1)) s) ∧ (¬ x1 = 5 → ((x1 = 8 → Q (some (.int 1)) s) ∧ (¬ x1 = 8 → ((¬ x1 = 27 → ((¬ x2 = 0 → ((x1 = 3 → ((¬ x3 = 0 → Q (some (.int 0)) s) ∧ (x3 = 0 → Q (some (.int 1)) s))) ∧ (¬ x1 = 3 → ((¬ x1 = 25 → ((x1 = 20 → ((x3 ≤ 0 → Q (some (.int 0)) s) ∧ (¬ x3 ≤ 0 → Q (some (.int 1)) s))) ∧ (¬ x1 = 20 → ((¬ x1 = 21 → ((¬ x1 = 24 → ((¬ x1 = 19 → ((¬ x3 = 1 → Q (some (.int 0)) s) ∧ (x3 = 1 → Q (some (.int 1)) s))) ∧ (x1 = 19 → ((x4 = 3 → Q (some (.int 1)) s) ∧ (¬ x4 = 3 → ((x3 = 3 → Q (some (.int 1)) s) ∧ (¬ x3 = 3 → ((¬ x4 = 2 → ((¬ x3 = 2 → Q (some (.int 1)) s) ∧ (x3 = 2 → ((¬ x4 = 1 → Q (some (.int 0)) s) ∧ (x4 = 1 → Q (some (.int 1)) s))))) ∧ (x4 = 2 → ((x3 ≤ 0 → Q (some (.int 0)) s) ∧ (¬ x3 ≤ 0 → Q (some (.int 1)) s))))))))))) ∧ (x1 = 24 → ((2 ≤ x3 → Q (some (.int 0)) s) ∧ (¬ 2 ≤ x3 → Q (some (.int 1)) s))))) ∧ (x1 = 21 → ((x3 ≤ 0 → Q (some (.int 0)) s) ∧ (¬ x3 ≤ 0 → Q (some (.int 1)) s))))))) ∧ (x1 = 25 → ((¬ x3 = 0 → Q (some (.int 0)) s) ∧ (x3 = 0 → Q (some (.int 1)) s))))))) ∧ (x2 = 0 → ((x1 < 4 → ((¬ x3 = 0 → Q (some (.int 0)) s) ∧ (x3 = 0 → Q (some (.int 1)) s))) ∧ (¬ x1 < 4 → ((x1 = 20 → ((¬ x3 = 0 → Q (some (.int 0)) s) ∧ (x3 = 0 → Q (some (.int 1)) s))) ∧ (¬ x1 = 20 → ((¬ x1 = 21 → ((x1 = 4 → ((¬ x3 = 1 → Q (some (.int 0)) s) ∧ (x3 = 1 → Q (some (.int 1)) s))) ∧ (¬ x1 = 4 → ((x1 = 14 → ((¬ x3 = 1 → Q (some (.int 0)) s) ∧ (x3 = 1 → Q (some (.int 1)) s))) ∧ (¬ x1 = 14 → ((x1 = 18 → ((¬ x3 = 1 → Q (some (.int 0)) s) ∧ (x3 = 1 → Q (some (.int 1)) s))) ∧ (¬ x1 = 18 → ((x1 = 22 → ((¬ x3 = 1 → Q (some (.int 0)) s) ∧ (x3 = 1 → Q (some (.int 1)) s))) ∧ (¬ x1 = 22 → ((x1 = 24 → ((¬ x3 = 1 → Q (some (.int 0)) s) ∧ (x3 = 1 → Q (some (.int 1)) s))) ∧ (¬ x1 = 24 → ((¬ x1 = 26 → ((x1 = 6 → ((x3 ≤ 0 → Q (some (.int 0)) s) ∧ (¬ x3 ≤ 0 → Q (some (.int 1)) s))) ∧ (¬ x1 = 6 → ((x1 = 15 → ((x3 ≤ 0 → Q (some (.int 0)) s) ∧ (¬ x3 ≤ 0 → Q (some (.int 1)) s))) ∧ (¬ x1 = 15 → ((¬ x1 = 23 → ((x1 = 7 → ((¬ x3 = 2 → Q (some (.int 0)) s) ∧ (x3 = 2 → Q (some (.int 1)) s))) ∧ (¬ x1 = 7 → ((x1 = 17 → ((¬ x3 = 2 → Q (some (.int 0)) s) ∧ (x3 = 2 → Q (some (.int 1)) s))) ∧ (¬ x1 = 17 → ((¬ x1 = 25 → ((¬ x1 = 9 → ((x1 < 10 → ((¬ x1 = 16 → Q (some (.int 1)) s) ∧ (x1 = 16 → ((x3 ≤ 1 → Q (some (.int 0)) s) ∧ (¬ x3 ≤ 1 → Q (some (.int 1)) s))))) ∧ (¬ x1 < 10 → ((13 < x1 → ((¬ x1 = 16 → Q (some (.int 1)) s) ∧ (x1 = 16 → ((x3 ≤ 1 → Q (some (.int 0)) s) ∧ (¬ x3 ≤ 1 → Q (some (.int 1)) s))))) ∧ (¬ 13 < x1 → ((x3 = 1 → Q (some (.int 1)) s) ∧ (¬ x3 = 1 → ((¬ x3 = 2 → Q (some (.int 0)) s) ∧ (x3 = 2 → Q (some (.int 1)) s))))))))) ∧ (x1 = 9 → ((3 ≤ x3 → Q (some (.int 0)) s) ∧ (¬ 3 ≤ x3 → Q (some (.int 1)) s))))) ∧ (x1 = 25 → ((¬ x3 = 2 → Q (some (.int 0)) s) ∧ (x3 = 2 → Q (some (.int 1)) s))))))))) ∧ (x1 = 23 → ((x3 ≤ 0 → Q (some (.int 0)) s) ∧ (¬ x3 ≤ 0 → Q (some (.int 1)) s))))))))) ∧ (x1 = 26 → ((¬ x3 = 1 → Q (some (.int 0)) s) ∧ (x3 = 1 → Q (some (.int 1)) s))))))))))))))) ∧ (x1 = 21 → ((¬ x3 = 0 → Q (some (.int 0)) s) ∧ (x3 = 0 → Q (some (.int 1)) s))))))))))) ∧ (x1 = 27 → Q (some (.int 1)) s))))))) : ExM l E w d MX10_suits 0 [some (.int x1), some (.int x2), some (.int x3), some (.int x4)] [] s Q := by
  intro h0 h hW hF
  refine x_iload_n dX10_suits_0 rfl rfl ?_
  refine x_iconst (v := 5) dX10_suits_1 rfl ?_
  refine x_icmp_eq (tgt := 17) dX10_suits_2 rfl (fun c => ?_) (fun c => ?_)
  · have hT := hT.1 c
    refine x_iconst (v := 1) dX10_suits_17 rfl ?_
    exact x_iret dX10_suits_18 rfl rfl ⟨_, _, rfl, hW, hF, hT⟩
  · have hT := hT.2 c
    refine x_iload_n dX10_suits_5 rfl rfl ?_
    refine x_bipush (v := 8) dX10_suits_6 rfl ?_
    refine x_icmp_eq (tgt := 17) dX10_suits_8 rfl (fun c => ?_) (fun c => ?_)
    · have hT := hT.1 c
      refine x_iconst (v := 1) dX10_suits_17 rfl ?_
      exact x_iret dX10_suits_18 rfl rfl ⟨_, _, rfl, hW, hF, hT⟩
    · have hT := hT.2 c
      refine x_iload_n dX10_suits_11 rfl rfl ?_
      refine x_bipush (v := 27) dX10_suits_12 rfl ?_
      refine x_icmp_ne (tgt := 19) dX10_suits_14 rfl (fun c => ?_) (fun c => ?_)
      · have hT := hT.1 c
        refine x_iload_n dX10_suits_19 rfl rfl ?_
        refine x_if_ne (tgt := 215) dX10_suits_20 rfl (fun c => ?_) (fun c => ?_)
        · have hT := hT.1 c
          refine x_iload_n dX10_suits_215 rfl rfl ?_
          refine x_iconst (v := 3) dX10_suits_216 rfl ?_
          refine x_icmp_eq (tgt := 226) dX10_suits_217 rfl (fun c => ?_) (fun c => ?_)
          · have hT := hT.1 c
            refine x_iload_n dX10_suits_226 rfl rfl ?_
            refine x_if_ne (tgt := 234) dX10_suits_227 rfl (fun c => ?_) (fun c => ?_)
            · have hT := hT.1 c
              refine x_iconst (v := 0) dX10_suits_234 rfl ?_
              exact x_iret dX10_suits_235 rfl rfl ⟨_, _, rfl, hW, hF, hT⟩
            · have hT := hT.2 c
              refine x_iconst (v := 1) dX10_suits_230 rfl ?_
              refine x_goto (tgt := 235) dX10_suits_231 rfl ?_
              exact x_iret dX10_suits_235 rfl rfl ⟨_, _, rfl, hW, hF, hT⟩
          · have hT := hT.2 c
            refine x_iload_n dX10_suits_220 rfl rfl ?_
            refine x_bipush (v := 25) dX10_suits_221 rfl ?_
            refine x_icmp_ne (tgt := 236) dX10_suits_223 rfl (fun c => ?_) (fun c => ?_)
            · have hT := hT.1 c
              refine x_iload_n dX10_suits_236 rfl rfl ?_
              refine x_bipush (v := 20) dX10_suits_237 rfl ?_
              refine x_icmp_eq (tgt := 248) dX10_suits_239 rfl (fun c => ?_) (fun c => ?_)
              · have hT := hT.1 c
                refine x_iload_n dX10_suits_248 rfl rfl ?_
                refine x_if_le (tgt := 256) dX10_suits_249 rfl (fun c => ?_) (fun c => ?_)
                · have hT := hT.1 c
                  refine x_iconst (v := 0) dX10_suits_256 rfl ?_
                  exact x_iret dX10_suits_257 rfl rfl ⟨_, _, rfl, hW, hF, hT⟩
                · have hT := hT.2 c
                  refine x_iconst (v := 1) dX10_suits_252 rfl ?_
                  refine x_goto (tgt := 257) dX10_suits_253 rfl ?_
                  exact x_iret dX10_suits_257 rfl rfl ⟨_, _, rfl, hW, hF, hT⟩
              · have hT := hT.2 c
                refine x_iload_n dX10_suits_242 rfl rfl ?_
                refine x_bipush (v := 21) dX10_suits_243 rfl ?_
                refine x_icmp_ne (tgt := 258) dX10_suits_245 rfl (fun c => ?_) (fun c => ?_)
                · have hT := hT.1 c
                  refine x_iload_n dX10_suits_258 rfl rfl ?_
                  refine x_bipush (v := 24) dX10_suits_259 rfl ?_
                  refine x_icmp_ne (tgt := 275) dX10_suits_261 rfl (fun c => ?_) (fun c => ?_)
                  · have hT := hT.1 c
                    refine x_iload_n dX10_suits_275 rfl rfl ?_
                    refine x_bipush (v := 19) dX10_suits_276 rfl ?_
                    refine x_icmp_ne (tgt := 319) dX10_suits_278 rfl (fun c => ?_) (fun c => ?_)
                    · have hT := hT.1 c
                      refine x_iload_n dX10_suits_319 rfl rfl ?_
                      refine x_iconst (v := 1) dX10_suits_320 rfl ?_
                      refine x_icmp_ne (tgt := 328) dX10_suits_321 rfl (fun c => ?_) (fun c => ?_)
                      · have hT := hT.1 c
                        refine x_iconst (v := 0) dX10_suits_328 rfl ?_
                        exact x_iret dX10_suits_329 rfl rfl ⟨_, _, rfl, hW, hF, hT⟩
                      · have hT := hT.2 c
                        refine x_iconst (v := 1) dX10_suits_324 rfl ?_
                        refine x_goto (tgt := 329) dX10_suits_325 rfl ?_
                        exact x_iret dX10_suits_329 rfl rfl ⟨_, _, rfl, hW, hF, hT⟩
                    · have hT := hT.2 c
                      refine x_iload_n dX10_suits_281 rfl rfl ?_
                      refine x_iconst (v := 3) dX10_suits_282 rfl ?_
                      refine x_icmp_eq (tgt := 313) dX10_suits_283 rfl (fun c => ?_) (fun c => ?_)
                      · have hT := hT.1 c
                        refine x_iconst (v := 1) dX10_suits_313 rfl ?_
                        refine x_goto (tgt := 318) dX10_suits_314 rfl ?_
                        exact x_iret dX10_suits_318 rfl rfl ⟨_, _, rfl, hW, hF, hT⟩
                      · have hT := hT.2 c
                        refine x_iload_n dX10_suits_286 rfl rfl ?_
                        refine x_iconst (v := 3) dX10_suits_287 rfl ?_
                        refine x_icmp_eq (tgt := 313) dX10_suits_288 rfl (fun c => ?_) (fun c => ?_)
                        · have hT := hT.1 c
                          refine x_iconst (v := 1) dX10_suits_313 rfl ?_
                          refine x_goto (tgt := 318) dX10_suits_314 rfl ?_
                          exact x_iret dX10_suits_318 rfl rfl ⟨_, _, rfl, hW, hF, hT⟩
                        · have hT := hT.2 c
                          refine x_iload_n dX10_suits_291 rfl rfl ?_
                          refine x_iconst (v := 2) dX10_suits_292 rfl ?_
                          refine x_icmp_ne (tgt := 303) dX10_suits_293 rfl (fun c => ?_) (fun c => ?_)
                          · have hT := hT.1 c
                            refine x_iload_n dX10_suits_303 rfl rfl ?_
                            refine x_iconst (v := 2) dX10_suits_304 rfl ?_
                            refine x_icmp_ne (tgt := 313) dX10_suits_305 rfl (fun c => ?_) (fun c => ?_)
                            · have hT := hT.1 c
                              refine x_iconst (v := 1) dX10_suits_313 rfl ?_
                              refine x_goto (tgt := 318) dX10_suits_314 rfl ?_
                              exact x_iret dX10_suits_318 rfl rfl ⟨_, _, rfl, hW, hF, hT⟩
                            · have hT := hT.2 c
                              refine x_iload_n dX10_suits_308 rfl rfl ?_
                              refine x_iconst (v := 1) dX10_suits_309 rfl ?_
                              refine x_icmp_ne (tgt := 317) dX10_suits_310 rfl (fun c => ?_) (fun c => ?_)
                              · have hT := hT.1 c
                                refine x_iconst (v := 0) dX10_suits_317 rfl ?_
                                exact x_iret dX10_suits_318 rfl rfl ⟨_, _, rfl, hW, hF, hT⟩
                              · have hT := hT.2 c
                                refine x_iconst (v := 1) dX10_suits_313 rfl ?_
                                refine x_goto (tgt := 318) dX10_suits_314 rfl ?_
                                exact x_iret dX10_suits_318 rfl rfl ⟨_, _, rfl, hW, hF, hT⟩
                          · have hT := hT.2 c
                            refine x_iload_n dX10_suits_296 rfl rfl ?_
                            refine x_if_le (tgt := 317) dX10_suits_297 rfl (fun c => ?_) (fun c => ?_)
                            · have hT := hT.1 c
                              refine x_iconst (v := 0) dX10_suits_317 rfl ?_
                              exact x_iret dX10_suits_318 rfl rfl ⟨_, _, rfl, hW, hF, hT⟩
                            · have hT := hT.2 c
                              refine x_goto (tgt := 313) dX10_suits_300 rfl ?_
                              refine x_iconst (v := 1) dX10_suits_313 rfl ?_
                              refine x_goto (tgt := 318) dX10_suits_314 rfl ?_
                              exact x_iret dX10_suits_318 rfl rfl ⟨_, _, rfl, hW, hF, hT⟩
                  · have hT := hT.2 c
                    refine x_iload_n dX10_suits_264 rfl rfl ?_
                    refine x_iconst (v := 2) dX10_suits_265 rfl ?_
                    refine x_icmp_ge (tgt := 273) dX10_suits_266 rfl (fun c => ?_) (fun c => ?_)
                    · have hT := hT.1 c
                      refine x_iconst (v := 0) dX10_suits_273 rfl ?_
                      exact x_iret dX10_suits_274 rfl rfl ⟨_, _, rfl, hW, hF, hT⟩
                    · have hT := hT.2 c
                      refine x_iconst (v := 1) dX10_suits_269 rfl ?_
                      refine x_goto (tgt := 274) dX10_suits_270 rfl ?_
                      exact x_iret dX10_suits_274 rfl rfl ⟨_, _, rfl, hW, hF, hT⟩
                · have hT := hT.2 c
                  refine x_iload_n dX10_suits_248 rfl rfl ?_
                  refine x_if_le (tgt := 256) dX10_suits_249 rfl (fun c => ?_) (fun c => ?_)
                  · have hT := hT.1 c
                    refine x_iconst (v := 0) dX10_suits_256 rfl ?_
                    exact x_iret dX10_suits_257 rfl rfl ⟨_, _, rfl, hW, hF, hT⟩
                  · have hT := hT.2 c
                    refine x_iconst (v := 1) dX10_suits_252 rfl ?_
                    refine x_goto (tgt := 257) dX10_suits_253 rfl ?_
                    exact x_iret dX10_suits_257 rfl rfl ⟨_, _, rfl, hW, hF, hT⟩
            · have hT := hT.2 c
              refine x_iload_n dX10_suits_226 rfl rfl ?_
              refine x_if_ne (tgt := 234) dX10_suits_227 rfl (fun c => ?_) (fun c => ?_)
              · have hT := hT.1 c
                refine x_iconst (v := 0) dX10_suits_234 rfl ?_
                exact x_iret dX10_suits_235 rfl rfl ⟨_, _, rfl, hW, hF, hT⟩
              · have hT := hT.2 c
                refine x_iconst (v := 1) dX10_suits_230 rfl ?_
                refine x_goto (tgt := 235) dX10_suits_231 rfl ?_
                exact x_iret dX10_suits_235 rfl rfl ⟨_, _, rfl, hW, hF, hT⟩
        · have hT := hT.2 c
          refine x_iload_n dX10_suits_23 rfl rfl ?_
          refine x_iconst (v := 4) dX10_suits_24 rfl ?_
          refine x_icmp_lt (tgt := 40) dX10_suits_25 rfl (fun c => ?_) (fun c => ?_)
          · have hT := hT.1 c
            refine x_iload_n dX10_suits_40 rfl rfl ?_
            refine x_if_ne (tgt := 48) dX10_suits_41 rfl (fun c => ?_) (fun c => ?_)
            · have hT := hT.1 c
              refine x_iconst (v := 0) dX10_suits_48 rfl ?_
              exact x_iret dX10_suits_49 rfl rfl ⟨_, _, rfl, hW, hF, hT⟩
            · have hT := hT.2 c
              refine x_iconst (v := 1) dX10_suits_44 rfl ?_
              refine x_goto (tgt := 49) dX10_suits_45 rfl ?_
              exact x_iret dX10_suits_49 rfl rfl ⟨_, _, rfl, hW, hF, hT⟩
          · have hT := hT.2 c
            refine x_iload_n dX10_suits_28 rfl rfl ?_
            refine x_bipush (v := 20) dX10_suits_29 rfl ?_
            refine x_icmp_eq (tgt := 40) dX10_suits_31 rfl (fun c => ?_) (fun c => ?_)
            · have hT := hT.1 c
              refine x_iload_n dX10_suits_40 rfl rfl ?_
              refine x_if_ne (tgt := 48) dX10_suits_41 rfl (fun c => ?_) (fun c => ?_)
              · have hT := hT.1 c
                refine x_iconst (v := 0) dX10_suits_48 rfl ?_
                exact x_iret dX10_suits_49 rfl rfl ⟨_, _, rfl, hW, hF, hT⟩
              · have hT := hT.2 c
                refine x_iconst (v := 1) dX10_suits_44 rfl ?_
                refine x_goto (tgt := 49) dX10_suits_45 rfl ?_
                exact x_iret dX10_suits_49 rfl rfl ⟨_, _, rfl, hW, hF, hT⟩
            · have hT := hT.2 c
              refine x_iload_n dX10_suits_34 rfl rfl ?_
              refine x_bipush (v := 21) dX10_suits_35 rfl ?_
              refine x_icmp_ne (tgt := 50) dX10_suits_37 rfl (fun c => ?_) (fun c => ?_)
              · have hT := hT.1 c
                refine x_iload_n dX10_suits_50 rfl rfl ?_
                refine x_iconst (v := 4) dX10_suits_51 rfl ?_
                refine x_icmp_eq (tgt := 85) dX10_suits_52 rfl (fun c => ?_) (fun c => ?_)
                · have hT := hT.1 c
                  refine x_iload_n dX10_suits_85 rfl rfl ?_
                  refine x_iconst (v := 1) dX10_suits_86 rfl ?_
                  refine x_icmp_ne (tgt := 94) dX10_suits_87 rfl (fun c => ?_) (fun c => ?_)
                  · have hT := hT.1 c
                    refine x_iconst (v := 0) dX10_suits_94 rfl ?_
                    exact x_iret dX10_suits_95 rfl rfl ⟨_, _, rfl, hW, hF, hT⟩
                  · have hT := hT.2 c
                    refine x_iconst (v := 1) dX10_suits_90 rfl ?_
                    refine x_goto (tgt := 95) dX10_suits_91 rfl ?_
                    exact x_iret dX10_suits_95 rfl rfl ⟨_, _, rfl, hW, hF, hT⟩
                · have hT := hT.2 c
                  refine x_iload_n dX10_suits_55 rfl rfl ?_
                  refine x_bipush (v := 14) dX10_suits_56 rfl ?_
                  refine x_icmp_eq (tgt := 85) dX10_suits_58 rfl (fun c => ?_) (fun c => ?_)
                  · have hT := hT.1 c
                    refine x_iload_n dX10_suits_85 rfl rfl ?_
                    refine x_iconst (v := 1) dX10_suits_86 rfl ?_
                    refine x_icmp_ne (tgt := 94) dX10_suits_87 rfl (fun c => ?_) (fun c => ?_)
                    · have hT := hT.1 c
                      refine x_iconst (v := 0) dX10_suits_94 rfl ?_
                      exact x_iret dX10_suits_95 rfl rfl ⟨_, _, rfl, hW, hF, hT⟩
                    · have hT := hT.2 c
                      refine x_iconst (v := 1) dX10_suits_90 rfl ?_
                      refine x_goto (tgt := 95) dX10_suits_91 rfl ?_
                      exact x_iret dX10_suits_95 rfl rfl ⟨_, _, rfl, hW, hF, hT⟩
                  · have hT := hT.2 c
                    refine x_iload_n dX10_suits_61 rfl rfl ?_
                    refine x_bipush (v := 18) dX10_suits_62 rfl ?_
                    refine x_icmp_eq (tgt := 85) dX10_suits_64 rfl (fun c => ?_) (fun c => ?_)
                    · have hT := hT.1 c
                      refine x_iload_n dX10_suits_85 rfl rfl ?_
                      refine x_iconst (v := 1) dX10_suits_86 rfl ?_
                      refine x_icmp_ne (tgt := 94) dX10_suits_87 rfl (fun c => ?_) (fun c => ?_)
                      · have hT := hT.1 c
                        refine x_iconst (v := 0) dX10_suits_94 rfl ?_
                        exact x_iret dX10_suits_95 rfl rfl ⟨_, _, rfl, hW, hF, hT⟩
                      · have hT := hT.2 c
                        refine x_iconst (v := 1) dX10_suits_90 rfl ?_
                        refine x_goto (tgt := 95) dX10_suits_91 rfl ?_
                        exact x_iret dX10_suits_95 rfl rfl ⟨_, _, rfl, hW, hF, hT⟩
                    · have hT := hT.2 c
                      refine x_iload_n dX10_suits_67 rfl rfl ?_
                      refine x_bipush (v := 22) dX10_suits_68 rfl ?_
                      refine x_icmp_eq (tgt := 85) dX10_suits_70 rfl (fun c => ?_) (fun c => ?_)
                      · have hT := hT.1 c
                        refine x_iload_n dX10_suits_85 rfl rfl ?_
                        refine x_iconst (v := 1) dX10_suits_86 rfl ?_
                        refine x_icmp_ne (tgt := 94) dX10_suits_87 rfl (fun c => ?_) (fun c => ?_)
                        · have hT := hT.1 c
                          refine x_iconst (v := 0) dX10_suits_94 rfl ?_
                          exact x_iret dX10_suits_95 rfl rfl ⟨_, _, rfl, hW, hF, hT⟩
                        · have hT := hT.2 c
                          refine x_iconst (v := 1) dX10_suits_90 rfl ?_
                          refine x_goto (tgt := 95) dX10_suits_91 rfl ?_
                          exact x_iret dX10_suits_95 rfl rfl ⟨_, _, rfl, hW, hF, hT⟩
                      · have hT := hT.2 c
                        refine x_iload_n dX10_suits_73 rfl rfl ?_
                        refine x_bipush (v := 24) dX10_suits_74 rfl ?_
                        refine x_icmp_eq (tgt := 85) dX10_suits_76 rfl (fun c => ?_) (fun c => ?_)
                        · have hT := hT.1 c
                          refine x_iload_n dX10_suits_85 rfl rfl ?_
                          refine x_iconst (v := 1) dX10_suits_86 rfl ?_
                          refine x_icmp_ne (tgt := 94) dX10_suits_87 rfl (fun c => ?_) (fun c => ?_)
                          · have hT := hT.1 c
                            refine x_iconst (v := 0) dX10_suits_94 rfl ?_
                            exact x_iret dX10_suits_95 rfl rfl ⟨_, _, rfl, hW, hF, hT⟩
                          · have hT := hT.2 c
                            refine x_iconst (v := 1) dX10_suits_90 rfl ?_
                            refine x_goto (tgt := 95) dX10_suits_91 rfl ?_
                            exact x_iret dX10_suits_95 rfl rfl ⟨_, _, rfl, hW, hF, hT⟩
                        · have hT := hT.2 c
                          refine x_iload_n dX10_suits_79 rfl rfl ?_
                          refine x_bipush (v := 26) dX10_suits_80 rfl ?_
                          refine x_icmp_ne (tgt := 96) dX10_suits_82 rfl (fun c => ?_) (fun c => ?_)
                          · have hT := hT.1 c
                            refine x_iload_n dX10_suits_96 rfl rfl ?_
                            refine x_bipush (v := 6) dX10_suits_97 rfl ?_
                            refine x_icmp_eq (tgt := 114) dX10_suits_99 rfl (fun c => ?_) (fun c => ?_)
                            · have hT := hT.1 c
                              refine x_iload_n dX10_suits_114 rfl rfl ?_
                              refine x_if_le (tgt := 122) dX10_suits_115 rfl (fun c => ?_) (fun c => ?_)
                              · have hT := hT.1 c
                                refine x_iconst (v := 0) dX10_suits_122 rfl ?_
                                exact x_iret dX10_suits_123 rfl rfl ⟨_, _, rfl, hW, hF, hT⟩
                              · have hT := hT.2 c
                                refine x_iconst (v := 1) dX10_suits_118 rfl ?_
                                refine x_goto (tgt := 123) dX10_suits_119 rfl ?_
                                exact x_iret dX10_suits_123 rfl rfl ⟨_, _, rfl, hW, hF, hT⟩
                            · have hT := hT.2 c
                              refine x_iload_n dX10_suits_102 rfl rfl ?_
                              refine x_bipush (v := 15) dX10_suits_103 rfl ?_
                              refine x_icmp_eq (tgt := 114) dX10_suits_105 rfl (fun c => ?_) (fun c => ?_)
                              · have hT := hT.1 c
                                refine x_iload_n dX10_suits_114 rfl rfl ?_
                                refine x_if_le (tgt := 122) dX10_suits_115 rfl (fun c => ?_) (fun c => ?_)
                                · have hT := hT.1 c
                                  refine x_iconst (v := 0) dX10_suits_122 rfl ?_
                                  exact x_iret dX10_suits_123 rfl rfl ⟨_, _, rfl, hW, hF, hT⟩
                                · have hT := hT.2 c
                                  refine x_iconst (v := 1) dX10_suits_118 rfl ?_
                                  refine x_goto (tgt := 123) dX10_suits_119 rfl ?_
                                  exact x_iret dX10_suits_123 rfl rfl ⟨_, _, rfl, hW, hF, hT⟩
                              · have hT := hT.2 c
                                refine x_iload_n dX10_suits_108 rfl rfl ?_
                                refine x_bipush (v := 23) dX10_suits_109 rfl ?_
                                refine x_icmp_ne (tgt := 124) dX10_suits_111 rfl (fun c => ?_) (fun c => ?_)
                                · have hT := hT.1 c
                                  refine x_iload_n dX10_suits_124 rfl rfl ?_
                                  refine x_bipush (v := 7) dX10_suits_125 rfl ?_
                                  refine x_icmp_eq (tgt := 142) dX10_suits_127 rfl (fun c => ?_) (fun c => ?_)
                                  · have hT := hT.1 c
                                    refine x_iload_n dX10_suits_142 rfl rfl ?_
                                    refine x_iconst (v := 2) dX10_suits_143 rfl ?_
                                    refine x_icmp_ne (tgt := 151) dX10_suits_144 rfl (fun c => ?_) (fun c => ?_)
                                    · have hT := hT.1 c
                                      refine x_iconst (v := 0) dX10_suits_151 rfl ?_
                                      exact x_iret dX10_suits_152 rfl rfl ⟨_, _, rfl, hW, hF, hT⟩
                                    · have hT := hT.2 c
                                      refine x_iconst (v := 1) dX10_suits_147 rfl ?_
                                      refine x_goto (tgt := 152) dX10_suits_148 rfl ?_
                                      exact x_iret dX10_suits_152 rfl rfl ⟨_, _, rfl, hW, hF, hT⟩
                                  · have hT := hT.2 c
                                    refine x_iload_n dX10_suits_130 rfl rfl ?_
                                    refine x_bipush (v := 17) dX10_suits_131 rfl ?_
                                    refine x_icmp_eq (tgt := 142) dX10_suits_133 rfl (fun c => ?_) (fun c => ?_)
                                    · have hT := hT.1 c
                                      refine x_iload_n dX10_suits_142 rfl rfl ?_
                                      refine x_iconst (v := 2) dX10_suits_143 rfl ?_
                                      refine x_icmp_ne (tgt := 151) dX10_suits_144 rfl (fun c => ?_) (fun c => ?_)
                                      · have hT := hT.1 c
                                        refine x_iconst (v := 0) dX10_suits_151 rfl ?_
                                        exact x_iret dX10_suits_152 rfl rfl ⟨_, _, rfl, hW, hF, hT⟩
                                      · have hT := hT.2 c
                                        refine x_iconst (v := 1) dX10_suits_147 rfl ?_
                                        refine x_goto (tgt := 152) dX10_suits_148 rfl ?_
                                        exact x_iret dX10_suits_152 rfl rfl ⟨_, _, rfl, hW, hF, hT⟩
                                    · have hT := hT.2 c
                                      refine x_iload_n dX10_suits_136 rfl rfl ?_
                                      refine x_bipush (v := 25) dX10_suits_137 rfl ?_
                                      refine x_icmp_ne (tgt := 153) dX10_suits_139 rfl (fun c => ?_) (fun c => ?_)
                                      · have hT := hT.1 c
                                        refine x_iload_n dX10_suits_153 rfl rfl ?_
                                        refine x_bipush (v := 9) dX10_suits_154 rfl ?_
                                        refine x_icmp_ne (tgt := 170) dX10_suits_156 rfl (fun c => ?_) (fun c => ?_)
                                        · have hT := hT.1 c
                                          refine x_iload_n dX10_suits_170 rfl rfl ?_
                                          refine x_bipush (v := 10) dX10_suits_171 rfl ?_
                                          refine x_icmp_lt (tgt := 198) dX10_suits_173 rfl (fun c => ?_) (fun c => ?_)
                                          · have hT := hT.1 c
                                            refine x_iload_n dX10_suits_198 rfl rfl ?_
                                            refine x_bipush (v := 16) dX10_suits_199 rfl ?_
                                            refine x_icmp_ne (tgt := 209) dX10_suits_201 rfl (fun c => ?_) (fun c => ?_)
                                            · have hT := hT.1 c
                                              refine x_iconst (v := 1) dX10_suits_209 rfl ?_
                                              refine x_goto (tgt := 214) dX10_suits_210 rfl ?_
                                              exact x_iret dX10_suits_214 rfl rfl ⟨_, _, rfl, hW, hF, hT⟩
                                            · have hT := hT.2 c
                                              refine x_iload_n dX10_suits_204 rfl rfl ?_
                                              refine x_iconst (v := 1) dX10_suits_205 rfl ?_
                                              refine x_icmp_le (tgt := 213) dX10_suits_206 rfl (fun c => ?_) (fun c => ?_)
                                              · have hT := hT.1 c
                                                refine x_iconst (v := 0) dX10_suits_213 rfl ?_
                                                exact x_iret dX10_suits_214 rfl rfl ⟨_, _, rfl, hW, hF, hT⟩
                                              · have hT := hT.2 c
                                                refine x_iconst (v := 1) dX10_suits_209 rfl ?_
                                                refine x_goto (tgt := 214) dX10_suits_210 rfl ?_
                                                exact x_iret dX10_suits_214 rfl rfl ⟨_, _, rfl, hW, hF, hT⟩
                                          · have hT := hT.2 c
                                            refine x_iload_n dX10_suits_176 rfl rfl ?_
                                            refine x_bipush (v := 13) dX10_suits_177 rfl ?_
                                            refine x_icmp_gt (tgt := 198) dX10_suits_179 rfl (fun c => ?_) (fun c => ?_)
                                            · have hT := hT.1 c
                                              refine x_iload_n dX10_suits_198 rfl rfl ?_
                                              refine x_bipush (v := 16) dX10_suits_199 rfl ?_
                                              refine x_icmp_ne (tgt := 209) dX10_suits_201 rfl (fun c => ?_) (fun c => ?_)
                                              · have hT := hT.1 c
                                                refine x_iconst (v := 1) dX10_suits_209 rfl ?_
                                                refine x_goto (tgt := 214) dX10_suits_210 rfl ?_
                                                exact x_iret dX10_suits_214 rfl rfl ⟨_, _, rfl, hW, hF, hT⟩
                                              · have hT := hT.2 c
                                                refine x_iload_n dX10_suits_204 rfl rfl ?_
                                                refine x_iconst (v := 1) dX10_suits_205 rfl ?_
                                                refine x_icmp_le (tgt := 213) dX10_suits_206 rfl (fun c => ?_) (fun c => ?_)
                                                · have hT := hT.1 c
                                                  refine x_iconst (v := 0) dX10_suits_213 rfl ?_
                                                  exact x_iret dX10_suits_214 rfl rfl ⟨_, _, rfl, hW, hF, hT⟩
                                                · have hT := hT.2 c
                                                  refine x_iconst (v := 1) dX10_suits_209 rfl ?_
                                                  refine x_goto (tgt := 214) dX10_suits_210 rfl ?_
                                                  exact x_iret dX10_suits_214 rfl rfl ⟨_, _, rfl, hW, hF, hT⟩
                                            · have hT := hT.2 c
                                              refine x_iload_n dX10_suits_182 rfl rfl ?_
                                              refine x_iconst (v := 1) dX10_suits_183 rfl ?_
                                              refine x_icmp_eq (tgt := 192) dX10_suits_184 rfl (fun c => ?_) (fun c => ?_)
                                              · have hT := hT.1 c
                                                refine x_iconst (v := 1) dX10_suits_192 rfl ?_
                                                refine x_goto (tgt := 197) dX10_suits_193 rfl ?_
                                                exact x_iret dX10_suits_197 rfl rfl ⟨_, _, rfl, hW, hF, hT⟩
                                              · have hT := hT.2 c
                                                refine x_iload_n dX10_suits_187 rfl rfl ?_
                                                refine x_iconst (v := 2) dX10_suits_188 rfl ?_
                                                refine x_icmp_ne (tgt := 196) dX10_suits_189 rfl (fun c => ?_) (fun c => ?_)
                                                · have hT := hT.1 c
                                                  refine x_iconst (v := 0) dX10_suits_196 rfl ?_
                                                  exact x_iret dX10_suits_197 rfl rfl ⟨_, _, rfl, hW, hF, hT⟩
                                                · have hT := hT.2 c
                                                  refine x_iconst (v := 1) dX10_suits_192 rfl ?_
                                                  refine x_goto (tgt := 197) dX10_suits_193 rfl ?_
                                                  exact x_iret dX10_suits_197 rfl rfl ⟨_, _, rfl, hW, hF, hT⟩
                                        · have hT := hT.2 c
                                          refine x_iload_n dX10_suits_159 rfl rfl ?_
                                          refine x_iconst (v := 3) dX10_suits_160 rfl ?_
                                          refine x_icmp_ge (tgt := 168) dX10_suits_161 rfl (fun c => ?_) (fun c => ?_)
                                          · have hT := hT.1 c
                                            refine x_iconst (v := 0) dX10_suits_168 rfl ?_
                                            exact x_iret dX10_suits_169 rfl rfl ⟨_, _, rfl, hW, hF, hT⟩
                                          · have hT := hT.2 c
                                            refine x_iconst (v := 1) dX10_suits_164 rfl ?_
                                            refine x_goto (tgt := 169) dX10_suits_165 rfl ?_
                                            exact x_iret dX10_suits_169 rfl rfl ⟨_, _, rfl, hW, hF, hT⟩
                                      · have hT := hT.2 c
                                        refine x_iload_n dX10_suits_142 rfl rfl ?_
                                        refine x_iconst (v := 2) dX10_suits_143 rfl ?_
                                        refine x_icmp_ne (tgt := 151) dX10_suits_144 rfl (fun c => ?_) (fun c => ?_)
                                        · have hT := hT.1 c
                                          refine x_iconst (v := 0) dX10_suits_151 rfl ?_
                                          exact x_iret dX10_suits_152 rfl rfl ⟨_, _, rfl, hW, hF, hT⟩
                                        · have hT := hT.2 c
                                          refine x_iconst (v := 1) dX10_suits_147 rfl ?_
                                          refine x_goto (tgt := 152) dX10_suits_148 rfl ?_
                                          exact x_iret dX10_suits_152 rfl rfl ⟨_, _, rfl, hW, hF, hT⟩
                                · have hT := hT.2 c
                                  refine x_iload_n dX10_suits_114 rfl rfl ?_
                                  refine x_if_le (tgt := 122) dX10_suits_115 rfl (fun c => ?_) (fun c => ?_)
                                  · have hT := hT.1 c
                                    refine x_iconst (v := 0) dX10_suits_122 rfl ?_
                                    exact x_iret dX10_suits_123 rfl rfl ⟨_, _, rfl, hW, hF, hT⟩
                                  · have hT := hT.2 c
                                    refine x_iconst (v := 1) dX10_suits_118 rfl ?_
                                    refine x_goto (tgt := 123) dX10_suits_119 rfl ?_
                                    exact x_iret dX10_suits_123 rfl rfl ⟨_, _, rfl, hW, hF, hT⟩
                          · have hT := hT.2 c
                            refine x_iload_n dX10_suits_85 rfl rfl ?_
                            refine x_iconst (v := 1) dX10_suits_86 rfl ?_
                            refine x_icmp_ne (tgt := 94) dX10_suits_87 rfl (fun c => ?_) (fun c => ?_)
                            · have hT := hT.1 c
                              refine x_iconst (v := 0) dX10_suits_94 rfl ?_
                              exact x_iret dX10_suits_95 rfl rfl ⟨_, _, rfl, hW, hF, hT⟩
                            · have hT := hT.2 c
                              refine x_iconst (v := 1) dX10_suits_90 rfl ?_
                              refine x_goto (tgt := 95) dX10_suits_91 rfl ?_
                              exact x_iret dX10_suits_95 rfl rfl ⟨_, _, rfl, hW, hF, hT⟩
              · have hT := hT.2 c
                refine x_iload_n dX10_suits_40 rfl rfl ?_
                refine x_if_ne (tgt := 48) dX10_suits_41 rfl (fun c => ?_) (fun c => ?_)
                · have hT := hT.1 c
                  refine x_iconst (v := 0) dX10_suits_48 rfl ?_
                  exact x_iret dX10_suits_49 rfl rfl ⟨_, _, rfl, hW, hF, hT⟩
                · have hT := hT.2 c
                  refine x_iconst (v := 1) dX10_suits_44 rfl ?_
                  refine x_goto (tgt := 49) dX10_suits_45 rfl ?_
                  exact x_iret dX10_suits_49 rfl rfl ⟨_, _, rfl, hW, hF, hT⟩
      · have hT := hT.2 c
        refine x_iconst (v := 1) dX10_suits_17 rfl ?_
        exact x_iret dX10_suits_18 rfl rfl ⟨_, _, rfl, hW, hF, hT⟩
theorem eX10_suits {l : Launch} {E : EN} {w : MO} {d : Nat} {s : MS} {Q : Option Value → MS → Prop} {x1 : Int32} {x2 : Int32} {x3 : Int32} {x4 : Int32} (hst : l.stackTraces = false) (hT : ((x1 = 5 → Q (some (.int 1)) s) ∧ (¬ x1 = 5 → ((x1 = 8 → Q (some (.int 1)) s) ∧ (¬ x1 = 8 → ((¬ x1 = 27 → ((¬ x2 = 0 → ((x1 = 3 → ((¬ x3 = 0 → Q (some (.int 0)) s) ∧ (x3 = 0 → Q (some (.int 1)) s))) ∧ (¬ x1 = 3 → ((¬ x1 = 25 → ((x1 = 20 → ((x3 ≤ 0 → Q (some (.int 0)) s) ∧ (¬ x3 ≤ 0 → Q (some (.int 1)) s))) ∧ (¬ x1 = 20 → ((¬ x1 = 21 → ((¬ x1 = 24 → ((¬ x1 = 19 → ((¬ x3 = 1 → Q (some (.int 0)) s) ∧ (x3 = 1 → Q (some (.int 1)) s))) ∧ (x1 = 19 → ((x4 = 3 → Q (some (.int 1)) s) ∧ (¬ x4 = 3 → ((x3 = 3 → Q (some (.int 1)) s) ∧ (¬ x3 = 3 → ((¬ x4 = 2 → ((¬ x3 = 2 → Q (some (.int 1)) s) ∧ (x3 = 2 → ((¬ x4 = 1 → Q (some (.int 0)) s) ∧ (x4 = 1 → Q (some (.int 1)) s))))) ∧ (x4 = 2 → ((x3 ≤ 0 → Q (some (.int 0)) s) ∧ (¬ x3 ≤ 0 → Q (some (.int 1)) s))))))))))) ∧ (x1 = 24 → ((2 ≤ x3 → Q (some (.int 0)) s) ∧ (¬ 2 ≤ x3 → Q (some (.int 1)) s))))) ∧ (x1 = 21 → ((x3 ≤ 0 → Q (some (.int 0)) s) ∧ (¬ x3 ≤ 0 → Q (some (.int 1)) s))))))) ∧ (x1 = 25 → ((¬ x3 = 0 → Q (some (.int 0)) s) ∧ (x3 = 0 → Q (some (.int 1)) s))))))) ∧ (x2 = 0 → ((x1 < 4 → ((¬ x3 = 0 → Q (some (.int 0)) s) ∧ (x3 = 0 → Q (some (.int 1)) s))) ∧ (¬ x1 < 4 → ((x1 = 20 → ((¬ x3 = 0 → Q (some (.int 0)) s) ∧ (x3 = 0 → Q (some (.int 1)) s))) ∧ (¬ x1 = 20 → ((¬ x1 = 21 → ((x1 = 4 → ((¬ x3 = 1 → Q (some (.int 0)) s) ∧ (x3 = 1 → Q (some (.int 1)) s))) ∧ (¬ x1 = 4 → ((x1 = 14 → ((¬ x3 = 1 → Q (some (.int 0)) s) ∧ (x3 = 1 → Q (some (.int 1)) s))) ∧ (¬ x1 = 14 → ((x1 = 18 → ((¬ x3 = 1 → Q (some (.int 0)) s) ∧ (x3 = 1 → Q (some (.int 1)) s))) ∧ (¬ x1 = 18 → ((x1 = 22 → ((¬ x3 = 1 → Q (some (.int 0)) s) ∧ (x3 = 1 → Q (some (.int 1)) s))) ∧ (¬ x1 = 22 → ((x1 = 24 → ((¬ x3 = 1 → Q (some (.int 0)) s) ∧ (x3 = 1 → Q (some (.int 1)) s))) ∧ (¬ x1 = 24 → ((¬ x1 = 26 → ((x1 = 6 → ((x3 ≤ 0 → Q (some (.int 0)) s) ∧ (¬ x3 ≤ 0 → Q (some (.int 1)) s))) ∧ (¬ x1 = 6 → ((x1 = 15 → ((x3 ≤ 0 → Q (some (.int 0)) s) ∧ (¬ x3 ≤ 0 → Q (some (.int 1)) s))) ∧ (¬ x1 = 15 → ((¬ x1 = 23 → ((x1 = 7 → ((¬ x3 = 2 → Q (some (.int 0)) s) ∧ (x3 = 2 → Q (some (.int 1)) s))) ∧ (¬ x1 = 7 → ((x1 = 17 → ((¬ x3 = 2 → Q (some (.int 0)) s) ∧ (x3 = 2 → Q (some (.int 1)) s))) ∧ (¬ x1 = 17 → ((¬ x1 = 25 → ((¬ x1 = 9 → ((x1 < 10 → ((¬ x1 = 16 → Q (some (.int 1)) s) ∧ (x1 = 16 → ((x3 ≤ 1 → Q (some (.int 0)) s) ∧ (¬ x3 ≤ 1 → Q (some (.int 1)) s))))) ∧ (¬ x1 < 10 → ((13 < x1 → ((¬ x1 = 16 → Q (some (.int 1)) s) ∧ (x1 = 16 → ((x3 ≤ 1 → Q (some (.int 0)) s) ∧ (¬ x3 ≤ 1 → Q (some (.int 1)) s))))) ∧ (¬ 13 < x1 → ((x3 = 1 → Q (some (.int 1)) s) ∧ (¬ x3 = 1 → ((¬ x3 = 2 → Q (some (.int 0)) s) ∧ (x3 = 2 → Q (some (.int 1)) s))))))))) ∧ (x1 = 9 → ((3 ≤ x3 → Q (some (.int 0)) s) ∧ (¬ 3 ≤ x3 → Q (some (.int 1)) s))))) ∧ (x1 = 25 → ((¬ x3 = 2 → Q (some (.int 0)) s) ∧ (x3 = 2 → Q (some (.int 1)) s))))))))) ∧ (x1 = 23 → ((x3 ≤ 0 → Q (some (.int 0)) s) ∧ (¬ x3 ≤ 0 → Q (some (.int 1)) s))))))))) ∧ (x1 = 26 → ((¬ x3 = 1 → Q (some (.int 0)) s) ∧ (x3 = 1 → Q (some (.int 1)) s))))))))))))))) ∧ (x1 = 21 → ((¬ x3 = 0 → Q (some (.int 0)) s) ∧ (x3 = 0 → Q (some (.int 1)) s))))))))))) ∧ (x1 = 27 → Q (some (.int 1)) s))))))) : EvM l E w d MX10_suits [.int x1, .int x2, .int x3, .int x4] s Q :=
  EvM.of hst (by decide) (Nat.le_of_ble_eq_true rfl) (vX10_suits_0 hT)
theorem vX10_makes_0 {l : Launch} {E : EN} {w : MO} {d : Nat} {s : MS} {Q : Option Value → MS → Prop} {x1 : Int32} {x2 : Int32} {x3 : Int32} {x4 : Int32} (hT : ((2 ≤ x1 → ((x2 ≤ 20 → ExM l E w (d + 1) MX10_makes 24 [some (.ref w.1), some (.int x1), some (.int x2), some (.int x3), some (.int x4), some (.int x2), none, none, none, none] [.int 0] s Q) ∧ (¬ x2 ≤ 20 → ExM l E w (d + 1) MX10_makes 24 [some (.ref w.1), some (.int x1), some (.int x2), some (.int x3), some (.int x4), some (.int x2), none, none, none, none] [.int 1] s Q))) ∧ (¬ 2 ≤ x1 → ((x2 ≤ 64 → ExM l E w (d + 1) MX10_makes 24 [some (.ref w.1), some (.int x1), some (.int x2), some (.int x3), some (.int x4), some (.int x2), none, none, none, none] [.int 0] s Q) ∧ (¬ x2 ≤ 64 → ExM l E w (d + 1) MX10_makes 24 [some (.ref w.1), some (.int x1), some (.int x2), some (.int x3), some (.int x4), some (.int x2), none, none, none, none] [.int 1] s Q))))) : ExM l E w (d + 1) MX10_makes 0 [some (.ref w.1), some (.int x1), some (.int x2), some (.int x3), some (.int x4), none, none, none, none, none] [] s Q := by
  intro h0 h hW hF
  refine x_iload_n dX10_makes_0 rfl rfl ?_
  refine x_istore (lo' := [some (.ref w.1), some (.int x1), some (.int x2), some (.int x3), some (.int x4), some (.int x2), none, none, none, none]) dX10_makes_1 (Nat.le_of_ble_eq_true rfl) rfl ?_
  refine x_iload_n dX10_makes_3 rfl rfl ?_
  refine x_iload_n dX10_makes_4 rfl rfl ?_
  refine x_iconst (v := 2) dX10_makes_5 rfl ?_
  refine x_icmp_ge (tgt := 14) dX10_makes_6 rfl (fun c => ?_) (fun c => ?_)
  · have hT := hT.1 c
    refine x_bipush (v := 20) dX10_makes_14 rfl ?_
    refine x_icmp_le (tgt := 23) dX10_makes_16 rfl (fun c => ?_) (fun c => ?_)
    · have hT := hT.1 c
      refine x_iconst (v := 0) dX10_makes_23 rfl ?_
      exact hT h0 h hW hF
    · have hT := hT.2 c
      refine x_iconst (v := 1) dX10_makes_19 rfl ?_
      refine x_goto (tgt := 24) dX10_makes_20 rfl ?_
      exact hT h0 h hW hF
  · have hT := hT.2 c
    refine x_bipush (v := 64) dX10_makes_9 rfl ?_
    refine x_goto (tgt := 16) dX10_makes_11 rfl ?_
    refine x_icmp_le (tgt := 23) dX10_makes_16 rfl (fun c => ?_) (fun c => ?_)
    · have hT := hT.1 c
      refine x_iconst (v := 0) dX10_makes_23 rfl ?_
      exact hT h0 h hW hF
    · have hT := hT.2 c
      refine x_iconst (v := 1) dX10_makes_19 rfl ?_
      refine x_goto (tgt := 24) dX10_makes_20 rfl ?_
      exact hT h0 h hW hF
theorem eX10_makes {l : Launch} {E : EN} {w : MO} {d : Nat} {s : MS} {Q : Option Value → MS → Prop} {x1 : Int32} {x2 : Int32} {x3 : Int32} {x4 : Int32} (hst : l.stackTraces = false) (hT : ((2 ≤ x1 → ((x2 ≤ 20 → ExM l E w (d + 1) MX10_makes 24 [some (.ref w.1), some (.int x1), some (.int x2), some (.int x3), some (.int x4), some (.int x2), none, none, none, none] [.int 0] s Q) ∧ (¬ x2 ≤ 20 → ExM l E w (d + 1) MX10_makes 24 [some (.ref w.1), some (.int x1), some (.int x2), some (.int x3), some (.int x4), some (.int x2), none, none, none, none] [.int 1] s Q))) ∧ (¬ 2 ≤ x1 → ((x2 ≤ 64 → ExM l E w (d + 1) MX10_makes 24 [some (.ref w.1), some (.int x1), some (.int x2), some (.int x3), some (.int x4), some (.int x2), none, none, none, none] [.int 0] s Q) ∧ (¬ x2 ≤ 64 → ExM l E w (d + 1) MX10_makes 24 [some (.ref w.1), some (.int x1), some (.int x2), some (.int x3), some (.int x4), some (.int x2), none, none, none, none] [.int 1] s Q))))) : EvM l E w (d + 1) MX10_makes [.ref w.1, .int x1, .int x2, .int x3, .int x4] s Q :=
  EvM.of hst (by decide) (Nat.le_of_ble_eq_true rfl) (vX10_makes_0 hT)
set_option maxHeartbeats 16000000 in
theorem vX10_makes_24 {l : Launch} {E : EN} {w : MO} {d : Nat} {s : MS} {Q : Option Value → MS → Prop} {a1 : Int32} {a2 : Int32} {a3 : Int32} {a4 : Int32} {a5 : Int32} {b0 : Int32} (hT : ((¬ a1 = 3 → ExM l E w (d + 1) MX10_makes 81 [some (.ref w.1), some (.int a1), some (.int a2), some (.int a3), some (.int a4), some (.int a5), some (.int b0), none, none, none] [] s Q) ∧ (a1 = 3 → ((¬ b0 = 0 → ((a3 ≤ a2 → ExM l E w (d + 1) MX10_makes 81 [some (.ref w.1), some (.int a1), some (.int a2), some (.int a3), some (.int a4), some (.int a3), some (.int 1), none, none, none] [] s Q) ∧ (¬ a3 ≤ a2 → ExM l E w (d + 1) MX10_makes 81 [some (.ref w.1), some (.int a1), some (.int a2), some (.int a3), some (.int a4), some (.int a2), some (.int 1), none, none, none] [] s Q))) ∧ (b0 = 0 → ((64 < a3 → ((a3 ≤ a2 → ExM l E w (d + 1) MX10_makes 81 [some (.ref w.1), some (.int a1), some (.int a2), some (.int a3), some (.int a4), some (.int a3), some (.int 1), none, none, none] [] s Q) ∧ (¬ a3 ≤ a2 → ExM l E w (d + 1) MX10_makes 81 [some (.ref w.1), some (.int a1), some (.int a2), some (.int a3), some (.int a4), some (.int a2), some (.int 1), none, none, none] [] s Q))) ∧ (¬ 64 < a3 → ((a2 < 0 → ((a3 ≤ a2 → ExM l E w (d + 1) MX10_makes 81 [some (.ref w.1), some (.int a1), some (.int a2), some (.int a3), some (.int a4), some (.int a3), some (.int 0), none, none, none] [] s Q) ∧ (¬ a3 ≤ a2 → ExM l E w (d + 1) MX10_makes 81 [some (.ref w.1), some (.int a1), some (.int a2), some (.int a3), some (.int a4), some (.int a2), some (.int 0), none, none, none] [] s Q))) ∧ (¬ a2 < 0 → ((a3 < 0 → ((a3 ≤ a2 → ExM l E w (d + 1) MX10_makes 81 [some (.ref w.1), some (.int a1), some (.int a2), some (.int a3), some (.int a4), some (.int a3), some (.int 0), none, none, none] [] s Q) ∧ (¬ a3 ≤ a2 → ExM l E w (d + 1) MX10_makes 81 [some (.ref w.1), some (.int a1), some (.int a2), some (.int a3), some (.int a4), some (.int a2), some (.int 0), none, none, none] [] s Q))) ∧ (¬ a3 < 0 → (((lg_cmp (a2.toInt64 * a3.toInt64) 200) ≤ 0 → ((a3 ≤ a2 → ExM l E w (d + 1) MX10_makes 81 [some (.ref w.1), some (.int a1), some (.int a2), some (.int a3), some (.int a4), some (.int a3), some (.int 0), none, none, none] [] s Q) ∧ (¬ a3 ≤ a2 → ExM l E w (d + 1) MX10_makes 81 [some (.ref w.1), some (.int a1), some (.int a2), some (.int a3), some (.int a4), some (.int a2), some (.int 0), none, none, none] [] s Q))) ∧ (¬ (lg_cmp (a2.toInt64 * a3.toInt64) 200) ≤ 0 → ((a3 ≤ a2 → ExM l E w (d + 1) MX10_makes 81 [some (.ref w.1), some (.int a1), some (.int a2), some (.int a3), some (.int a4), some (.int a3), some (.int 1), none, none, none] [] s Q) ∧ (¬ a3 ≤ a2 → ExM l E w (d + 1) MX10_makes 81 [some (.ref w.1), some (.int a1), some (.int a2), some (.int a3), some (.int a4), some (.int a2), some (.int 1), none, none, none] [] s Q))))))))))))))) : ExM l E w (d + 1) MX10_makes 24 [some (.ref w.1), some (.int a1), some (.int a2), some (.int a3), some (.int a4), some (.int a5), none, none, none, none] [.int b0] s Q := by
  intro h0 h hW hF
  refine x_istore (lo' := [some (.ref w.1), some (.int a1), some (.int a2), some (.int a3), some (.int a4), some (.int a5), some (.int b0), none, none, none]) dX10_makes_24 (Nat.le_of_ble_eq_true rfl) rfl ?_
  refine x_iload_n dX10_makes_26 rfl rfl ?_
  refine x_iconst (v := 3) dX10_makes_27 rfl ?_
  refine x_icmp_ne (tgt := 81) dX10_makes_28 rfl (fun c => ?_) (fun c => ?_)
  · have hT := hT.1 c
    exact hT h0 h hW hF
  · have hT := hT.2 c
    refine x_iload dX10_makes_31 rfl ?_
    refine x_if_ne (tgt := 62) dX10_makes_33 rfl (fun c => ?_) (fun c => ?_)
    · have hT := hT.1 c
      refine x_iconst (v := 1) dX10_makes_62 rfl ?_
      refine x_goto (tgt := 67) dX10_makes_63 rfl ?_
      refine x_istore (lo' := [some (.ref w.1), some (.int a1), some (.int a2), some (.int a3), some (.int a4), some (.int a5), some (.int 1), none, none, none]) dX10_makes_67 (Nat.le_of_ble_eq_true rfl) rfl ?_
      refine x_iload_n dX10_makes_69 rfl rfl ?_
      refine x_iload_n dX10_makes_70 rfl rfl ?_
      refine x_icmp_ge (tgt := 78) dX10_makes_71 rfl (fun c => ?_) (fun c => ?_)
      · have hT := hT.1 c
        refine x_iload_n dX10_makes_78 rfl rfl ?_
        refine x_istore (lo' := [some (.ref w.1), some (.int a1), some (.int a2), some (.int a3), some (.int a4), some (.int a3), some (.int 1), none, none, none]) dX10_makes_79 (Nat.le_of_ble_eq_true rfl) rfl ?_
        exact hT h0 h hW hF
      · have hT := hT.2 c
        refine x_iload_n dX10_makes_74 rfl rfl ?_
        refine x_goto (tgt := 79) dX10_makes_75 rfl ?_
        refine x_istore (lo' := [some (.ref w.1), some (.int a1), some (.int a2), some (.int a3), some (.int a4), some (.int a2), some (.int 1), none, none, none]) dX10_makes_79 (Nat.le_of_ble_eq_true rfl) rfl ?_
        exact hT h0 h hW hF
    · have hT := hT.2 c
      refine x_iload_n dX10_makes_36 rfl rfl ?_
      refine x_bipush (v := 64) dX10_makes_37 rfl ?_
      refine x_icmp_gt (tgt := 62) dX10_makes_39 rfl (fun c => ?_) (fun c => ?_)
      · have hT := hT.1 c
        refine x_iconst (v := 1) dX10_makes_62 rfl ?_
        refine x_goto (tgt := 67) dX10_makes_63 rfl ?_
        refine x_istore (lo' := [some (.ref w.1), some (.int a1), some (.int a2), some (.int a3), some (.int a4), some (.int a5), some (.int 1), none, none, none]) dX10_makes_67 (Nat.le_of_ble_eq_true rfl) rfl ?_
        refine x_iload_n dX10_makes_69 rfl rfl ?_
        refine x_iload_n dX10_makes_70 rfl rfl ?_
        refine x_icmp_ge (tgt := 78) dX10_makes_71 rfl (fun c => ?_) (fun c => ?_)
        · have hT := hT.1 c
          refine x_iload_n dX10_makes_78 rfl rfl ?_
          refine x_istore (lo' := [some (.ref w.1), some (.int a1), some (.int a2), some (.int a3), some (.int a4), some (.int a3), some (.int 1), none, none, none]) dX10_makes_79 (Nat.le_of_ble_eq_true rfl) rfl ?_
          exact hT h0 h hW hF
        · have hT := hT.2 c
          refine x_iload_n dX10_makes_74 rfl rfl ?_
          refine x_goto (tgt := 79) dX10_makes_75 rfl ?_
          refine x_istore (lo' := [some (.ref w.1), some (.int a1), some (.int a2), some (.int a3), some (.int a4), some (.int a2), some (.int 1), none, none, none]) dX10_makes_79 (Nat.le_of_ble_eq_true rfl) rfl ?_
          exact hT h0 h hW hF
      · have hT := hT.2 c
        refine x_iload_n dX10_makes_42 rfl rfl ?_
        refine x_if_lt (tgt := 66) dX10_makes_43 rfl (fun c => ?_) (fun c => ?_)
        · have hT := hT.1 c
          refine x_iconst (v := 0) dX10_makes_66 rfl ?_
          refine x_istore (lo' := [some (.ref w.1), some (.int a1), some (.int a2), some (.int a3), some (.int a4), some (.int a5), some (.int 0), none, none, none]) dX10_makes_67 (Nat.le_of_ble_eq_true rfl) rfl ?_
          refine x_iload_n dX10_makes_69 rfl rfl ?_
          refine x_iload_n dX10_makes_70 rfl rfl ?_
          refine x_icmp_ge (tgt := 78) dX10_makes_71 rfl (fun c => ?_) (fun c => ?_)
          · have hT := hT.1 c
            refine x_iload_n dX10_makes_78 rfl rfl ?_
            refine x_istore (lo' := [some (.ref w.1), some (.int a1), some (.int a2), some (.int a3), some (.int a4), some (.int a3), some (.int 0), none, none, none]) dX10_makes_79 (Nat.le_of_ble_eq_true rfl) rfl ?_
            exact hT h0 h hW hF
          · have hT := hT.2 c
            refine x_iload_n dX10_makes_74 rfl rfl ?_
            refine x_goto (tgt := 79) dX10_makes_75 rfl ?_
            refine x_istore (lo' := [some (.ref w.1), some (.int a1), some (.int a2), some (.int a3), some (.int a4), some (.int a2), some (.int 0), none, none, none]) dX10_makes_79 (Nat.le_of_ble_eq_true rfl) rfl ?_
            exact hT h0 h hW hF
        · have hT := hT.2 c
          refine x_iload_n dX10_makes_46 rfl rfl ?_
          refine x_if_lt (tgt := 66) dX10_makes_47 rfl (fun c => ?_) (fun c => ?_)
          · have hT := hT.1 c
            refine x_iconst (v := 0) dX10_makes_66 rfl ?_
            refine x_istore (lo' := [some (.ref w.1), some (.int a1), some (.int a2), some (.int a3), some (.int a4), some (.int a5), some (.int 0), none, none, none]) dX10_makes_67 (Nat.le_of_ble_eq_true rfl) rfl ?_
            refine x_iload_n dX10_makes_69 rfl rfl ?_
            refine x_iload_n dX10_makes_70 rfl rfl ?_
            refine x_icmp_ge (tgt := 78) dX10_makes_71 rfl (fun c => ?_) (fun c => ?_)
            · have hT := hT.1 c
              refine x_iload_n dX10_makes_78 rfl rfl ?_
              refine x_istore (lo' := [some (.ref w.1), some (.int a1), some (.int a2), some (.int a3), some (.int a4), some (.int a3), some (.int 0), none, none, none]) dX10_makes_79 (Nat.le_of_ble_eq_true rfl) rfl ?_
              exact hT h0 h hW hF
            · have hT := hT.2 c
              refine x_iload_n dX10_makes_74 rfl rfl ?_
              refine x_goto (tgt := 79) dX10_makes_75 rfl ?_
              refine x_istore (lo' := [some (.ref w.1), some (.int a1), some (.int a2), some (.int a3), some (.int a4), some (.int a2), some (.int 0), none, none, none]) dX10_makes_79 (Nat.le_of_ble_eq_true rfl) rfl ?_
              exact hT h0 h hW hF
          · have hT := hT.2 c
            refine x_iload_n dX10_makes_50 rfl rfl ?_
            refine x_i2l dX10_makes_51 ?_
            refine x_iload_n dX10_makes_52 rfl rfl ?_
            refine x_i2l dX10_makes_53 ?_
            refine x_lmul dX10_makes_54 ?_
            refine x_ldc2 dX10_makes_55 q2811 ?_
            refine x_lcmp dX10_makes_58 ?_
            refine x_if_le (tgt := 66) dX10_makes_59 rfl (fun c => ?_) (fun c => ?_)
            · have hT := hT.1 c
              refine x_iconst (v := 0) dX10_makes_66 rfl ?_
              refine x_istore (lo' := [some (.ref w.1), some (.int a1), some (.int a2), some (.int a3), some (.int a4), some (.int a5), some (.int 0), none, none, none]) dX10_makes_67 (Nat.le_of_ble_eq_true rfl) rfl ?_
              refine x_iload_n dX10_makes_69 rfl rfl ?_
              refine x_iload_n dX10_makes_70 rfl rfl ?_
              refine x_icmp_ge (tgt := 78) dX10_makes_71 rfl (fun c => ?_) (fun c => ?_)
              · have hT := hT.1 c
                refine x_iload_n dX10_makes_78 rfl rfl ?_
                refine x_istore (lo' := [some (.ref w.1), some (.int a1), some (.int a2), some (.int a3), some (.int a4), some (.int a3), some (.int 0), none, none, none]) dX10_makes_79 (Nat.le_of_ble_eq_true rfl) rfl ?_
                exact hT h0 h hW hF
              · have hT := hT.2 c
                refine x_iload_n dX10_makes_74 rfl rfl ?_
                refine x_goto (tgt := 79) dX10_makes_75 rfl ?_
                refine x_istore (lo' := [some (.ref w.1), some (.int a1), some (.int a2), some (.int a3), some (.int a4), some (.int a2), some (.int 0), none, none, none]) dX10_makes_79 (Nat.le_of_ble_eq_true rfl) rfl ?_
                exact hT h0 h hW hF
            · have hT := hT.2 c
              refine x_iconst (v := 1) dX10_makes_62 rfl ?_
              refine x_goto (tgt := 67) dX10_makes_63 rfl ?_
              refine x_istore (lo' := [some (.ref w.1), some (.int a1), some (.int a2), some (.int a3), some (.int a4), some (.int a5), some (.int 1), none, none, none]) dX10_makes_67 (Nat.le_of_ble_eq_true rfl) rfl ?_
              refine x_iload_n dX10_makes_69 rfl rfl ?_
              refine x_iload_n dX10_makes_70 rfl rfl ?_
              refine x_icmp_ge (tgt := 78) dX10_makes_71 rfl (fun c => ?_) (fun c => ?_)
              · have hT := hT.1 c
                refine x_iload_n dX10_makes_78 rfl rfl ?_
                refine x_istore (lo' := [some (.ref w.1), some (.int a1), some (.int a2), some (.int a3), some (.int a4), some (.int a3), some (.int 1), none, none, none]) dX10_makes_79 (Nat.le_of_ble_eq_true rfl) rfl ?_
                exact hT h0 h hW hF
              · have hT := hT.2 c
                refine x_iload_n dX10_makes_74 rfl rfl ?_
                refine x_goto (tgt := 79) dX10_makes_75 rfl ?_
                refine x_istore (lo' := [some (.ref w.1), some (.int a1), some (.int a2), some (.int a3), some (.int a4), some (.int a2), some (.int 1), none, none, none]) dX10_makes_79 (Nat.le_of_ble_eq_true rfl) rfl ?_
                exact hT h0 h hW hF
theorem vX10_makes_81 {l : Launch} {E : EN} {w : MO} {d : Nat} {s : MS} {Q : Option Value → MS → Prop} {a1 : Int32} {a2 : Int32} {a3 : Int32} {a4 : Int32} {a5 : Int32} {a6 : Int32} (hT : ((¬ a1 = 4 → ExM l E w (d + 1) MX10_makes 219 [some (.ref w.1), some (.int a1), some (.int a2), some (.int a3), some (.int a4), some (.int a5), some (.int a6), none, none, none] [] s Q) ∧ (a1 = 4 → (EvM l E w d MX10_sizeAt [.ref w.1, .int a2] s (fun r s1 => ∃ v2 : Int32, r = some (.int v2) ∧ ((v2 ≤ 20 → ExM l E w (d + 1) MX10_makes 112 [some (.ref w.1), some (.int a1), some (.int a2), some (.int a3), some (.int a4), some (.int 0), some (.int 0), some (.int 0), some (.int 0), none] [] s1 Q) ∧ (¬ v2 ≤ 20 → ExM l E w (d + 1) MX10_makes 112 [some (.ref w.1), some (.int a1), some (.int a2), some (.int a3), some (.int a4), some (.int 0), some (.int 1), some (.int 0), some (.int 0), none] [] s1 Q))))))) : ExM l E w (d + 1) MX10_makes 81 [some (.ref w.1), some (.int a1), some (.int a2), some (.int a3), some (.int a4), some (.int a5), some (.int a6), none, none, none] [] s Q := by
  intro h0 h hW hF
  refine x_iload_n dX10_makes_81 rfl rfl ?_
  refine x_iconst (v := 4) dX10_makes_82 rfl ?_
  refine x_icmp_ne (tgt := 219) dX10_makes_83 rfl (fun c => ?_) (fun c => ?_)
  · have hT := hT.1 c
    exact hT h0 h hW hF
  · have hT := hT.2 c
    refine x_iconst (v := 0) dX10_makes_86 rfl ?_
    refine x_istore (lo' := [some (.ref w.1), some (.int a1), some (.int a2), some (.int a3), some (.int a4), some (.int a5), some (.int a6), some (.int 0), none, none]) dX10_makes_87 (Nat.le_of_ble_eq_true rfl) rfl ?_
    refine x_aload_n dX10_makes_89 rfl rfl rfl ?_
    refine x_iload_n dX10_makes_90 rfl rfl ?_
    refine m_inv (vs := [.int a2]) dX10_makes_91 oX10_sizeAt q2735 q2733 qs107 rfl rfl (Nat.le_of_ble_eq_true rfl) rfl hW hF hT ?_
    rintro _ s1 ⟨v2, rfl, hT⟩ h hW hF
    refine x_bipush (v := 20) dX10_makes_94 rfl ?_
    refine x_icmp_le (tgt := 103) dX10_makes_96 rfl (fun c => ?_) (fun c => ?_)
    · have hT := hT.1 c
      refine x_iconst (v := 0) dX10_makes_103 rfl ?_
      refine x_istore (lo' := [some (.ref w.1), some (.int a1), some (.int a2), some (.int a3), some (.int a4), some (.int a5), some (.int 0), some (.int 0), none, none]) dX10_makes_104 (Nat.le_of_ble_eq_true rfl) rfl ?_
      refine x_iconst (v := 0) dX10_makes_106 rfl ?_
      refine x_istore (lo' := [some (.ref w.1), some (.int a1), some (.int a2), some (.int a3), some (.int a4), some (.int 0), some (.int 0), some (.int 0), none, none]) dX10_makes_107 (Nat.le_of_ble_eq_true rfl) rfl ?_
      refine x_iconst (v := 0) dX10_makes_109 rfl ?_
      refine x_istore (lo' := [some (.ref w.1), some (.int a1), some (.int a2), some (.int a3), some (.int a4), some (.int 0), some (.int 0), some (.int 0), some (.int 0), none]) dX10_makes_110 (Nat.le_of_ble_eq_true rfl) rfl ?_
      exact hT h0 h hW hF
    · have hT := hT.2 c
      refine x_iconst (v := 1) dX10_makes_99 rfl ?_
      refine x_goto (tgt := 104) dX10_makes_100 rfl ?_
      refine x_istore (lo' := [some (.ref w.1), some (.int a1), some (.int a2), some (.int a3), some (.int a4), some (.int a5), some (.int 1), some (.int 0), none, none]) dX10_makes_104 (Nat.le_of_ble_eq_true rfl) rfl ?_
      refine x_iconst (v := 0) dX10_makes_106 rfl ?_
      refine x_istore (lo' := [some (.ref w.1), some (.int a1), some (.int a2), some (.int a3), some (.int a4), some (.int 0), some (.int 1), some (.int 0), none, none]) dX10_makes_107 (Nat.le_of_ble_eq_true rfl) rfl ?_
      refine x_iconst (v := 0) dX10_makes_109 rfl ?_
      refine x_istore (lo' := [some (.ref w.1), some (.int a1), some (.int a2), some (.int a3), some (.int a4), some (.int 0), some (.int 1), some (.int 0), some (.int 0), none]) dX10_makes_110 (Nat.le_of_ble_eq_true rfl) rfl ?_
      exact hT h0 h hW hF
set_option maxHeartbeats 16000000 in
theorem vX10_makes_219 {l : Launch} {E : EN} {w : MO} {d : Nat} {s : MS} {Q : Option Value → MS → Prop} {a1 : Int32} {a2 : Int32} {a3 : Int32} {a4 : Int32} {a5 : Int32} {a6 : Int32} (hT : ((¬ a6 = 0 → ((a6 = 0 → (EvM l E w d MX10_trouble [.ref w.1, .int 1, .int (s.1 127)] s (fun r s1 => r = none ∧ Q none s1))) ∧ (¬ a6 = 0 → (EvM l E w d MX10_trouble [.ref w.1, .int 2, .int (s.1 127)] s (fun r s2 => r = none ∧ Q none s2))))) ∧ (a6 = 0 → ((0 ≤ a5 → ((3 ≤ a1 → ((¬ a1 = 3 → (EvM l E w d MX10_sizeAt [.ref w.1, .int a2] (sI s 108 a4) (fun r s3 => ∃ v4 : Int32, r = some (.int v4) ∧ ExM l E w (d + 1) MX10_makes 326 [some (.ref w.1), some (.int a1), some (.int a2), some (.int a3), some (.int a4), none, none, some (.int v4), some (.int 0), none] [] s3 Q))) ∧ (a1 = 3 → ExM l E w (d + 1) MX10_makes 326 [some (.ref w.1), some (.int a1), some (.int a2), some (.int a3), some (.int a4), none, none, some (.int a2), some (.int 0), none] [] (sI s 108 a4) Q))) ∧ (¬ 3 ≤ a1 → ExM l E w (d + 1) MX10_makes 262 [some (.ref w.1), some (.int a1), some (.int a2), none, some (.int a4), none, none, some (.int 0), none, none] [] (sI s 108 a4) Q))) ∧ (¬ 0 ≤ a5 → ((a6 = 0 → (EvM l E w d MX10_trouble [.ref w.1, .int 1, .int (s.1 127)] s (fun r s5 => r = none ∧ Q none s5))) ∧ (¬ a6 = 0 → (EvM l E w d MX10_trouble [.ref w.1, .int 2, .int (s.1 127)] s (fun r s6 => r = none ∧ Q none s6))))))))) : ExM l E w (d + 1) MX10_makes 219 [some (.ref w.1), some (.int a1), some (.int a2), some (.int a3), some (.int a4), some (.int a5), some (.int a6), none, none, none] [] s Q := by
  intro h0 h hW hF
  refine x_iload dX10_makes_219 rfl ?_
  refine x_if_ne (tgt := 229) dX10_makes_221 rfl (fun c => ?_) (fun c => ?_)
  · have hT := hT.1 c
    refine x_aload_n dX10_makes_229 rfl rfl rfl ?_
    refine x_iload dX10_makes_230 rfl ?_
    refine x_if_eq (tgt := 239) dX10_makes_232 rfl (fun c => ?_) (fun c => ?_)
    · have hT := hT.1 c
      refine x_iconst (v := 1) dX10_makes_239 rfl ?_
      refine x_aload_n dX10_makes_240 rfl rfl rfl ?_
      refine m_geti (v := (s.1 127)) dX10_makes_241 f_TallySlateModel_507 (by decide) rfl hW rfl ?_
      refine m_inv (vs := [.int 1, .int (s.1 127)]) dX10_makes_244 oX10_trouble q2696 q2694 qs98 rfl rfl (Nat.le_of_ble_eq_true rfl) rfl hW hF hT ?_
      rintro _ s1 ⟨rfl, hT⟩ h hW hF
      exact x_vret dX10_makes_247 rfl ⟨_, _, rfl, hW, hF, hT⟩
    · have hT := hT.2 c
      refine x_iconst (v := 2) dX10_makes_235 rfl ?_
      refine x_goto (tgt := 240) dX10_makes_236 rfl ?_
      refine x_aload_n dX10_makes_240 rfl rfl rfl ?_
      refine m_geti (v := (s.1 127)) dX10_makes_241 f_TallySlateModel_507 (by decide) rfl hW rfl ?_
      refine m_inv (vs := [.int 2, .int (s.1 127)]) dX10_makes_244 oX10_trouble q2696 q2694 qs98 rfl rfl (Nat.le_of_ble_eq_true rfl) rfl hW hF hT ?_
      rintro _ s2 ⟨rfl, hT⟩ h hW hF
      exact x_vret dX10_makes_247 rfl ⟨_, _, rfl, hW, hF, hT⟩
  · have hT := hT.2 c
    refine x_iload dX10_makes_224 rfl ?_
    refine x_if_ge (tgt := 248) dX10_makes_226 rfl (fun c => ?_) (fun c => ?_)
    · have hT := hT.1 c
      refine x_aload_n dX10_makes_248 rfl rfl rfl ?_
      refine x_iload dX10_makes_249 rfl ?_
      refine m_puti dX10_makes_251 f_TallySlateModel_461 (by decide) rfl rfl rfl rfl hW hF ?_
      intro h hW hF
      refine x_iload_n dX10_makes_254 rfl rfl ?_
      refine x_iconst (v := 3) dX10_makes_255 rfl ?_
      refine x_icmp_ge (tgt := 307) dX10_makes_256 rfl (fun c => ?_) (fun c => ?_)
      · have hT := hT.1 c
        refine x_iload_n dX10_makes_307 rfl rfl ?_
        refine x_iconst (v := 3) dX10_makes_308 rfl ?_
        refine x_icmp_ne (tgt := 316) dX10_makes_309 rfl (fun c => ?_) (fun c => ?_)
        · have hT := hT.1 c
          refine x_aload_n dX10_makes_316 rfl rfl rfl ?_
          refine x_iload_n dX10_makes_317 rfl rfl ?_
          refine m_inv (vs := [.int a2]) dX10_makes_318 oX10_sizeAt q2735 q2733 qs107 rfl rfl (Nat.le_of_ble_eq_true rfl) rfl hW hF hT ?_
          rintro _ s3 ⟨v4, rfl, hT⟩ h hW hF
          refine x_istore (lo' := [some (.ref w.1), some (.int a1), some (.int a2), some (.int a3), some (.int a4), some (.int a5), some (.int a6), some (.int v4), none, none]) dX10_makes_321 (Nat.le_of_ble_eq_true rfl) rfl ?_
          refine x_iconst (v := 0) dX10_makes_323 rfl ?_
          refine x_istore (lo' := [some (.ref w.1), some (.int a1), some (.int a2), some (.int a3), some (.int a4), some (.int a5), some (.int a6), some (.int v4), some (.int 0), none]) dX10_makes_324 (Nat.le_of_ble_eq_true rfl) rfl ?_
          refine Ex.wkl (lo' := [some (.ref w.1), some (.int a1), some (.int a2), some (.int a3), some (.int a4), none, none, some (.int v4), some (.int 0), none]) ⟨rfl, rfl, rfl, rfl, rfl, rfl, rfl, trivial⟩ ?_
          exact hT h0 h hW hF
        · have hT := hT.2 c
          refine x_iload_n dX10_makes_312 rfl rfl ?_
          refine x_goto (tgt := 321) dX10_makes_313 rfl ?_
          refine x_istore (lo' := [some (.ref w.1), some (.int a1), some (.int a2), some (.int a3), some (.int a4), some (.int a5), some (.int a6), some (.int a2), none, none]) dX10_makes_321 (Nat.le_of_ble_eq_true rfl) rfl ?_
          refine x_iconst (v := 0) dX10_makes_323 rfl ?_
          refine x_istore (lo' := [some (.ref w.1), some (.int a1), some (.int a2), some (.int a3), some (.int a4), some (.int a5), some (.int a6), some (.int a2), some (.int 0), none]) dX10_makes_324 (Nat.le_of_ble_eq_true rfl) rfl ?_
          refine Ex.wkl (lo' := [some (.ref w.1), some (.int a1), some (.int a2), some (.int a3), some (.int a4), none, none, some (.int a2), some (.int 0), none]) ⟨rfl, rfl, rfl, rfl, rfl, rfl, rfl, trivial⟩ ?_
          exact hT h0 h hW hF
      · have hT := hT.2 c
        refine x_iconst (v := 0) dX10_makes_259 rfl ?_
        refine x_istore (lo' := [some (.ref w.1), some (.int a1), some (.int a2), some (.int a3), some (.int a4), some (.int a5), some (.int a6), some (.int 0), none, none]) dX10_makes_260 (Nat.le_of_ble_eq_true rfl) rfl ?_
        refine Ex.wkl (lo' := [some (.ref w.1), some (.int a1), some (.int a2), none, some (.int a4), none, none, some (.int 0), none, none]) ⟨rfl, rfl, rfl, rfl, rfl, trivial⟩ ?_
        exact hT h0 h hW hF
    · have hT := hT.2 c
      refine x_aload_n dX10_makes_229 rfl rfl rfl ?_
      refine x_iload dX10_makes_230 rfl ?_
      refine x_if_eq (tgt := 239) dX10_makes_232 rfl (fun c => ?_) (fun c => ?_)
      · have hT := hT.1 c
        refine x_iconst (v := 1) dX10_makes_239 rfl ?_
        refine x_aload_n dX10_makes_240 rfl rfl rfl ?_
        refine m_geti (v := (s.1 127)) dX10_makes_241 f_TallySlateModel_507 (by decide) rfl hW rfl ?_
        refine m_inv (vs := [.int 1, .int (s.1 127)]) dX10_makes_244 oX10_trouble q2696 q2694 qs98 rfl rfl (Nat.le_of_ble_eq_true rfl) rfl hW hF hT ?_
        rintro _ s5 ⟨rfl, hT⟩ h hW hF
        exact x_vret dX10_makes_247 rfl ⟨_, _, rfl, hW, hF, hT⟩
      · have hT := hT.2 c
        refine x_iconst (v := 2) dX10_makes_235 rfl ?_
        refine x_goto (tgt := 240) dX10_makes_236 rfl ?_
        refine x_aload_n dX10_makes_240 rfl rfl rfl ?_
        refine m_geti (v := (s.1 127)) dX10_makes_241 f_TallySlateModel_507 (by decide) rfl hW rfl ?_
        refine m_inv (vs := [.int 2, .int (s.1 127)]) dX10_makes_244 oX10_trouble q2696 q2694 qs98 rfl rfl (Nat.le_of_ble_eq_true rfl) rfl hW hF hT ?_
        rintro _ s6 ⟨rfl, hT⟩ h hW hF
        exact x_vret dX10_makes_247 rfl ⟨_, _, rfl, hW, hF, hT⟩
set_option maxHeartbeats 16000000 in
theorem vX10_makes_112 {l : Launch} {E : EN} {w : MO} {d : Nat} {s : MS} {Q : Option Value → MS → Prop} {a1 : Int32} {a2 : Int32} {a3 : Int32} {a4 : Int32} {a5 : Int32} {a6 : Int32} {a7 : Int32} {a8 : Int32} (hT : (EvM l E w d MX10_sizeAt [.ref w.1, .int a2] s (fun r s1 => ∃ v2 : Int32, r = some (.int v2) ∧ ((v2 ≤ a8 → ((¬ a6 = 0 → ExM l E w (d + 1) MX10_makes 219 [some (.ref w.1), some (.int a1), some (.int a2), some (.int a3), some (.int a4), some (.int a5), some (.int 1), none, none, none] [] s1 Q) ∧ (a6 = 0 → ((a7 ≤ 200 → ExM l E w (d + 1) MX10_makes 219 [some (.ref w.1), some (.int a1), some (.int a2), some (.int a3), some (.int a4), some (.int a5), some (.int 0), none, none, none] [] s1 Q) ∧ (¬ a7 ≤ 200 → ExM l E w (d + 1) MX10_makes 219 [some (.ref w.1), some (.int a1), some (.int a2), some (.int a3), some (.int a4), some (.int a5), some (.int 1), none, none, none] [] s1 Q))))) ∧ (¬ v2 ≤ a8 → ((¬ a6 = 0 → ((¬ a6 = 0 → ExM l E w (d + 1) MX10_makes 219 [some (.ref w.1), some (.int a1), some (.int a2), some (.int a3), some (.int a4), some (.int a5), some (.int 1), none, none, none] [] s1 Q) ∧ (a6 = 0 → ((a7 ≤ 200 → ExM l E w (d + 1) MX10_makes 219 [some (.ref w.1), some (.int a1), some (.int a2), some (.int a3), some (.int a4), some (.int a5), some (.int 0), none, none, none] [] s1 Q) ∧ (¬ a7 ≤ 200 → ExM l E w (d + 1) MX10_makes 219 [some (.ref w.1), some (.int a1), some (.int a2), some (.int a3), some (.int a4), some (.int a5), some (.int 1), none, none, none] [] s1 Q))))) ∧ (a6 = 0 → (inB ((a2 + 2) + a8) 166300 ∧ (∀ y3 : Int32, y3 = (s1.2.2.1 104 ((a2 + 2) + a8).toNatClampNeg) → ((y3 ≤ 64 → ((y3 ≤ 0 → (∀ y4 : Int32, y4 = (a7 + 0) → ((a5 ≤ y3 → ExM l E w (d + 1) MX10_makes 112 [some (.ref w.1), some (.int a1), some (.int a2), some (.int a3), some (.int a4), some (.int a5), some (.int 0), some (.int y4), some (.int (a8 + 1)), none] [] s1 Q) ∧ (¬ a5 ≤ y3 → ExM l E w (d + 1) MX10_makes 112 [some (.ref w.1), some (.int a1), some (.int a2), some (.int a3), some (.int a4), some (.int y3), some (.int 0), some (.int y4), some (.int (a8 + 1)), none] [] s1 Q)))) ∧ (¬ y3 ≤ 0 → ((64 < y3 → (∀ y5 : Int32, y5 = (a7 + 0) → ((a5 ≤ y3 → ExM l E w (d + 1) MX10_makes 112 [some (.ref w.1), some (.int a1), some (.int a2), some (.int a3), some (.int a4), some (.int a5), some (.int 0), some (.int y5), some (.int (a8 + 1)), none] [] s1 Q) ∧ (¬ a5 ≤ y3 → ExM l E w (d + 1) MX10_makes 112 [some (.ref w.1), some (.int a1), some (.int a2), some (.int a3), some (.int a4), some (.int y3), some (.int 0), some (.int y5), some (.int (a8 + 1)), none] [] s1 Q)))) ∧ (¬ 64 < y3 → (∀ y6 : Int32, y6 = (a7 + y3) → ((a5 ≤ y3 → ExM l E w (d + 1) MX10_makes 112 [some (.ref w.1), some (.int a1), some (.int a2), some (.int a3), some (.int a4), some (.int a5), some (.int 0), some (.int y6), some (.int (a8 + 1)), none] [] s1 Q) ∧ (¬ a5 ≤ y3 → ExM l E w (d + 1) MX10_makes 112 [some (.ref w.1), some (.int a1), some (.int a2), some (.int a3), some (.int a4), some (.int y3), some (.int 0), some (.int y6), some (.int (a8 + 1)), none] [] s1 Q)))))))) ∧ (¬ y3 ≤ 64 → ((y3 ≤ 0 → (∀ y7 : Int32, y7 = (a7 + 0) → ((a5 ≤ y3 → ExM l E w (d + 1) MX10_makes 112 [some (.ref w.1), some (.int a1), some (.int a2), some (.int a3), some (.int a4), some (.int a5), some (.int 1), some (.int y7), some (.int (a8 + 1)), none] [] s1 Q) ∧ (¬ a5 ≤ y3 → ExM l E w (d + 1) MX10_makes 112 [some (.ref w.1), some (.int a1), some (.int a2), some (.int a3), some (.int a4), some (.int y3), some (.int 1), some (.int y7), some (.int (a8 + 1)), none] [] s1 Q)))) ∧ (¬ y3 ≤ 0 → ((64 < y3 → (∀ y8 : Int32, y8 = (a7 + 0) → ((a5 ≤ y3 → ExM l E w (d + 1) MX10_makes 112 [some (.ref w.1), some (.int a1), some (.int a2), some (.int a3), some (.int a4), some (.int a5), some (.int 1), some (.int y8), some (.int (a8 + 1)), none] [] s1 Q) ∧ (¬ a5 ≤ y3 → ExM l E w (d + 1) MX10_makes 112 [some (.ref w.1), some (.int a1), some (.int a2), some (.int a3), some (.int a4), some (.int y3), some (.int 1), some (.int y8), some (.int (a8 + 1)), none] [] s1 Q)))) ∧ (¬ 64 < y3 → (∀ y9 : Int32, y9 = (a7 + y3) → ((a5 ≤ y3 → ExM l E w (d + 1) MX10_makes 112 [some (.ref w.1), some (.int a1), some (.int a2), some (.int a3), some (.int a4), some (.int a5), some (.int 1), some (.int y9), some (.int (a8 + 1)), none] [] s1 Q) ∧ (¬ a5 ≤ y3 → ExM l E w (d + 1) MX10_makes 112 [some (.ref w.1), some (.int a1), some (.int a2), some (.int a3), some (.int a4), some (.int y3), some (.int 1), some (.int y9), some (.int (a8 + 1)), none] [] s1 Q)))))))))))))))))) : ExM l E w (d + 1) MX10_makes 112 [some (.ref w.1), some (.int a1), some (.int a2), some (.int a3), some (.int a4), some (.int a5), some (.int a6), some (.int a7), some (.int a8), none] [] s Q := by
  intro h0 h hW hF
  refine x_iload dX10_makes_112 rfl ?_
  refine x_aload_n dX10_makes_114 rfl rfl rfl ?_
  refine x_iload_n dX10_makes_115 rfl rfl ?_
  refine m_inv (vs := [.int a2]) dX10_makes_116 oX10_sizeAt q2735 q2733 qs107 rfl rfl (Nat.le_of_ble_eq_true rfl) rfl hW hF hT ?_
  rintro _ s1 ⟨v2, rfl, hT⟩ h hW hF
  refine x_icmp_ge (tgt := 199) dX10_makes_119 rfl (fun c => ?_) (fun c => ?_)
  · have hT := hT.1 c
    refine x_iload dX10_makes_199 rfl ?_
    refine x_if_ne (tgt := 212) dX10_makes_201 rfl (fun c => ?_) (fun c => ?_)
    · have hT := hT.1 c
      refine x_iconst (v := 1) dX10_makes_212 rfl ?_
      refine x_goto (tgt := 217) dX10_makes_213 rfl ?_
      refine x_istore (lo' := [some (.ref w.1), some (.int a1), some (.int a2), some (.int a3), some (.int a4), some (.int a5), some (.int 1), some (.int a7), some (.int a8), none]) dX10_makes_217 (Nat.le_of_ble_eq_true rfl) rfl ?_
      refine Ex.wkl (lo' := [some (.ref w.1), some (.int a1), some (.int a2), some (.int a3), some (.int a4), some (.int a5), some (.int 1), none, none, none]) ⟨rfl, rfl, rfl, rfl, rfl, rfl, rfl, trivial⟩ ?_
      exact hT h0 h hW hF
    · have hT := hT.2 c
      refine x_iload dX10_makes_204 rfl ?_
      refine x_sipush (v := 200) dX10_makes_206 rfl ?_
      refine x_icmp_le (tgt := 216) dX10_makes_209 rfl (fun c => ?_) (fun c => ?_)
      · have hT := hT.1 c
        refine x_iconst (v := 0) dX10_makes_216 rfl ?_
        refine x_istore (lo' := [some (.ref w.1), some (.int a1), some (.int a2), some (.int a3), some (.int a4), some (.int a5), some (.int 0), some (.int a7), some (.int a8), none]) dX10_makes_217 (Nat.le_of_ble_eq_true rfl) rfl ?_
        refine Ex.wkl (lo' := [some (.ref w.1), some (.int a1), some (.int a2), some (.int a3), some (.int a4), some (.int a5), some (.int 0), none, none, none]) ⟨rfl, rfl, rfl, rfl, rfl, rfl, rfl, trivial⟩ ?_
        exact hT h0 h hW hF
      · have hT := hT.2 c
        refine x_iconst (v := 1) dX10_makes_212 rfl ?_
        refine x_goto (tgt := 217) dX10_makes_213 rfl ?_
        refine x_istore (lo' := [some (.ref w.1), some (.int a1), some (.int a2), some (.int a3), some (.int a4), some (.int a5), some (.int 1), some (.int a7), some (.int a8), none]) dX10_makes_217 (Nat.le_of_ble_eq_true rfl) rfl ?_
        refine Ex.wkl (lo' := [some (.ref w.1), some (.int a1), some (.int a2), some (.int a3), some (.int a4), some (.int a5), some (.int 1), none, none, none]) ⟨rfl, rfl, rfl, rfl, rfl, rfl, rfl, trivial⟩ ?_
        exact hT h0 h hW hF
  · have hT := hT.2 c
    refine x_iload dX10_makes_122 rfl ?_
    refine x_if_ne (tgt := 199) dX10_makes_124 rfl (fun c => ?_) (fun c => ?_)
    · have hT := hT.1 c
      refine x_iload dX10_makes_199 rfl ?_
      refine x_if_ne (tgt := 212) dX10_makes_201 rfl (fun c => ?_) (fun c => ?_)
      · have hT := hT.1 c
        refine x_iconst (v := 1) dX10_makes_212 rfl ?_
        refine x_goto (tgt := 217) dX10_makes_213 rfl ?_
        refine x_istore (lo' := [some (.ref w.1), some (.int a1), some (.int a2), some (.int a3), some (.int a4), some (.int a5), some (.int 1), some (.int a7), some (.int a8), none]) dX10_makes_217 (Nat.le_of_ble_eq_true rfl) rfl ?_
        refine Ex.wkl (lo' := [some (.ref w.1), some (.int a1), some (.int a2), some (.int a3), some (.int a4), some (.int a5), some (.int 1), none, none, none]) ⟨rfl, rfl, rfl, rfl, rfl, rfl, rfl, trivial⟩ ?_
        exact hT h0 h hW hF
      · have hT := hT.2 c
        refine x_iload dX10_makes_204 rfl ?_
        refine x_sipush (v := 200) dX10_makes_206 rfl ?_
        refine x_icmp_le (tgt := 216) dX10_makes_209 rfl (fun c => ?_) (fun c => ?_)
        · have hT := hT.1 c
          refine x_iconst (v := 0) dX10_makes_216 rfl ?_
          refine x_istore (lo' := [some (.ref w.1), some (.int a1), some (.int a2), some (.int a3), some (.int a4), some (.int a5), some (.int 0), some (.int a7), some (.int a8), none]) dX10_makes_217 (Nat.le_of_ble_eq_true rfl) rfl ?_
          refine Ex.wkl (lo' := [some (.ref w.1), some (.int a1), some (.int a2), some (.int a3), some (.int a4), some (.int a5), some (.int 0), none, none, none]) ⟨rfl, rfl, rfl, rfl, rfl, rfl, rfl, trivial⟩ ?_
          exact hT h0 h hW hF
        · have hT := hT.2 c
          refine x_iconst (v := 1) dX10_makes_212 rfl ?_
          refine x_goto (tgt := 217) dX10_makes_213 rfl ?_
          refine x_istore (lo' := [some (.ref w.1), some (.int a1), some (.int a2), some (.int a3), some (.int a4), some (.int a5), some (.int 1), some (.int a7), some (.int a8), none]) dX10_makes_217 (Nat.le_of_ble_eq_true rfl) rfl ?_
          refine Ex.wkl (lo' := [some (.ref w.1), some (.int a1), some (.int a2), some (.int a3), some (.int a4), some (.int a5), some (.int 1), none, none, none]) ⟨rfl, rfl, rfl, rfl, rfl, rfl, rfl, trivial⟩ ?_
          exact hT h0 h hW hF
    · have hT := hT.2 c
      refine x_aload_n dX10_makes_127 rfl rfl rfl ?_
      refine m_geta dX10_makes_128 f_TallySlateModel_183 (by decide) rfl hW ?_
      refine x_iload_n dX10_makes_131 rfl rfl ?_
      refine x_iconst (v := 2) dX10_makes_132 rfl ?_
      refine x_iadd dX10_makes_133 ?_
      refine x_iload dX10_makes_134 rfl ?_
      refine x_iadd dX10_makes_136 ?_
      obtain ⟨hb, hT⟩ := hT
      refine m_iald (v := (s1.2.2.1 104 ((a2 + 2) + a8).toNatClampNeg)) dX10_makes_137 rfl hb hW rfl ?_
      obtain ⟨y3, ey3⟩ : ∃ z : Int32, z = (s1.2.2.1 104 ((a2 + 2) + a8).toNatClampNeg) := ⟨_, rfl⟩
      have hT := hT y3 ey3
      refine x_istore (lo' := [some (.ref w.1), some (.int a1), some (.int a2), some (.int a3), some (.int a4), some (.int a5), some (.int a6), some (.int a7), some (.int a8), some (.int y3)]) dX10_makes_138 (Nat.le_of_ble_eq_true rfl) (by rw [ey3]; rfl) ?_
      refine x_iload dX10_makes_140 rfl ?_
      refine x_bipush (v := 64) dX10_makes_142 rfl ?_
      refine x_icmp_le (tgt := 151) dX10_makes_144 rfl (fun c => ?_) (fun c => ?_)
      · have hT := hT.1 c
        refine x_iconst (v := 0) dX10_makes_151 rfl ?_
        refine x_istore (lo' := [some (.ref w.1), some (.int a1), some (.int a2), some (.int a3), some (.int a4), some (.int a5), some (.int 0), some (.int a7), some (.int a8), some (.int y3)]) dX10_makes_152 (Nat.le_of_ble_eq_true rfl) rfl ?_
        refine x_iload dX10_makes_154 rfl ?_
        refine x_iload dX10_makes_156 rfl ?_
        refine x_if_le (tgt := 173) dX10_makes_158 rfl (fun c => ?_) (fun c => ?_)
        · have hT := hT.1 c
          refine x_iconst (v := 0) dX10_makes_173 rfl ?_
          refine x_iadd dX10_makes_174 ?_
          obtain ⟨y4, ey4⟩ : ∃ z : Int32, z = (a7 + 0) := ⟨_, rfl⟩
          have hT := hT y4 ey4
          refine x_istore (lo' := [some (.ref w.1), some (.int a1), some (.int a2), some (.int a3), some (.int a4), some (.int a5), some (.int 0), some (.int y4), some (.int a8), some (.int y3)]) dX10_makes_175 (Nat.le_of_ble_eq_true rfl) (by rw [ey4]; rfl) ?_
          refine x_iload dX10_makes_177 rfl ?_
          refine x_iload dX10_makes_179 rfl ?_
          refine x_icmp_ge (tgt := 189) dX10_makes_181 rfl (fun c => ?_) (fun c => ?_)
          · have hT := hT.1 c
            refine x_iload dX10_makes_189 rfl ?_
            refine x_istore (lo' := [some (.ref w.1), some (.int a1), some (.int a2), some (.int a3), some (.int a4), some (.int a5), some (.int 0), some (.int y4), some (.int a8), some (.int y3)]) dX10_makes_191 (Nat.le_of_ble_eq_true rfl) rfl ?_
            refine x_iinc (lo' := [some (.ref w.1), some (.int a1), some (.int a2), some (.int a3), some (.int a4), some (.int a5), some (.int 0), some (.int y4), some (.int (a8 + 1)), some (.int y3)]) dX10_makes_193 rfl (show _ = (a8 + 1) from rfl) rfl ?_
            refine x_goto (tgt := 112) dX10_makes_196 rfl ?_
            refine Ex.wkl (lo' := [some (.ref w.1), some (.int a1), some (.int a2), some (.int a3), some (.int a4), some (.int a5), some (.int 0), some (.int y4), some (.int (a8 + 1)), none]) ⟨rfl, rfl, rfl, rfl, rfl, rfl, rfl, rfl, rfl, trivial⟩ ?_
            exact hT h0 h hW hF
          · have hT := hT.2 c
            refine x_iload dX10_makes_184 rfl ?_
            refine x_goto (tgt := 191) dX10_makes_186 rfl ?_
            refine x_istore (lo' := [some (.ref w.1), some (.int a1), some (.int a2), some (.int a3), some (.int a4), some (.int y3), some (.int 0), some (.int y4), some (.int a8), some (.int y3)]) dX10_makes_191 (Nat.le_of_ble_eq_true rfl) rfl ?_
            refine x_iinc (lo' := [some (.ref w.1), some (.int a1), some (.int a2), some (.int a3), some (.int a4), some (.int y3), some (.int 0), some (.int y4), some (.int (a8 + 1)), some (.int y3)]) dX10_makes_193 rfl (show _ = (a8 + 1) from rfl) rfl ?_
            refine x_goto (tgt := 112) dX10_makes_196 rfl ?_
            refine Ex.wkl (lo' := [some (.ref w.1), some (.int a1), some (.int a2), some (.int a3), some (.int a4), some (.int y3), some (.int 0), some (.int y4), some (.int (a8 + 1)), none]) ⟨rfl, rfl, rfl, rfl, rfl, rfl, rfl, rfl, rfl, trivial⟩ ?_
            exact hT h0 h hW hF
        · have hT := hT.2 c
          refine x_iload dX10_makes_161 rfl ?_
          refine x_bipush (v := 64) dX10_makes_163 rfl ?_
          refine x_icmp_gt (tgt := 173) dX10_makes_165 rfl (fun c => ?_) (fun c => ?_)
          · have hT := hT.1 c
            refine x_iconst (v := 0) dX10_makes_173 rfl ?_
            refine x_iadd dX10_makes_174 ?_
            obtain ⟨y5, ey5⟩ : ∃ z : Int32, z = (a7 + 0) := ⟨_, rfl⟩
            have hT := hT y5 ey5
            refine x_istore (lo' := [some (.ref w.1), some (.int a1), some (.int a2), some (.int a3), some (.int a4), some (.int a5), some (.int 0), some (.int y5), some (.int a8), some (.int y3)]) dX10_makes_175 (Nat.le_of_ble_eq_true rfl) (by rw [ey5]; rfl) ?_
            refine x_iload dX10_makes_177 rfl ?_
            refine x_iload dX10_makes_179 rfl ?_
            refine x_icmp_ge (tgt := 189) dX10_makes_181 rfl (fun c => ?_) (fun c => ?_)
            · have hT := hT.1 c
              refine x_iload dX10_makes_189 rfl ?_
              refine x_istore (lo' := [some (.ref w.1), some (.int a1), some (.int a2), some (.int a3), some (.int a4), some (.int a5), some (.int 0), some (.int y5), some (.int a8), some (.int y3)]) dX10_makes_191 (Nat.le_of_ble_eq_true rfl) rfl ?_
              refine x_iinc (lo' := [some (.ref w.1), some (.int a1), some (.int a2), some (.int a3), some (.int a4), some (.int a5), some (.int 0), some (.int y5), some (.int (a8 + 1)), some (.int y3)]) dX10_makes_193 rfl (show _ = (a8 + 1) from rfl) rfl ?_
              refine x_goto (tgt := 112) dX10_makes_196 rfl ?_
              refine Ex.wkl (lo' := [some (.ref w.1), some (.int a1), some (.int a2), some (.int a3), some (.int a4), some (.int a5), some (.int 0), some (.int y5), some (.int (a8 + 1)), none]) ⟨rfl, rfl, rfl, rfl, rfl, rfl, rfl, rfl, rfl, trivial⟩ ?_
              exact hT h0 h hW hF
            · have hT := hT.2 c
              refine x_iload dX10_makes_184 rfl ?_
              refine x_goto (tgt := 191) dX10_makes_186 rfl ?_
              refine x_istore (lo' := [some (.ref w.1), some (.int a1), some (.int a2), some (.int a3), some (.int a4), some (.int y3), some (.int 0), some (.int y5), some (.int a8), some (.int y3)]) dX10_makes_191 (Nat.le_of_ble_eq_true rfl) rfl ?_
              refine x_iinc (lo' := [some (.ref w.1), some (.int a1), some (.int a2), some (.int a3), some (.int a4), some (.int y3), some (.int 0), some (.int y5), some (.int (a8 + 1)), some (.int y3)]) dX10_makes_193 rfl (show _ = (a8 + 1) from rfl) rfl ?_
              refine x_goto (tgt := 112) dX10_makes_196 rfl ?_
              refine Ex.wkl (lo' := [some (.ref w.1), some (.int a1), some (.int a2), some (.int a3), some (.int a4), some (.int y3), some (.int 0), some (.int y5), some (.int (a8 + 1)), none]) ⟨rfl, rfl, rfl, rfl, rfl, rfl, rfl, rfl, rfl, trivial⟩ ?_
              exact hT h0 h hW hF
          · have hT := hT.2 c
            refine x_iload dX10_makes_168 rfl ?_
            refine x_goto (tgt := 174) dX10_makes_170 rfl ?_
            refine x_iadd dX10_makes_174 ?_
            obtain ⟨y6, ey6⟩ : ∃ z : Int32, z = (a7 + y3) := ⟨_, rfl⟩
            have hT := hT y6 ey6
            refine x_istore (lo' := [some (.ref w.1), some (.int a1), some (.int a2), some (.int a3), some (.int a4), some (.int a5), some (.int 0), some (.int y6), some (.int a8), some (.int y3)]) dX10_makes_175 (Nat.le_of_ble_eq_true rfl) (by rw [ey6]; rfl) ?_
            refine x_iload dX10_makes_177 rfl ?_
            refine x_iload dX10_makes_179 rfl ?_
            refine x_icmp_ge (tgt := 189) dX10_makes_181 rfl (fun c => ?_) (fun c => ?_)
            · have hT := hT.1 c
              refine x_iload dX10_makes_189 rfl ?_
              refine x_istore (lo' := [some (.ref w.1), some (.int a1), some (.int a2), some (.int a3), some (.int a4), some (.int a5), some (.int 0), some (.int y6), some (.int a8), some (.int y3)]) dX10_makes_191 (Nat.le_of_ble_eq_true rfl) rfl ?_
              refine x_iinc (lo' := [some (.ref w.1), some (.int a1), some (.int a2), some (.int a3), some (.int a4), some (.int a5), some (.int 0), some (.int y6), some (.int (a8 + 1)), some (.int y3)]) dX10_makes_193 rfl (show _ = (a8 + 1) from rfl) rfl ?_
              refine x_goto (tgt := 112) dX10_makes_196 rfl ?_
              refine Ex.wkl (lo' := [some (.ref w.1), some (.int a1), some (.int a2), some (.int a3), some (.int a4), some (.int a5), some (.int 0), some (.int y6), some (.int (a8 + 1)), none]) ⟨rfl, rfl, rfl, rfl, rfl, rfl, rfl, rfl, rfl, trivial⟩ ?_
              exact hT h0 h hW hF
            · have hT := hT.2 c
              refine x_iload dX10_makes_184 rfl ?_
              refine x_goto (tgt := 191) dX10_makes_186 rfl ?_
              refine x_istore (lo' := [some (.ref w.1), some (.int a1), some (.int a2), some (.int a3), some (.int a4), some (.int y3), some (.int 0), some (.int y6), some (.int a8), some (.int y3)]) dX10_makes_191 (Nat.le_of_ble_eq_true rfl) rfl ?_
              refine x_iinc (lo' := [some (.ref w.1), some (.int a1), some (.int a2), some (.int a3), some (.int a4), some (.int y3), some (.int 0), some (.int y6), some (.int (a8 + 1)), some (.int y3)]) dX10_makes_193 rfl (show _ = (a8 + 1) from rfl) rfl ?_
              refine x_goto (tgt := 112) dX10_makes_196 rfl ?_
              refine Ex.wkl (lo' := [some (.ref w.1), some (.int a1), some (.int a2), some (.int a3), some (.int a4), some (.int y3), some (.int 0), some (.int y6), some (.int (a8 + 1)), none]) ⟨rfl, rfl, rfl, rfl, rfl, rfl, rfl, rfl, rfl, trivial⟩ ?_
              exact hT h0 h hW hF
      · have hT := hT.2 c
        refine x_iconst (v := 1) dX10_makes_147 rfl ?_
        refine x_goto (tgt := 152) dX10_makes_148 rfl ?_
        refine x_istore (lo' := [some (.ref w.1), some (.int a1), some (.int a2), some (.int a3), some (.int a4), some (.int a5), some (.int 1), some (.int a7), some (.int a8), some (.int y3)]) dX10_makes_152 (Nat.le_of_ble_eq_true rfl) rfl ?_
        refine x_iload dX10_makes_154 rfl ?_
        refine x_iload dX10_makes_156 rfl ?_
        refine x_if_le (tgt := 173) dX10_makes_158 rfl (fun c => ?_) (fun c => ?_)
        · have hT := hT.1 c
          refine x_iconst (v := 0) dX10_makes_173 rfl ?_
          refine x_iadd dX10_makes_174 ?_
          obtain ⟨y7, ey7⟩ : ∃ z : Int32, z = (a7 + 0) := ⟨_, rfl⟩
          have hT := hT y7 ey7
          refine x_istore (lo' := [some (.ref w.1), some (.int a1), some (.int a2), some (.int a3), some (.int a4), some (.int a5), some (.int 1), some (.int y7), some (.int a8), some (.int y3)]) dX10_makes_175 (Nat.le_of_ble_eq_true rfl) (by rw [ey7]; rfl) ?_
          refine x_iload dX10_makes_177 rfl ?_
          refine x_iload dX10_makes_179 rfl ?_
          refine x_icmp_ge (tgt := 189) dX10_makes_181 rfl (fun c => ?_) (fun c => ?_)
          · have hT := hT.1 c
            refine x_iload dX10_makes_189 rfl ?_
            refine x_istore (lo' := [some (.ref w.1), some (.int a1), some (.int a2), some (.int a3), some (.int a4), some (.int a5), some (.int 1), some (.int y7), some (.int a8), some (.int y3)]) dX10_makes_191 (Nat.le_of_ble_eq_true rfl) rfl ?_
            refine x_iinc (lo' := [some (.ref w.1), some (.int a1), some (.int a2), some (.int a3), some (.int a4), some (.int a5), some (.int 1), some (.int y7), some (.int (a8 + 1)), some (.int y3)]) dX10_makes_193 rfl (show _ = (a8 + 1) from rfl) rfl ?_
            refine x_goto (tgt := 112) dX10_makes_196 rfl ?_
            refine Ex.wkl (lo' := [some (.ref w.1), some (.int a1), some (.int a2), some (.int a3), some (.int a4), some (.int a5), some (.int 1), some (.int y7), some (.int (a8 + 1)), none]) ⟨rfl, rfl, rfl, rfl, rfl, rfl, rfl, rfl, rfl, trivial⟩ ?_
            exact hT h0 h hW hF
          · have hT := hT.2 c
            refine x_iload dX10_makes_184 rfl ?_
            refine x_goto (tgt := 191) dX10_makes_186 rfl ?_
            refine x_istore (lo' := [some (.ref w.1), some (.int a1), some (.int a2), some (.int a3), some (.int a4), some (.int y3), some (.int 1), some (.int y7), some (.int a8), some (.int y3)]) dX10_makes_191 (Nat.le_of_ble_eq_true rfl) rfl ?_
            refine x_iinc (lo' := [some (.ref w.1), some (.int a1), some (.int a2), some (.int a3), some (.int a4), some (.int y3), some (.int 1), some (.int y7), some (.int (a8 + 1)), some (.int y3)]) dX10_makes_193 rfl (show _ = (a8 + 1) from rfl) rfl ?_
            refine x_goto (tgt := 112) dX10_makes_196 rfl ?_
            refine Ex.wkl (lo' := [some (.ref w.1), some (.int a1), some (.int a2), some (.int a3), some (.int a4), some (.int y3), some (.int 1), some (.int y7), some (.int (a8 + 1)), none]) ⟨rfl, rfl, rfl, rfl, rfl, rfl, rfl, rfl, rfl, trivial⟩ ?_
            exact hT h0 h hW hF
        · have hT := hT.2 c
          refine x_iload dX10_makes_161 rfl ?_
          refine x_bipush (v := 64) dX10_makes_163 rfl ?_
          refine x_icmp_gt (tgt := 173) dX10_makes_165 rfl (fun c => ?_) (fun c => ?_)
          · have hT := hT.1 c
            refine x_iconst (v := 0) dX10_makes_173 rfl ?_
            refine x_iadd dX10_makes_174 ?_
            obtain ⟨y8, ey8⟩ : ∃ z : Int32, z = (a7 + 0) := ⟨_, rfl⟩
            have hT := hT y8 ey8
            refine x_istore (lo' := [some (.ref w.1), some (.int a1), some (.int a2), some (.int a3), some (.int a4), some (.int a5), some (.int 1), some (.int y8), some (.int a8), some (.int y3)]) dX10_makes_175 (Nat.le_of_ble_eq_true rfl) (by rw [ey8]; rfl) ?_
            refine x_iload dX10_makes_177 rfl ?_
            refine x_iload dX10_makes_179 rfl ?_
            refine x_icmp_ge (tgt := 189) dX10_makes_181 rfl (fun c => ?_) (fun c => ?_)
            · have hT := hT.1 c
              refine x_iload dX10_makes_189 rfl ?_
              refine x_istore (lo' := [some (.ref w.1), some (.int a1), some (.int a2), some (.int a3), some (.int a4), some (.int a5), some (.int 1), some (.int y8), some (.int a8), some (.int y3)]) dX10_makes_191 (Nat.le_of_ble_eq_true rfl) rfl ?_
              refine x_iinc (lo' := [some (.ref w.1), some (.int a1), some (.int a2), some (.int a3), some (.int a4), some (.int a5), some (.int 1), some (.int y8), some (.int (a8 + 1)), some (.int y3)]) dX10_makes_193 rfl (show _ = (a8 + 1) from rfl) rfl ?_
              refine x_goto (tgt := 112) dX10_makes_196 rfl ?_
              refine Ex.wkl (lo' := [some (.ref w.1), some (.int a1), some (.int a2), some (.int a3), some (.int a4), some (.int a5), some (.int 1), some (.int y8), some (.int (a8 + 1)), none]) ⟨rfl, rfl, rfl, rfl, rfl, rfl, rfl, rfl, rfl, trivial⟩ ?_
              exact hT h0 h hW hF
            · have hT := hT.2 c
              refine x_iload dX10_makes_184 rfl ?_
              refine x_goto (tgt := 191) dX10_makes_186 rfl ?_
              refine x_istore (lo' := [some (.ref w.1), some (.int a1), some (.int a2), some (.int a3), some (.int a4), some (.int y3), some (.int 1), some (.int y8), some (.int a8), some (.int y3)]) dX10_makes_191 (Nat.le_of_ble_eq_true rfl) rfl ?_
              refine x_iinc (lo' := [some (.ref w.1), some (.int a1), some (.int a2), some (.int a3), some (.int a4), some (.int y3), some (.int 1), some (.int y8), some (.int (a8 + 1)), some (.int y3)]) dX10_makes_193 rfl (show _ = (a8 + 1) from rfl) rfl ?_
              refine x_goto (tgt := 112) dX10_makes_196 rfl ?_
              refine Ex.wkl (lo' := [some (.ref w.1), some (.int a1), some (.int a2), some (.int a3), some (.int a4), some (.int y3), some (.int 1), some (.int y8), some (.int (a8 + 1)), none]) ⟨rfl, rfl, rfl, rfl, rfl, rfl, rfl, rfl, rfl, trivial⟩ ?_
              exact hT h0 h hW hF
          · have hT := hT.2 c
            refine x_iload dX10_makes_168 rfl ?_
            refine x_goto (tgt := 174) dX10_makes_170 rfl ?_
            refine x_iadd dX10_makes_174 ?_
            obtain ⟨y9, ey9⟩ : ∃ z : Int32, z = (a7 + y3) := ⟨_, rfl⟩
            have hT := hT y9 ey9
            refine x_istore (lo' := [some (.ref w.1), some (.int a1), some (.int a2), some (.int a3), some (.int a4), some (.int a5), some (.int 1), some (.int y9), some (.int a8), some (.int y3)]) dX10_makes_175 (Nat.le_of_ble_eq_true rfl) (by rw [ey9]; rfl) ?_
            refine x_iload dX10_makes_177 rfl ?_
            refine x_iload dX10_makes_179 rfl ?_
            refine x_icmp_ge (tgt := 189) dX10_makes_181 rfl (fun c => ?_) (fun c => ?_)
            · have hT := hT.1 c
              refine x_iload dX10_makes_189 rfl ?_
              refine x_istore (lo' := [some (.ref w.1), some (.int a1), some (.int a2), some (.int a3), some (.int a4), some (.int a5), some (.int 1), some (.int y9), some (.int a8), some (.int y3)]) dX10_makes_191 (Nat.le_of_ble_eq_true rfl) rfl ?_
              refine x_iinc (lo' := [some (.ref w.1), some (.int a1), some (.int a2), some (.int a3), some (.int a4), some (.int a5), some (.int 1), some (.int y9), some (.int (a8 + 1)), some (.int y3)]) dX10_makes_193 rfl (show _ = (a8 + 1) from rfl) rfl ?_
              refine x_goto (tgt := 112) dX10_makes_196 rfl ?_
              refine Ex.wkl (lo' := [some (.ref w.1), some (.int a1), some (.int a2), some (.int a3), some (.int a4), some (.int a5), some (.int 1), some (.int y9), some (.int (a8 + 1)), none]) ⟨rfl, rfl, rfl, rfl, rfl, rfl, rfl, rfl, rfl, trivial⟩ ?_
              exact hT h0 h hW hF
            · have hT := hT.2 c
              refine x_iload dX10_makes_184 rfl ?_
              refine x_goto (tgt := 191) dX10_makes_186 rfl ?_
              refine x_istore (lo' := [some (.ref w.1), some (.int a1), some (.int a2), some (.int a3), some (.int a4), some (.int y3), some (.int 1), some (.int y9), some (.int a8), some (.int y3)]) dX10_makes_191 (Nat.le_of_ble_eq_true rfl) rfl ?_
              refine x_iinc (lo' := [some (.ref w.1), some (.int a1), some (.int a2), some (.int a3), some (.int a4), some (.int y3), some (.int 1), some (.int y9), some (.int (a8 + 1)), some (.int y3)]) dX10_makes_193 rfl (show _ = (a8 + 1) from rfl) rfl ?_
              refine x_goto (tgt := 112) dX10_makes_196 rfl ?_
              refine Ex.wkl (lo' := [some (.ref w.1), some (.int a1), some (.int a2), some (.int a3), some (.int a4), some (.int y3), some (.int 1), some (.int y9), some (.int (a8 + 1)), none]) ⟨rfl, rfl, rfl, rfl, rfl, rfl, rfl, rfl, rfl, trivial⟩ ?_
              exact hT h0 h hW hF
theorem vX10_makes_326 {l : Launch} {E : EN} {w : MO} {d : Nat} {s : MS} {Q : Option Value → MS → Prop} {a1 : Int32} {a2 : Int32} {a3 : Int32} {a4 : Int32} {a7 : Int32} {a8 : Int32} (hT : ((a7 ≤ a8 → (EvM l E w d MX10_builds [.ref w.1, .int 2, .int a4] s (fun r s1 => r = none ∧ Q none s1))) ∧ (¬ a7 ≤ a8 → (∀ y2 : Int32, y2 = (s.1 108) → ((¬ a1 = 3 → (inB ((a2 + 2) + a8) 166300 ∧ (EvM l E w d MX10_zeros [.ref w.1, .int (s.2.2.1 104 ((a2 + 2) + a8).toNatClampNeg)] s (fun r s3 => r = none ∧ (EvM l E w d MX10_rowOf [.ref w.1, .int y2] s3 (fun r s4 => r = none ∧ ExM l E w (d + 1) MX10_makes 326 [some (.ref w.1), some (.int a1), some (.int a2), some (.int a3), some (.int a4), none, none, some (.int a7), some (.int (a8 + 1)), none] [] s4 Q)))))) ∧ (a1 = 3 → (EvM l E w d MX10_zeros [.ref w.1, .int a3] s (fun r s5 => r = none ∧ (EvM l E w d MX10_rowOf [.ref w.1, .int y2] s5 (fun r s6 => r = none ∧ ExM l E w (d + 1) MX10_makes 326 [some (.ref w.1), some (.int a1), some (.int a2), some (.int a3), some (.int a4), none, none, some (.int a7), some (.int (a8 + 1)), none] [] s6 Q)))))))))) : ExM l E w (d + 1) MX10_makes 326 [some (.ref w.1), some (.int a1), some (.int a2), some (.int a3), some (.int a4), none, none, some (.int a7), some (.int a8), none] [] s Q := by
  intro h0 h hW hF
  refine x_iload dX10_makes_326 rfl ?_
  refine x_iload dX10_makes_328 rfl ?_
  refine x_icmp_ge (tgt := 375) dX10_makes_330 rfl (fun c => ?_) (fun c => ?_)
  · have hT := hT.1 c
    refine x_aload_n dX10_makes_375 rfl rfl rfl ?_
    refine x_iconst (v := 2) dX10_makes_376 rfl ?_
    refine x_iload dX10_makes_377 rfl ?_
    refine m_inv (vs := [.int 2, .int a4]) dX10_makes_379 oX10_builds q2739 q2737 qs108 rfl rfl (Nat.le_of_ble_eq_true rfl) rfl hW hF hT ?_
    rintro _ s1 ⟨rfl, hT⟩ h hW hF
    exact x_vret dX10_makes_382 rfl ⟨_, _, rfl, hW, hF, hT⟩
  · have hT := hT.2 c
    refine x_aload_n dX10_makes_333 rfl rfl rfl ?_
    refine m_geti (v := (s.1 108)) dX10_makes_334 f_TallySlateModel_461 (by decide) rfl hW rfl ?_
    obtain ⟨y2, ey2⟩ : ∃ z : Int32, z = (s.1 108) := ⟨_, rfl⟩
    have hT := hT y2 ey2
    refine x_istore (lo' := [some (.ref w.1), some (.int a1), some (.int a2), some (.int a3), some (.int a4), none, none, some (.int a7), some (.int a8), some (.int y2)]) dX10_makes_337 (Nat.le_of_ble_eq_true rfl) (by rw [ey2]; rfl) ?_
    refine x_aload_n dX10_makes_339 rfl rfl rfl ?_
    refine x_iload_n dX10_makes_340 rfl rfl ?_
    refine x_iconst (v := 3) dX10_makes_341 rfl ?_
    refine x_icmp_ne (tgt := 349) dX10_makes_342 rfl (fun c => ?_) (fun c => ?_)
    · have hT := hT.1 c
      refine x_aload_n dX10_makes_349 rfl rfl rfl ?_
      refine m_geta dX10_makes_350 f_TallySlateModel_183 (by decide) rfl hW ?_
      refine x_iload_n dX10_makes_353 rfl rfl ?_
      refine x_iconst (v := 2) dX10_makes_354 rfl ?_
      refine x_iadd dX10_makes_355 ?_
      refine x_iload dX10_makes_356 rfl ?_
      refine x_iadd dX10_makes_358 ?_
      obtain ⟨hb, hT⟩ := hT
      refine m_iald (v := (s.2.2.1 104 ((a2 + 2) + a8).toNatClampNeg)) dX10_makes_359 rfl hb hW rfl ?_
      refine m_inv (vs := [.int (s.2.2.1 104 ((a2 + 2) + a8).toNatClampNeg)]) dX10_makes_360 oX10_zeros q2814 q2812 qs125 rfl rfl (Nat.le_of_ble_eq_true rfl) rfl hW hF hT ?_
      rintro _ s3 ⟨rfl, hT⟩ h hW hF
      refine x_aload_n dX10_makes_363 rfl rfl rfl ?_
      refine x_iload dX10_makes_364 rfl ?_
      refine m_inv (vs := [.int y2]) dX10_makes_366 oX10_rowOf q2775 q2773 qs117 rfl rfl (Nat.le_of_ble_eq_true rfl) rfl hW hF hT ?_
      rintro _ s4 ⟨rfl, hT⟩ h hW hF
      refine x_iinc (lo' := [some (.ref w.1), some (.int a1), some (.int a2), some (.int a3), some (.int a4), none, none, some (.int a7), some (.int (a8 + 1)), some (.int y2)]) dX10_makes_369 rfl (show _ = (a8 + 1) from rfl) rfl ?_
      refine x_goto (tgt := 326) dX10_makes_372 rfl ?_
      refine Ex.wkl (lo' := [some (.ref w.1), some (.int a1), some (.int a2), some (.int a3), some (.int a4), none, none, some (.int a7), some (.int (a8 + 1)), none]) ⟨rfl, rfl, rfl, rfl, rfl, rfl, rfl, trivial⟩ ?_
      exact hT h0 h hW hF
    · have hT := hT.2 c
      refine x_iload_n dX10_makes_345 rfl rfl ?_
      refine x_goto (tgt := 360) dX10_makes_346 rfl ?_
      refine m_inv (vs := [.int a3]) dX10_makes_360 oX10_zeros q2814 q2812 qs125 rfl rfl (Nat.le_of_ble_eq_true rfl) rfl hW hF hT ?_
      rintro _ s5 ⟨rfl, hT⟩ h hW hF
      refine x_aload_n dX10_makes_363 rfl rfl rfl ?_
      refine x_iload dX10_makes_364 rfl ?_
      refine m_inv (vs := [.int y2]) dX10_makes_366 oX10_rowOf q2775 q2773 qs117 rfl rfl (Nat.le_of_ble_eq_true rfl) rfl hW hF hT ?_
      rintro _ s6 ⟨rfl, hT⟩ h hW hF
      refine x_iinc (lo' := [some (.ref w.1), some (.int a1), some (.int a2), some (.int a3), some (.int a4), none, none, some (.int a7), some (.int (a8 + 1)), some (.int y2)]) dX10_makes_369 rfl (show _ = (a8 + 1) from rfl) rfl ?_
      refine x_goto (tgt := 326) dX10_makes_372 rfl ?_
      refine Ex.wkl (lo' := [some (.ref w.1), some (.int a1), some (.int a2), some (.int a3), some (.int a4), none, none, some (.int a7), some (.int (a8 + 1)), none]) ⟨rfl, rfl, rfl, rfl, rfl, rfl, rfl, trivial⟩ ?_
      exact hT h0 h hW hF
theorem vX10_makes_262 {l : Launch} {E : EN} {w : MO} {d : Nat} {s : MS} {Q : Option Value → MS → Prop} {a1 : Int32} {a2 : Int32} {a4 : Int32} {a7 : Int32} (hT : ((a2 ≤ a7 → ((¬ a1 = 2 → (EvM l E w d MX10_builds [.ref w.1, .int 1, .int a4] s (fun r s1 => r = none ∧ Q none s1))) ∧ (a1 = 2 → (EvM l E w d MX10_builds [.ref w.1, .int 3, .int a4] s (fun r s2 => r = none ∧ Q none s2))))) ∧ (¬ a2 ≤ a7 → ((¬ a1 = 1 → (EvM l E w d MX10_push [.ref w.1, .int 0, .int 0] s (fun r s3 => r = none ∧ ExM l E w (d + 1) MX10_makes 262 [some (.ref w.1), some (.int a1), some (.int a2), none, some (.int a4), none, none, some (.int (a7 + 1)), none, none] [] s3 Q))) ∧ (a1 = 1 → (EvM l E w d MX10_push [.ref w.1, .int 0, .int a7] s (fun r s4 => r = none ∧ ExM l E w (d + 1) MX10_makes 262 [some (.ref w.1), some (.int a1), some (.int a2), none, some (.int a4), none, none, some (.int (a7 + 1)), none, none] [] s4 Q))))))) : ExM l E w (d + 1) MX10_makes 262 [some (.ref w.1), some (.int a1), some (.int a2), none, some (.int a4), none, none, some (.int a7), none, none] [] s Q := by
  intro h0 h hW hF
  refine x_iload dX10_makes_262 rfl ?_
  refine x_iload_n dX10_makes_264 rfl rfl ?_
  refine x_icmp_ge (tgt := 290) dX10_makes_265 rfl (fun c => ?_) (fun c => ?_)
  · have hT := hT.1 c
    refine x_aload_n dX10_makes_290 rfl rfl rfl ?_
    refine x_iload_n dX10_makes_291 rfl rfl ?_
    refine x_iconst (v := 2) dX10_makes_292 rfl ?_
    refine x_icmp_ne (tgt := 300) dX10_makes_293 rfl (fun c => ?_) (fun c => ?_)
    · have hT := hT.1 c
      refine x_iconst (v := 1) dX10_makes_300 rfl ?_
      refine x_iload dX10_makes_301 rfl ?_
      refine m_inv (vs := [.int 1, .int a4]) dX10_makes_303 oX10_builds q2739 q2737 qs108 rfl rfl (Nat.le_of_ble_eq_true rfl) rfl hW hF hT ?_
      rintro _ s1 ⟨rfl, hT⟩ h hW hF
      exact x_vret dX10_makes_306 rfl ⟨_, _, rfl, hW, hF, hT⟩
    · have hT := hT.2 c
      refine x_iconst (v := 3) dX10_makes_296 rfl ?_
      refine x_goto (tgt := 301) dX10_makes_297 rfl ?_
      refine x_iload dX10_makes_301 rfl ?_
      refine m_inv (vs := [.int 3, .int a4]) dX10_makes_303 oX10_builds q2739 q2737 qs108 rfl rfl (Nat.le_of_ble_eq_true rfl) rfl hW hF hT ?_
      rintro _ s2 ⟨rfl, hT⟩ h hW hF
      exact x_vret dX10_makes_306 rfl ⟨_, _, rfl, hW, hF, hT⟩
  · have hT := hT.2 c
    refine x_aload_n dX10_makes_268 rfl rfl rfl ?_
    refine x_iconst (v := 0) dX10_makes_269 rfl ?_
    refine x_iload_n dX10_makes_270 rfl rfl ?_
    refine x_iconst (v := 1) dX10_makes_271 rfl ?_
    refine x_icmp_ne (tgt := 280) dX10_makes_272 rfl (fun c => ?_) (fun c => ?_)
    · have hT := hT.1 c
      refine x_iconst (v := 0) dX10_makes_280 rfl ?_
      refine m_inv (vs := [.int 0, .int 0]) dX10_makes_281 oX10_push q2708 q2706 qs101 rfl rfl (Nat.le_of_ble_eq_true rfl) rfl hW hF hT ?_
      rintro _ s3 ⟨rfl, hT⟩ h hW hF
      refine x_iinc (lo' := [some (.ref w.1), some (.int a1), some (.int a2), none, some (.int a4), none, none, some (.int (a7 + 1)), none, none]) dX10_makes_284 rfl (show _ = (a7 + 1) from rfl) rfl ?_
      refine x_goto (tgt := 262) dX10_makes_287 rfl ?_
      exact hT h0 h hW hF
    · have hT := hT.2 c
      refine x_iload dX10_makes_275 rfl ?_
      refine x_goto (tgt := 281) dX10_makes_277 rfl ?_
      refine m_inv (vs := [.int 0, .int a7]) dX10_makes_281 oX10_push q2708 q2706 qs101 rfl rfl (Nat.le_of_ble_eq_true rfl) rfl hW hF hT ?_
      rintro _ s4 ⟨rfl, hT⟩ h hW hF
      refine x_iinc (lo' := [some (.ref w.1), some (.int a1), some (.int a2), none, some (.int a4), none, none, some (.int (a7 + 1)), none, none]) dX10_makes_284 rfl (show _ = (a7 + 1) from rfl) rfl ?_
      refine x_goto (tgt := 262) dX10_makes_287 rfl ?_
      exact hT h0 h hW hF
theorem vX10_zeros_0 {l : Launch} {E : EN} {w : MO} {d : Nat} {s : MS} {Q : Option Value → MS → Prop} {x1 : Int32} (hT : ExM l E w (d + 1) MX10_zeros 2 [some (.ref w.1), some (.int x1), some (.int 0)] [] s Q) : ExM l E w (d + 1) MX10_zeros 0 [some (.ref w.1), some (.int x1), none] [] s Q := by
  intro h0 h hW hF
  refine x_iconst (v := 0) dX10_zeros_0 rfl ?_
  refine x_istore_n (lo' := [some (.ref w.1), some (.int x1), some (.int 0)]) dX10_zeros_1 rfl (Nat.le_of_ble_eq_true rfl) rfl ?_
  exact hT h0 h hW hF
theorem eX10_zeros {l : Launch} {E : EN} {w : MO} {d : Nat} {s : MS} {Q : Option Value → MS → Prop} {x1 : Int32} (hst : l.stackTraces = false) (hT : ExM l E w (d + 1) MX10_zeros 2 [some (.ref w.1), some (.int x1), some (.int 0)] [] s Q) : EvM l E w (d + 1) MX10_zeros [.ref w.1, .int x1] s Q :=
  EvM.of hst (by decide) (Nat.le_of_ble_eq_true rfl) (vX10_zeros_0 hT)
theorem vX10_zeros_2 {l : Launch} {E : EN} {w : MO} {d : Nat} {s : MS} {Q : Option Value → MS → Prop} {a1 : Int32} {a2 : Int32} (hT : ((a1 ≤ a2 → Q none s) ∧ (¬ a1 ≤ a2 → (EvM l E w d MX10_push [.ref w.1, .int 0, .int 0] s (fun r s1 => r = none ∧ ExM l E w (d + 1) MX10_zeros 2 [some (.ref w.1), some (.int a1), some (.int (a2 + 1))] [] s1 Q))))) : ExM l E w (d + 1) MX10_zeros 2 [some (.ref w.1), some (.int a1), some (.int a2)] [] s Q := by
  intro h0 h hW hF
  refine x_iload_n dX10_zeros_2 rfl rfl ?_
  refine x_iload_n dX10_zeros_3 rfl rfl ?_
  refine x_icmp_ge (tgt := 19) dX10_zeros_4 rfl (fun c => ?_) (fun c => ?_)
  · have hT := hT.1 c
    exact x_vret dX10_zeros_19 rfl ⟨_, _, rfl, hW, hF, hT⟩
  · have hT := hT.2 c
    refine x_aload_n dX10_zeros_7 rfl rfl rfl ?_
    refine x_iconst (v := 0) dX10_zeros_8 rfl ?_
    refine x_iconst (v := 0) dX10_zeros_9 rfl ?_
    refine m_inv (vs := [.int 0, .int 0]) dX10_zeros_10 oX10_push q2708 q2706 qs101 rfl rfl (Nat.le_of_ble_eq_true rfl) rfl hW hF hT ?_
    rintro _ s1 ⟨rfl, hT⟩ h hW hF
    refine x_iinc (lo' := [some (.ref w.1), some (.int a1), some (.int (a2 + 1))]) dX10_zeros_13 rfl (show _ = (a2 + 1) from rfl) rfl ?_
    refine x_goto (tgt := 2) dX10_zeros_16 rfl ?_
    exact hT h0 h hW hF
set_option maxHeartbeats 16000000 in
theorem vX10_ofOneThing_0 {l : Launch} {E : EN} {w : MO} {d : Nat} {s : MS} {Q : Option Value → MS → Prop} {x1 : Int32} {x2 : Int32} {x3 : Int32} (hT : (EvM l E w d MX10_kindAt [.ref w.1, .int x3] s (fun r s1 => ∃ v2 : Int32, r = some (.int v2) ∧ ((¬ x1 = 6 → ((¬ x1 = 8 → ((¬ x1 = 7 → ((¬ x1 = 15 → ((x1 ≤ 11 → ((¬ v2 = 0 → ((¬ v2 = 1 → ExM l E w (d + 1) MX10_ofOneThing 221 [some (.ref w.1), some (.int x1), some (.int x2), some (.int x3), none, some (.int 0), none] [] (sI s1 108 x3) Q) ∧ (v2 = 1 → ((x1 ≤ 9 → (EvM l E w d MX10_reduced [.ref w.1, .int x1, .int x2] (sI s1 108 x3) (fun r s3 => ∃ v4 : Int32, r = some (.int v4) ∧ (EvM l E w d MX10_push [.ref w.1, .int 0, .int v4] s3 (fun r s5 => r = none ∧ Q none s5))))) ∧ (¬ x1 ≤ 9 → (EvM l E w d MX10_sizeAt [.ref w.1, .int x2] (sI s1 108 x3) (fun r s6 => ∃ v7 : Int32, r = some (.int v7) ∧ ((¬ v7 = 0 → (EvM l E w d MX10_reduced [.ref w.1, .int x1, .int x2] s6 (fun r s8 => ∃ v9 : Int32, r = some (.int v9) ∧ (EvM l E w d MX10_push [.ref w.1, .int 0, .int v9] s8 (fun r s10 => r = none ∧ Q none s10))))) ∧ (v7 = 0 → (EvM l E w d MX10_trouble [.ref w.1, .int 5, .int (s6.1 127)] s6 (fun r s11 => r = none ∧ Q none s11))))))))))) ∧ (v2 = 0 → (EvM l E w d MX10_push [.ref w.1, .int 0, .int x2] (sI s1 108 x3) (fun r s12 => r = none ∧ Q none s12))))) ∧ (¬ x1 ≤ 11 → (EvM l E w d MX10_eachRow [.ref w.1, .int x1, .int x2, .int x3, .int v2] (sI s1 108 x3) (fun r s13 => r = none ∧ Q none s13))))) ∧ (x1 = 15 → (EvM l E w d MX10_sizeAt [.ref w.1, .int x2] (sI s1 108 x3) (fun r s14 => ∃ v15 : Int32, r = some (.int v15) ∧ (∀ y16 : Int32, y16 = (v15 - 1) → ExM l E w (d + 1) MX10_ofOneThing 112 [some (.ref w.1), none, some (.int x2), some (.int x3), some (.int v2), some (.int y16), none] [] s14 Q)))))) ∧ (x1 = 7 → ExM l E w (d + 1) MX10_ofOneThing 56 [some (.ref w.1), none, some (.int x2), some (.int x3), none, some (.int 0), none] [] (sI s1 108 x3) Q))) ∧ (x1 = 8 → (EvM l E w d MX10_push [.ref w.1, .int 0, .int v2] (sI s1 108 x3) (fun r s17 => r = none ∧ Q none s17))))) ∧ (x1 = 6 → (EvM l E w d MX10_sizeAt [.ref w.1, .int x2] (sI s1 108 x3) (fun r s18 => ∃ v19 : Int32, r = some (.int v19) ∧ (EvM l E w d MX10_push [.ref w.1, .int 0, .int v19] s18 (fun r s20 => r = none ∧ Q none s20))))))))) : ExM l E w (d + 1) MX10_ofOneThing 0 [some (.ref w.1), some (.int x1), some (.int x2), some (.int x3), none, none, none] [] s Q := by
  intro h0 h hW hF
  refine x_aload_n dX10_ofOneThing_0 rfl rfl rfl ?_
  refine x_iload_n dX10_ofOneThing_1 rfl rfl ?_
  refine m_inv (vs := [.int x3]) dX10_ofOneThing_2 oX10_kindAt q2728 q2726 qs106 rfl rfl (Nat.le_of_ble_eq_true rfl) rfl hW hF hT ?_
  rintro _ s1 ⟨v2, rfl, hT⟩ h hW hF
  refine x_istore (lo' := [some (.ref w.1), some (.int x1), some (.int x2), some (.int x3), some (.int v2), none, none]) dX10_ofOneThing_5 (Nat.le_of_ble_eq_true rfl) rfl ?_
  refine x_aload_n dX10_ofOneThing_7 rfl rfl rfl ?_
  refine x_iload_n dX10_ofOneThing_8 rfl rfl ?_
  refine m_puti dX10_ofOneThing_9 f_TallySlateModel_461 (by decide) rfl rfl rfl rfl hW hF ?_
  intro h hW hF
  refine x_iload_n dX10_ofOneThing_12 rfl rfl ?_
  refine x_bipush (v := 6) dX10_ofOneThing_13 rfl ?_
  refine x_icmp_ne (tgt := 31) dX10_ofOneThing_15 rfl (fun c => ?_) (fun c => ?_)
  · have hT := hT.1 c
    refine x_iload_n dX10_ofOneThing_31 rfl rfl ?_
    refine x_bipush (v := 8) dX10_ofOneThing_32 rfl ?_
    refine x_icmp_ne (tgt := 47) dX10_ofOneThing_34 rfl (fun c => ?_) (fun c => ?_)
    · have hT := hT.1 c
      refine x_iload_n dX10_ofOneThing_47 rfl rfl ?_
      refine x_bipush (v := 7) dX10_ofOneThing_48 rfl ?_
      refine x_icmp_ne (tgt := 97) dX10_ofOneThing_50 rfl (fun c => ?_) (fun c => ?_)
      · have hT := hT.1 c
        refine x_iload_n dX10_ofOneThing_97 rfl rfl ?_
        refine x_bipush (v := 15) dX10_ofOneThing_98 rfl ?_
        refine x_icmp_ne (tgt := 140) dX10_ofOneThing_100 rfl (fun c => ?_) (fun c => ?_)
        · have hT := hT.1 c
          refine x_iload_n dX10_ofOneThing_140 rfl rfl ?_
          refine x_bipush (v := 11) dX10_ofOneThing_141 rfl ?_
          refine x_icmp_le (tgt := 158) dX10_ofOneThing_143 rfl (fun c => ?_) (fun c => ?_)
          · have hT := hT.1 c
            refine x_iload dX10_ofOneThing_158 rfl ?_
            refine x_if_ne (tgt := 172) dX10_ofOneThing_160 rfl (fun c => ?_) (fun c => ?_)
            · have hT := hT.1 c
              refine x_iload dX10_ofOneThing_172 rfl ?_
              refine x_iconst (v := 1) dX10_ofOneThing_174 rfl ?_
              refine x_icmp_ne (tgt := 218) dX10_ofOneThing_175 rfl (fun c => ?_) (fun c => ?_)
              · have hT := hT.1 c
                refine x_iconst (v := 0) dX10_ofOneThing_218 rfl ?_
                refine x_istore (lo' := [some (.ref w.1), some (.int x1), some (.int x2), some (.int x3), some (.int v2), some (.int 0), none]) dX10_ofOneThing_219 (Nat.le_of_ble_eq_true rfl) rfl ?_
                refine Ex.wkl (lo' := [some (.ref w.1), some (.int x1), some (.int x2), some (.int x3), none, some (.int 0), none]) ⟨rfl, rfl, rfl, rfl, rfl, trivial⟩ ?_
                exact hT h0 h hW hF
              · have hT := hT.2 c
                refine x_iload_n dX10_ofOneThing_178 rfl rfl ?_
                refine x_bipush (v := 9) dX10_ofOneThing_179 rfl ?_
                refine x_icmp_le (tgt := 204) dX10_ofOneThing_181 rfl (fun c => ?_) (fun c => ?_)
                · have hT := hT.1 c
                  refine x_aload_n dX10_ofOneThing_204 rfl rfl rfl ?_
                  refine x_iconst (v := 0) dX10_ofOneThing_205 rfl ?_
                  refine x_aload_n dX10_ofOneThing_206 rfl rfl rfl ?_
                  refine x_iload_n dX10_ofOneThing_207 rfl rfl ?_
                  refine x_iload_n dX10_ofOneThing_208 rfl rfl ?_
                  refine m_inv (vs := [.int x1, .int x2]) dX10_ofOneThing_209 oX10_reduced q2830 q2828 qs129 rfl rfl (Nat.le_of_ble_eq_true rfl) rfl hW hF hT ?_
                  rintro _ s3 ⟨v4, rfl, hT⟩ h hW hF
                  refine m_inv (vs := [.int 0, .int v4]) dX10_ofOneThing_212 oX10_push q2708 q2706 qs101 rfl rfl (Nat.le_of_ble_eq_true rfl) rfl hW hF hT ?_
                  rintro _ s5 ⟨rfl, hT⟩ h hW hF
                  refine x_goto (tgt := 289) dX10_ofOneThing_215 rfl ?_
                  exact x_vret dX10_ofOneThing_289 rfl ⟨_, _, rfl, hW, hF, hT⟩
                · have hT := hT.2 c
                  refine x_aload_n dX10_ofOneThing_184 rfl rfl rfl ?_
                  refine x_iload_n dX10_ofOneThing_185 rfl rfl ?_
                  refine m_inv (vs := [.int x2]) dX10_ofOneThing_186 oX10_sizeAt q2735 q2733 qs107 rfl rfl (Nat.le_of_ble_eq_true rfl) rfl hW hF hT ?_
                  rintro _ s6 ⟨v7, rfl, hT⟩ h hW hF
                  refine x_if_ne (tgt := 204) dX10_ofOneThing_189 rfl (fun c => ?_) (fun c => ?_)
                  · have hT := hT.1 c
                    refine x_aload_n dX10_ofOneThing_204 rfl rfl rfl ?_
                    refine x_iconst (v := 0) dX10_ofOneThing_205 rfl ?_
                    refine x_aload_n dX10_ofOneThing_206 rfl rfl rfl ?_
                    refine x_iload_n dX10_ofOneThing_207 rfl rfl ?_
                    refine x_iload_n dX10_ofOneThing_208 rfl rfl ?_
                    refine m_inv (vs := [.int x1, .int x2]) dX10_ofOneThing_209 oX10_reduced q2830 q2828 qs129 rfl rfl (Nat.le_of_ble_eq_true rfl) rfl hW hF hT ?_
                    rintro _ s8 ⟨v9, rfl, hT⟩ h hW hF
                    refine m_inv (vs := [.int 0, .int v9]) dX10_ofOneThing_212 oX10_push q2708 q2706 qs101 rfl rfl (Nat.le_of_ble_eq_true rfl) rfl hW hF hT ?_
                    rintro _ s10 ⟨rfl, hT⟩ h hW hF
                    refine x_goto (tgt := 289) dX10_ofOneThing_215 rfl ?_
                    exact x_vret dX10_ofOneThing_289 rfl ⟨_, _, rfl, hW, hF, hT⟩
                  · have hT := hT.2 c
                    refine x_aload_n dX10_ofOneThing_192 rfl rfl rfl ?_
                    refine x_iconst (v := 5) dX10_ofOneThing_193 rfl ?_
                    refine x_aload_n dX10_ofOneThing_194 rfl rfl rfl ?_
                    refine m_geti (v := (s6.1 127)) dX10_ofOneThing_195 f_TallySlateModel_507 (by decide) rfl hW rfl ?_
                    refine m_inv (vs := [.int 5, .int (s6.1 127)]) dX10_ofOneThing_198 oX10_trouble q2696 q2694 qs98 rfl rfl (Nat.le_of_ble_eq_true rfl) rfl hW hF hT ?_
                    rintro _ s11 ⟨rfl, hT⟩ h hW hF
                    refine x_goto (tgt := 289) dX10_ofOneThing_201 rfl ?_
                    exact x_vret dX10_ofOneThing_289 rfl ⟨_, _, rfl, hW, hF, hT⟩
            · have hT := hT.2 c
              refine x_aload_n dX10_ofOneThing_163 rfl rfl rfl ?_
              refine x_iconst (v := 0) dX10_ofOneThing_164 rfl ?_
              refine x_iload_n dX10_ofOneThing_165 rfl rfl ?_
              refine m_inv (vs := [.int 0, .int x2]) dX10_ofOneThing_166 oX10_push q2708 q2706 qs101 rfl rfl (Nat.le_of_ble_eq_true rfl) rfl hW hF hT ?_
              rintro _ s12 ⟨rfl, hT⟩ h hW hF
              refine x_goto (tgt := 289) dX10_ofOneThing_169 rfl ?_
              exact x_vret dX10_ofOneThing_289 rfl ⟨_, _, rfl, hW, hF, hT⟩
          · have hT := hT.2 c
            refine x_aload_n dX10_ofOneThing_146 rfl rfl rfl ?_
            refine x_iload_n dX10_ofOneThing_147 rfl rfl ?_
            refine x_iload_n dX10_ofOneThing_148 rfl rfl ?_
            refine x_iload_n dX10_ofOneThing_149 rfl rfl ?_
            refine x_iload dX10_ofOneThing_150 rfl ?_
            refine m_inv (vs := [.int x1, .int x2, .int x3, .int v2]) dX10_ofOneThing_152 oX10_eachRow q2822 q2820 qs127 rfl rfl (Nat.le_of_ble_eq_true rfl) rfl hW hF hT ?_
            rintro _ s13 ⟨rfl, hT⟩ h hW hF
            refine x_goto (tgt := 289) dX10_ofOneThing_155 rfl ?_
            exact x_vret dX10_ofOneThing_289 rfl ⟨_, _, rfl, hW, hF, hT⟩
        · have hT := hT.2 c
          refine x_aload_n dX10_ofOneThing_103 rfl rfl rfl ?_
          refine x_iload_n dX10_ofOneThing_104 rfl rfl ?_
          refine m_inv (vs := [.int x2]) dX10_ofOneThing_105 oX10_sizeAt q2735 q2733 qs107 rfl rfl (Nat.le_of_ble_eq_true rfl) rfl hW hF hT ?_
          rintro _ s14 ⟨v15, rfl, hT⟩ h hW hF
          refine x_iconst (v := 1) dX10_ofOneThing_108 rfl ?_
          refine x_isub dX10_ofOneThing_109 ?_
          obtain ⟨y16, ey16⟩ : ∃ z : Int32, z = (v15 - 1) := ⟨_, rfl⟩
          have hT := hT y16 ey16
          refine x_istore (lo' := [some (.ref w.1), some (.int x1), some (.int x2), some (.int x3), some (.int v2), some (.int y16), none]) dX10_ofOneThing_110 (Nat.le_of_ble_eq_true rfl) (by rw [ey16]; rfl) ?_
          refine Ex.wkl (lo' := [some (.ref w.1), none, some (.int x2), some (.int x3), some (.int v2), some (.int y16), none]) ⟨rfl, rfl, rfl, rfl, rfl, trivial⟩ ?_
          exact hT h0 h hW hF
      · have hT := hT.2 c
        refine x_iconst (v := 0) dX10_ofOneThing_53 rfl ?_
        refine x_istore (lo' := [some (.ref w.1), some (.int x1), some (.int x2), some (.int x3), some (.int v2), some (.int 0), none]) dX10_ofOneThing_54 (Nat.le_of_ble_eq_true rfl) rfl ?_
        refine Ex.wkl (lo' := [some (.ref w.1), none, some (.int x2), some (.int x3), none, some (.int 0), none]) ⟨rfl, rfl, rfl, rfl, trivial⟩ ?_
        exact hT h0 h hW hF
    · have hT := hT.2 c
      refine x_aload_n dX10_ofOneThing_37 rfl rfl rfl ?_
      refine x_iconst (v := 0) dX10_ofOneThing_38 rfl ?_
      refine x_iload dX10_ofOneThing_39 rfl ?_
      refine m_inv (vs := [.int 0, .int v2]) dX10_ofOneThing_41 oX10_push q2708 q2706 qs101 rfl rfl (Nat.le_of_ble_eq_true rfl) rfl hW hF hT ?_
      rintro _ s17 ⟨rfl, hT⟩ h hW hF
      refine x_goto (tgt := 289) dX10_ofOneThing_44 rfl ?_
      exact x_vret dX10_ofOneThing_289 rfl ⟨_, _, rfl, hW, hF, hT⟩
  · have hT := hT.2 c
    refine x_aload_n dX10_ofOneThing_18 rfl rfl rfl ?_
    refine x_iconst (v := 0) dX10_ofOneThing_19 rfl ?_
    refine x_aload_n dX10_ofOneThing_20 rfl rfl rfl ?_
    refine x_iload_n dX10_ofOneThing_21 rfl rfl ?_
    refine m_inv (vs := [.int x2]) dX10_ofOneThing_22 oX10_sizeAt q2735 q2733 qs107 rfl rfl (Nat.le_of_ble_eq_true rfl) rfl hW hF hT ?_
    rintro _ s18 ⟨v19, rfl, hT⟩ h hW hF
    refine m_inv (vs := [.int 0, .int v19]) dX10_ofOneThing_25 oX10_push q2708 q2706 qs101 rfl rfl (Nat.le_of_ble_eq_true rfl) rfl hW hF hT ?_
    rintro _ s20 ⟨rfl, hT⟩ h hW hF
    refine x_goto (tgt := 289) dX10_ofOneThing_28 rfl ?_
    exact x_vret dX10_ofOneThing_289 rfl ⟨_, _, rfl, hW, hF, hT⟩
theorem eX10_ofOneThing {l : Launch} {E : EN} {w : MO} {d : Nat} {s : MS} {Q : Option Value → MS → Prop} {x1 : Int32} {x2 : Int32} {x3 : Int32} (hst : l.stackTraces = false) (hT : (EvM l E w d MX10_kindAt [.ref w.1, .int x3] s (fun r s1 => ∃ v2 : Int32, r = some (.int v2) ∧ ((¬ x1 = 6 → ((¬ x1 = 8 → ((¬ x1 = 7 → ((¬ x1 = 15 → ((x1 ≤ 11 → ((¬ v2 = 0 → ((¬ v2 = 1 → ExM l E w (d + 1) MX10_ofOneThing 221 [some (.ref w.1), some (.int x1), some (.int x2), some (.int x3), none, some (.int 0), none] [] (sI s1 108 x3) Q) ∧ (v2 = 1 → ((x1 ≤ 9 → (EvM l E w d MX10_reduced [.ref w.1, .int x1, .int x2] (sI s1 108 x3) (fun r s3 => ∃ v4 : Int32, r = some (.int v4) ∧ (EvM l E w d MX10_push [.ref w.1, .int 0, .int v4] s3 (fun r s5 => r = none ∧ Q none s5))))) ∧ (¬ x1 ≤ 9 → (EvM l E w d MX10_sizeAt [.ref w.1, .int x2] (sI s1 108 x3) (fun r s6 => ∃ v7 : Int32, r = some (.int v7) ∧ ((¬ v7 = 0 → (EvM l E w d MX10_reduced [.ref w.1, .int x1, .int x2] s6 (fun r s8 => ∃ v9 : Int32, r = some (.int v9) ∧ (EvM l E w d MX10_push [.ref w.1, .int 0, .int v9] s8 (fun r s10 => r = none ∧ Q none s10))))) ∧ (v7 = 0 → (EvM l E w d MX10_trouble [.ref w.1, .int 5, .int (s6.1 127)] s6 (fun r s11 => r = none ∧ Q none s11))))))))))) ∧ (v2 = 0 → (EvM l E w d MX10_push [.ref w.1, .int 0, .int x2] (sI s1 108 x3) (fun r s12 => r = none ∧ Q none s12))))) ∧ (¬ x1 ≤ 11 → (EvM l E w d MX10_eachRow [.ref w.1, .int x1, .int x2, .int x3, .int v2] (sI s1 108 x3) (fun r s13 => r = none ∧ Q none s13))))) ∧ (x1 = 15 → (EvM l E w d MX10_sizeAt [.ref w.1, .int x2] (sI s1 108 x3) (fun r s14 => ∃ v15 : Int32, r = some (.int v15) ∧ (∀ y16 : Int32, y16 = (v15 - 1) → ExM l E w (d + 1) MX10_ofOneThing 112 [some (.ref w.1), none, some (.int x2), some (.int x3), some (.int v2), some (.int y16), none] [] s14 Q)))))) ∧ (x1 = 7 → ExM l E w (d + 1) MX10_ofOneThing 56 [some (.ref w.1), none, some (.int x2), some (.int x3), none, some (.int 0), none] [] (sI s1 108 x3) Q))) ∧ (x1 = 8 → (EvM l E w d MX10_push [.ref w.1, .int 0, .int v2] (sI s1 108 x3) (fun r s17 => r = none ∧ Q none s17))))) ∧ (x1 = 6 → (EvM l E w d MX10_sizeAt [.ref w.1, .int x2] (sI s1 108 x3) (fun r s18 => ∃ v19 : Int32, r = some (.int v19) ∧ (EvM l E w d MX10_push [.ref w.1, .int 0, .int v19] s18 (fun r s20 => r = none ∧ Q none s20))))))))) : EvM l E w (d + 1) MX10_ofOneThing [.ref w.1, .int x1, .int x2, .int x3] s Q :=
  EvM.of hst (by decide) (Nat.le_of_ble_eq_true rfl) (vX10_ofOneThing_0 hT)
set_option maxHeartbeats 16000000 in
theorem vX10_ofOneThing_221 {l : Launch} {E : EN} {w : MO} {d : Nat} {s : MS} {Q : Option Value → MS → Prop} {a1 : Int32} {a2 : Int32} {a3 : Int32} {a5 : Int32} (hT : (EvM l E w d MX10_sizeAt [.ref w.1, .int a2] s (fun r s1 => ∃ v2 : Int32, r = some (.int v2) ∧ ((v2 ≤ a5 → (EvM l E w d MX10_builds [.ref w.1, .int 1, .int a3] s1 (fun r s3 => r = none ∧ Q none s3))) ∧ (¬ v2 ≤ a5 → (EvM l E w d MX10_partAt [.ref w.1, .int a2, .int a5] s1 (fun r s4 => ∃ v5 : Int32, r = some (.int v5) ∧ ((a1 ≤ 9 → (EvM l E w d MX10_reduced [.ref w.1, .int a1, .int v5] s4 (fun r s6 => ∃ v7 : Int32, r = some (.int v7) ∧ (EvM l E w d MX10_push [.ref w.1, .int 0, .int v7] s6 (fun r s8 => r = none ∧ ExM l E w (d + 1) MX10_ofOneThing 221 [some (.ref w.1), some (.int a1), some (.int a2), some (.int a3), none, some (.int (a5 + 1)), none] [] s8 Q))))) ∧ (¬ a1 ≤ 9 → (EvM l E w d MX10_sizeAt [.ref w.1, .int v5] s4 (fun r s9 => ∃ v10 : Int32, r = some (.int v10) ∧ ((¬ v10 = 0 → (EvM l E w d MX10_reduced [.ref w.1, .int a1, .int v5] s9 (fun r s11 => ∃ v12 : Int32, r = some (.int v12) ∧ (EvM l E w d MX10_push [.ref w.1, .int 0, .int v12] s11 (fun r s13 => r = none ∧ ExM l E w (d + 1) MX10_ofOneThing 221 [some (.ref w.1), some (.int a1), some (.int a2), some (.int a3), none, some (.int (a5 + 1)), none] [] s13 Q))))) ∧ (v10 = 0 → (EvM l E w d MX10_trouble [.ref w.1, .int 5, .int (s9.1 127)] s9 (fun r s14 => r = none ∧ Q none s14))))))))))))))) : ExM l E w (d + 1) MX10_ofOneThing 221 [some (.ref w.1), some (.int a1), some (.int a2), some (.int a3), none, some (.int a5), none] [] s Q := by
  intro h0 h hW hF
  refine x_iload dX10_ofOneThing_221 rfl ?_
  refine x_aload_n dX10_ofOneThing_223 rfl rfl rfl ?_
  refine x_iload_n dX10_ofOneThing_224 rfl rfl ?_
  refine m_inv (vs := [.int a2]) dX10_ofOneThing_225 oX10_sizeAt q2735 q2733 qs107 rfl rfl (Nat.le_of_ble_eq_true rfl) rfl hW hF hT ?_
  rintro _ s1 ⟨v2, rfl, hT⟩ h hW hF
  refine x_icmp_ge (tgt := 283) dX10_ofOneThing_228 rfl (fun c => ?_) (fun c => ?_)
  · have hT := hT.1 c
    refine x_aload_n dX10_ofOneThing_283 rfl rfl rfl ?_
    refine x_iconst (v := 1) dX10_ofOneThing_284 rfl ?_
    refine x_iload_n dX10_ofOneThing_285 rfl rfl ?_
    refine m_inv (vs := [.int 1, .int a3]) dX10_ofOneThing_286 oX10_builds q2739 q2737 qs108 rfl rfl (Nat.le_of_ble_eq_true rfl) rfl hW hF hT ?_
    rintro _ s3 ⟨rfl, hT⟩ h hW hF
    exact x_vret dX10_ofOneThing_289 rfl ⟨_, _, rfl, hW, hF, hT⟩
  · have hT := hT.2 c
    refine x_aload_n dX10_ofOneThing_231 rfl rfl rfl ?_
    refine x_iload_n dX10_ofOneThing_232 rfl rfl ?_
    refine x_iload dX10_ofOneThing_233 rfl ?_
    refine m_inv (vs := [.int a2, .int a5]) dX10_ofOneThing_235 oX10_partAt q2751 q2749 qs111 rfl rfl (Nat.le_of_ble_eq_true rfl) rfl hW hF hT ?_
    rintro _ s4 ⟨v5, rfl, hT⟩ h hW hF
    refine x_istore (lo' := [some (.ref w.1), some (.int a1), some (.int a2), some (.int a3), none, some (.int a5), some (.int v5)]) dX10_ofOneThing_238 (Nat.le_of_ble_eq_true rfl) rfl ?_
    refine x_iload_n dX10_ofOneThing_240 rfl rfl ?_
    refine x_bipush (v := 9) dX10_ofOneThing_241 rfl ?_
    refine x_icmp_le (tgt := 265) dX10_ofOneThing_243 rfl (fun c => ?_) (fun c => ?_)
    · have hT := hT.1 c
      refine x_aload_n dX10_ofOneThing_265 rfl rfl rfl ?_
      refine x_iconst (v := 0) dX10_ofOneThing_266 rfl ?_
      refine x_aload_n dX10_ofOneThing_267 rfl rfl rfl ?_
      refine x_iload_n dX10_ofOneThing_268 rfl rfl ?_
      refine x_iload dX10_ofOneThing_269 rfl ?_
      refine m_inv (vs := [.int a1, .int v5]) dX10_ofOneThing_271 oX10_reduced q2830 q2828 qs129 rfl rfl (Nat.le_of_ble_eq_true rfl) rfl hW hF hT ?_
      rintro _ s6 ⟨v7, rfl, hT⟩ h hW hF
      refine m_inv (vs := [.int 0, .int v7]) dX10_ofOneThing_274 oX10_push q2708 q2706 qs101 rfl rfl (Nat.le_of_ble_eq_true rfl) rfl hW hF hT ?_
      rintro _ s8 ⟨rfl, hT⟩ h hW hF
      refine x_iinc (lo' := [some (.ref w.1), some (.int a1), some (.int a2), some (.int a3), none, some (.int (a5 + 1)), some (.int v5)]) dX10_ofOneThing_277 rfl (show _ = (a5 + 1) from rfl) rfl ?_
      refine x_goto (tgt := 221) dX10_ofOneThing_280 rfl ?_
      refine Ex.wkl (lo' := [some (.ref w.1), some (.int a1), some (.int a2), some (.int a3), none, some (.int (a5 + 1)), none]) ⟨rfl, rfl, rfl, rfl, rfl, trivial⟩ ?_
      exact hT h0 h hW hF
    · have hT := hT.2 c
      refine x_aload_n dX10_ofOneThing_246 rfl rfl rfl ?_
      refine x_iload dX10_ofOneThing_247 rfl ?_
      refine m_inv (vs := [.int v5]) dX10_ofOneThing_249 oX10_sizeAt q2735 q2733 qs107 rfl rfl (Nat.le_of_ble_eq_true rfl) rfl hW hF hT ?_
      rintro _ s9 ⟨v10, rfl, hT⟩ h hW hF
      refine x_if_ne (tgt := 265) dX10_ofOneThing_252 rfl (fun c => ?_) (fun c => ?_)
      · have hT := hT.1 c
        refine x_aload_n dX10_ofOneThing_265 rfl rfl rfl ?_
        refine x_iconst (v := 0) dX10_ofOneThing_266 rfl ?_
        refine x_aload_n dX10_ofOneThing_267 rfl rfl rfl ?_
        refine x_iload_n dX10_ofOneThing_268 rfl rfl ?_
        refine x_iload dX10_ofOneThing_269 rfl ?_
        refine m_inv (vs := [.int a1, .int v5]) dX10_ofOneThing_271 oX10_reduced q2830 q2828 qs129 rfl rfl (Nat.le_of_ble_eq_true rfl) rfl hW hF hT ?_
        rintro _ s11 ⟨v12, rfl, hT⟩ h hW hF
        refine m_inv (vs := [.int 0, .int v12]) dX10_ofOneThing_274 oX10_push q2708 q2706 qs101 rfl rfl (Nat.le_of_ble_eq_true rfl) rfl hW hF hT ?_
        rintro _ s13 ⟨rfl, hT⟩ h hW hF
        refine x_iinc (lo' := [some (.ref w.1), some (.int a1), some (.int a2), some (.int a3), none, some (.int (a5 + 1)), some (.int v5)]) dX10_ofOneThing_277 rfl (show _ = (a5 + 1) from rfl) rfl ?_
        refine x_goto (tgt := 221) dX10_ofOneThing_280 rfl ?_
        refine Ex.wkl (lo' := [some (.ref w.1), some (.int a1), some (.int a2), some (.int a3), none, some (.int (a5 + 1)), none]) ⟨rfl, rfl, rfl, rfl, rfl, trivial⟩ ?_
        exact hT h0 h hW hF
      · have hT := hT.2 c
        refine x_aload_n dX10_ofOneThing_255 rfl rfl rfl ?_
        refine x_iconst (v := 5) dX10_ofOneThing_256 rfl ?_
        refine x_aload_n dX10_ofOneThing_257 rfl rfl rfl ?_
        refine m_geti (v := (s9.1 127)) dX10_ofOneThing_258 f_TallySlateModel_507 (by decide) rfl hW rfl ?_
        refine m_inv (vs := [.int 5, .int (s9.1 127)]) dX10_ofOneThing_261 oX10_trouble q2696 q2694 qs98 rfl rfl (Nat.le_of_ble_eq_true rfl) rfl hW hF hT ?_
        rintro _ s14 ⟨rfl, hT⟩ h hW hF
        exact x_vret dX10_ofOneThing_264 rfl ⟨_, _, rfl, hW, hF, hT⟩
theorem vX10_ofOneThing_112 {l : Launch} {E : EN} {w : MO} {d : Nat} {s : MS} {Q : Option Value → MS → Prop} {a2 : Int32} {a3 : Int32} {a4 : Int32} {a5 : Int32} (hT : ((a5 < 0 → (EvM l E w d MX10_builds [.ref w.1, .int a4, .int a3] s (fun r s1 => r = none ∧ Q none s1))) ∧ (¬ a5 < 0 → (EvM l E w d MX10_element [.ref w.1, .int a2, .int a5] s (fun r s2 => r = none ∧ ExM l E w (d + 1) MX10_ofOneThing 112 [some (.ref w.1), none, some (.int a2), some (.int a3), some (.int a4), some (.int (a5 + (-1))), none] [] s2 Q))))) : ExM l E w (d + 1) MX10_ofOneThing 112 [some (.ref w.1), none, some (.int a2), some (.int a3), some (.int a4), some (.int a5), none] [] s Q := by
  intro h0 h hW hF
  refine x_iload dX10_ofOneThing_112 rfl ?_
  refine x_if_lt (tgt := 130) dX10_ofOneThing_114 rfl (fun c => ?_) (fun c => ?_)
  · have hT := hT.1 c
    refine x_aload_n dX10_ofOneThing_130 rfl rfl rfl ?_
    refine x_iload dX10_ofOneThing_131 rfl ?_
    refine x_iload_n dX10_ofOneThing_133 rfl rfl ?_
    refine m_inv (vs := [.int a4, .int a3]) dX10_ofOneThing_134 oX10_builds q2739 q2737 qs108 rfl rfl (Nat.le_of_ble_eq_true rfl) rfl hW hF hT ?_
    rintro _ s1 ⟨rfl, hT⟩ h hW hF
    refine x_goto (tgt := 289) dX10_ofOneThing_137 rfl ?_
    exact x_vret dX10_ofOneThing_289 rfl ⟨_, _, rfl, hW, hF, hT⟩
  · have hT := hT.2 c
    refine x_aload_n dX10_ofOneThing_117 rfl rfl rfl ?_
    refine x_iload_n dX10_ofOneThing_118 rfl rfl ?_
    refine x_iload dX10_ofOneThing_119 rfl ?_
    refine m_inv (vs := [.int a2, .int a5]) dX10_ofOneThing_121 oX10_element q2798 q2796 qs122 rfl rfl (Nat.le_of_ble_eq_true rfl) rfl hW hF hT ?_
    rintro _ s2 ⟨rfl, hT⟩ h hW hF
    refine x_iinc (lo' := [some (.ref w.1), none, some (.int a2), some (.int a3), some (.int a4), some (.int (a5 + (-1))), none]) dX10_ofOneThing_124 rfl (show _ = (a5 + (-1)) from rfl) rfl ?_
    refine x_goto (tgt := 112) dX10_ofOneThing_127 rfl ?_
    exact hT h0 h hW hF
theorem vX10_ofOneThing_56 {l : Launch} {E : EN} {w : MO} {d : Nat} {s : MS} {Q : Option Value → MS → Prop} {a2 : Int32} {a3 : Int32} {a5 : Int32} (hT : (EvM l E w d MX10_sizeAt [.ref w.1, .int a2] s (fun r s1 => ∃ v2 : Int32, r = some (.int v2) ∧ ((v2 ≤ a5 → (EvM l E w d MX10_builds [.ref w.1, .int 1, .int a3] s1 (fun r s3 => r = none ∧ Q none s3))) ∧ (¬ v2 ≤ a5 → (EvM l E w d MX10_partAt [.ref w.1, .int a2, .int a5] s1 (fun r s4 => ∃ v5 : Int32, r = some (.int v5) ∧ (EvM l E w d MX10_sizeAt [.ref w.1, .int v5] s4 (fun r s6 => ∃ v7 : Int32, r = some (.int v7) ∧ (EvM l E w d MX10_push [.ref w.1, .int 0, .int v7] s6 (fun r s8 => r = none ∧ ExM l E w (d + 1) MX10_ofOneThing 56 [some (.ref w.1), none, some (.int a2), some (.int a3), none, some (.int (a5 + 1)), none] [] s8 Q))))))))))) : ExM l E w (d + 1) MX10_ofOneThing 56 [some (.ref w.1), none, some (.int a2), some (.int a3), none, some (.int a5), none] [] s Q := by
  intro h0 h hW hF
  refine x_iload dX10_ofOneThing_56 rfl ?_
  refine x_aload_n dX10_ofOneThing_58 rfl rfl rfl ?_
  refine x_iload_n dX10_ofOneThing_59 rfl rfl ?_
  refine m_inv (vs := [.int a2]) dX10_ofOneThing_60 oX10_sizeAt q2735 q2733 qs107 rfl rfl (Nat.le_of_ble_eq_true rfl) rfl hW hF hT ?_
  rintro _ s1 ⟨v2, rfl, hT⟩ h hW hF
  refine x_icmp_ge (tgt := 88) dX10_ofOneThing_63 rfl (fun c => ?_) (fun c => ?_)
  · have hT := hT.1 c
    refine x_aload_n dX10_ofOneThing_88 rfl rfl rfl ?_
    refine x_iconst (v := 1) dX10_ofOneThing_89 rfl ?_
    refine x_iload_n dX10_ofOneThing_90 rfl rfl ?_
    refine m_inv (vs := [.int 1, .int a3]) dX10_ofOneThing_91 oX10_builds q2739 q2737 qs108 rfl rfl (Nat.le_of_ble_eq_true rfl) rfl hW hF hT ?_
    rintro _ s3 ⟨rfl, hT⟩ h hW hF
    refine x_goto (tgt := 289) dX10_ofOneThing_94 rfl ?_
    exact x_vret dX10_ofOneThing_289 rfl ⟨_, _, rfl, hW, hF, hT⟩
  · have hT := hT.2 c
    refine x_aload_n dX10_ofOneThing_66 rfl rfl rfl ?_
    refine x_iconst (v := 0) dX10_ofOneThing_67 rfl ?_
    refine x_aload_n dX10_ofOneThing_68 rfl rfl rfl ?_
    refine x_aload_n dX10_ofOneThing_69 rfl rfl rfl ?_
    refine x_iload_n dX10_ofOneThing_70 rfl rfl ?_
    refine x_iload dX10_ofOneThing_71 rfl ?_
    refine m_inv (vs := [.int a2, .int a5]) dX10_ofOneThing_73 oX10_partAt q2751 q2749 qs111 rfl rfl (Nat.le_of_ble_eq_true rfl) rfl hW hF hT ?_
    rintro _ s4 ⟨v5, rfl, hT⟩ h hW hF
    refine m_inv (vs := [.int v5]) dX10_ofOneThing_76 oX10_sizeAt q2735 q2733 qs107 rfl rfl (Nat.le_of_ble_eq_true rfl) rfl hW hF hT ?_
    rintro _ s6 ⟨v7, rfl, hT⟩ h hW hF
    refine m_inv (vs := [.int 0, .int v7]) dX10_ofOneThing_79 oX10_push q2708 q2706 qs101 rfl rfl (Nat.le_of_ble_eq_true rfl) rfl hW hF hT ?_
    rintro _ s8 ⟨rfl, hT⟩ h hW hF
    refine x_iinc (lo' := [some (.ref w.1), none, some (.int a2), some (.int a3), none, some (.int (a5 + 1)), none]) dX10_ofOneThing_82 rfl (show _ = (a5 + 1) from rfl) rfl ?_
    refine x_goto (tgt := 56) dX10_ofOneThing_85 rfl ?_
    exact hT h0 h hW hF
theorem vX10_eachRow_0 {l : Launch} {E : EN} {w : MO} {d : Nat} {s : MS} {Q : Option Value → MS → Prop} {x1 : Int32} {x2 : Int32} {x3 : Int32} {x4 : Int32} (hT : ((¬ x4 = 1 → ExM l E w (d + 1) MX10_eachRow 22 [some (.ref w.1), some (.int x1), some (.int x2), some (.int x3), none, some (.int 0), none] [] s Q) ∧ (x4 = 1 → (EvM l E w d MX10_worked [.ref w.1, .int x1, .int x2] s (fun r s1 => r = none ∧ (EvM l E w d MX10_builds [.ref w.1, .int 1, .int x3] s1 (fun r s2 => r = none ∧ Q none s2))))))) : ExM l E w (d + 1) MX10_eachRow 0 [some (.ref w.1), some (.int x1), some (.int x2), some (.int x3), some (.int x4), none, none] [] s Q := by
  intro h0 h hW hF
  refine x_iload dX10_eachRow_0 rfl ?_
  refine x_iconst (v := 1) dX10_eachRow_2 rfl ?_
  refine x_icmp_ne (tgt := 19) dX10_eachRow_3 rfl (fun c => ?_) (fun c => ?_)
  · have hT := hT.1 c
    refine x_iconst (v := 0) dX10_eachRow_19 rfl ?_
    refine x_istore (lo' := [some (.ref w.1), some (.int x1), some (.int x2), some (.int x3), some (.int x4), some (.int 0), none]) dX10_eachRow_20 (Nat.le_of_ble_eq_true rfl) rfl ?_
    refine Ex.wkl (lo' := [some (.ref w.1), some (.int x1), some (.int x2), some (.int x3), none, some (.int 0), none]) ⟨rfl, rfl, rfl, rfl, rfl, trivial⟩ ?_
    exact hT h0 h hW hF
  · have hT := hT.2 c
    refine x_aload_n dX10_eachRow_6 rfl rfl rfl ?_
    refine x_iload_n dX10_eachRow_7 rfl rfl ?_
    refine x_iload_n dX10_eachRow_8 rfl rfl ?_
    refine m_inv (vs := [.int x1, .int x2]) dX10_eachRow_9 oX10_worked q2826 q2824 qs128 rfl rfl (Nat.le_of_ble_eq_true rfl) rfl hW hF hT ?_
    rintro _ s1 ⟨rfl, hT⟩ h hW hF
    refine x_aload_n dX10_eachRow_12 rfl rfl rfl ?_
    refine x_iconst (v := 1) dX10_eachRow_13 rfl ?_
    refine x_iload_n dX10_eachRow_14 rfl rfl ?_
    refine m_inv (vs := [.int 1, .int x3]) dX10_eachRow_15 oX10_builds q2739 q2737 qs108 rfl rfl (Nat.le_of_ble_eq_true rfl) rfl hW hF hT ?_
    rintro _ s2 ⟨rfl, hT⟩ h hW hF
    exact x_vret dX10_eachRow_18 rfl ⟨_, _, rfl, hW, hF, hT⟩
theorem eX10_eachRow {l : Launch} {E : EN} {w : MO} {d : Nat} {s : MS} {Q : Option Value → MS → Prop} {x1 : Int32} {x2 : Int32} {x3 : Int32} {x4 : Int32} (hst : l.stackTraces = false) (hT : ((¬ x4 = 1 → ExM l E w (d + 1) MX10_eachRow 22 [some (.ref w.1), some (.int x1), some (.int x2), some (.int x3), none, some (.int 0), none] [] s Q) ∧ (x4 = 1 → (EvM l E w d MX10_worked [.ref w.1, .int x1, .int x2] s (fun r s1 => r = none ∧ (EvM l E w d MX10_builds [.ref w.1, .int 1, .int x3] s1 (fun r s2 => r = none ∧ Q none s2))))))) : EvM l E w (d + 1) MX10_eachRow [.ref w.1, .int x1, .int x2, .int x3, .int x4] s Q :=
  EvM.of hst (by decide) (Nat.le_of_ble_eq_true rfl) (vX10_eachRow_0 hT)
theorem vX10_eachRow_22 {l : Launch} {E : EN} {w : MO} {d : Nat} {s : MS} {Q : Option Value → MS → Prop} {a1 : Int32} {a2 : Int32} {a3 : Int32} {a5 : Int32} (hT : (EvM l E w d MX10_sizeAt [.ref w.1, .int a2] s (fun r s1 => ∃ v2 : Int32, r = some (.int v2) ∧ ((v2 ≤ a5 → (EvM l E w d MX10_builds [.ref w.1, .int 2, .int a3] s1 (fun r s3 => r = none ∧ Q none s3))) ∧ (¬ v2 ≤ a5 → (∀ y4 : Int32, y4 = (s1.1 108) → (EvM l E w d MX10_partAt [.ref w.1, .int a2, .int a5] s1 (fun r s5 => ∃ v6 : Int32, r = some (.int v6) ∧ (EvM l E w d MX10_worked [.ref w.1, .int a1, .int v6] s5 (fun r s7 => r = none ∧ (EvM l E w d MX10_rowOf [.ref w.1, .int y4] s7 (fun r s8 => r = none ∧ ExM l E w (d + 1) MX10_eachRow 22 [some (.ref w.1), some (.int a1), some (.int a2), some (.int a3), none, some (.int (a5 + 1)), none] [] s8 Q)))))))))))) : ExM l E w (d + 1) MX10_eachRow 22 [some (.ref w.1), some (.int a1), some (.int a2), some (.int a3), none, some (.int a5), none] [] s Q := by
  intro h0 h hW hF
  refine x_iload dX10_eachRow_22 rfl ?_
  refine x_aload_n dX10_eachRow_24 rfl rfl rfl ?_
  refine x_iload_n dX10_eachRow_25 rfl rfl ?_
  refine m_inv (vs := [.int a2]) dX10_eachRow_26 oX10_sizeAt q2735 q2733 qs107 rfl rfl (Nat.le_of_ble_eq_true rfl) rfl hW hF hT ?_
  rintro _ s1 ⟨v2, rfl, hT⟩ h hW hF
  refine x_icmp_ge (tgt := 62) dX10_eachRow_29 rfl (fun c => ?_) (fun c => ?_)
  · have hT := hT.1 c
    refine x_aload_n dX10_eachRow_62 rfl rfl rfl ?_
    refine x_iconst (v := 2) dX10_eachRow_63 rfl ?_
    refine x_iload_n dX10_eachRow_64 rfl rfl ?_
    refine m_inv (vs := [.int 2, .int a3]) dX10_eachRow_65 oX10_builds q2739 q2737 qs108 rfl rfl (Nat.le_of_ble_eq_true rfl) rfl hW hF hT ?_
    rintro _ s3 ⟨rfl, hT⟩ h hW hF
    exact x_vret dX10_eachRow_68 rfl ⟨_, _, rfl, hW, hF, hT⟩
  · have hT := hT.2 c
    refine x_aload_n dX10_eachRow_32 rfl rfl rfl ?_
    refine m_geti (v := (s1.1 108)) dX10_eachRow_33 f_TallySlateModel_461 (by decide) rfl hW rfl ?_
    obtain ⟨y4, ey4⟩ : ∃ z : Int32, z = (s1.1 108) := ⟨_, rfl⟩
    have hT := hT y4 ey4
    refine x_istore (lo' := [some (.ref w.1), some (.int a1), some (.int a2), some (.int a3), none, some (.int a5), some (.int y4)]) dX10_eachRow_36 (Nat.le_of_ble_eq_true rfl) (by rw [ey4]; rfl) ?_
    refine x_aload_n dX10_eachRow_38 rfl rfl rfl ?_
    refine x_iload_n dX10_eachRow_39 rfl rfl ?_
    refine x_aload_n dX10_eachRow_40 rfl rfl rfl ?_
    refine x_iload_n dX10_eachRow_41 rfl rfl ?_
    refine x_iload dX10_eachRow_42 rfl ?_
    refine m_inv (vs := [.int a2, .int a5]) dX10_eachRow_44 oX10_partAt q2751 q2749 qs111 rfl rfl (Nat.le_of_ble_eq_true rfl) rfl hW hF hT ?_
    rintro _ s5 ⟨v6, rfl, hT⟩ h hW hF
    refine m_inv (vs := [.int a1, .int v6]) dX10_eachRow_47 oX10_worked q2826 q2824 qs128 rfl rfl (Nat.le_of_ble_eq_true rfl) rfl hW hF hT ?_
    rintro _ s7 ⟨rfl, hT⟩ h hW hF
    refine x_aload_n dX10_eachRow_50 rfl rfl rfl ?_
    refine x_iload dX10_eachRow_51 rfl ?_
    refine m_inv (vs := [.int y4]) dX10_eachRow_53 oX10_rowOf q2775 q2773 qs117 rfl rfl (Nat.le_of_ble_eq_true rfl) rfl hW hF hT ?_
    rintro _ s8 ⟨rfl, hT⟩ h hW hF
    refine x_iinc (lo' := [some (.ref w.1), some (.int a1), some (.int a2), some (.int a3), none, some (.int (a5 + 1)), some (.int y4)]) dX10_eachRow_56 rfl (show _ = (a5 + 1) from rfl) rfl ?_
    refine x_goto (tgt := 22) dX10_eachRow_59 rfl ?_
    refine Ex.wkl (lo' := [some (.ref w.1), some (.int a1), some (.int a2), some (.int a3), none, some (.int (a5 + 1)), none]) ⟨rfl, rfl, rfl, rfl, rfl, trivial⟩ ?_
    exact hT h0 h hW hF
theorem vX10_worked_0 {l : Launch} {E : EN} {w : MO} {d : Nat} {s : MS} {Q : Option Value → MS → Prop} {x1 : Int32} {x2 : Int32} (hT : (∀ y1 : Int32, y1 = (s.1 108) → ExM l E w (d + 1) MX10_worked 11 [some (.ref w.1), some (.int x1), some (.int x2), some (.int y1), some (.int 0), some (.int 0), none, none, none] [] s Q)) : ExM l E w (d + 1) MX10_worked 0 [some (.ref w.1), some (.int x1), some (.int x2), none, none, none, none, none, none] [] s Q := by
  intro h0 h hW hF
  refine x_aload_n dX10_worked_0 rfl rfl rfl ?_
  refine m_geti (v := (s.1 108)) dX10_worked_1 f_TallySlateModel_461 (by decide) rfl hW rfl ?_
  obtain ⟨y1, ey1⟩ : ∃ z : Int32, z = (s.1 108) := ⟨_, rfl⟩
  have hT := hT y1 ey1
  refine x_istore_n (lo' := [some (.ref w.1), some (.int x1), some (.int x2), some (.int y1), none, none, none, none, none]) dX10_worked_4 rfl (Nat.le_of_ble_eq_true rfl) (by rw [ey1]; rfl) ?_
  refine x_iconst (v := 0) dX10_worked_5 rfl ?_
  refine x_istore (lo' := [some (.ref w.1), some (.int x1), some (.int x2), some (.int y1), some (.int 0), none, none, none, none]) dX10_worked_6 (Nat.le_of_ble_eq_true rfl) rfl ?_
  refine x_iconst (v := 0) dX10_worked_8 rfl ?_
  refine x_istore (lo' := [some (.ref w.1), some (.int x1), some (.int x2), some (.int y1), some (.int 0), some (.int 0), none, none, none]) dX10_worked_9 (Nat.le_of_ble_eq_true rfl) rfl ?_
  exact hT h0 h hW hF
theorem eX10_worked {l : Launch} {E : EN} {w : MO} {d : Nat} {s : MS} {Q : Option Value → MS → Prop} {x1 : Int32} {x2 : Int32} (hst : l.stackTraces = false) (hT : (∀ y1 : Int32, y1 = (s.1 108) → ExM l E w (d + 1) MX10_worked 11 [some (.ref w.1), some (.int x1), some (.int x2), some (.int y1), some (.int 0), some (.int 0), none, none, none] [] s Q)) : EvM l E w (d + 1) MX10_worked [.ref w.1, .int x1, .int x2] s Q :=
  EvM.of hst (by decide) (Nat.le_of_ble_eq_true rfl) (vX10_worked_0 hT)
set_option maxHeartbeats 16000000 in
theorem vX10_worked_11 {l : Launch} {E : EN} {w : MO} {d : Nat} {s : MS} {Q : Option Value → MS → Prop} {a1 : Int32} {a2 : Int32} {a3 : Int32} {a4 : Int32} {a5 : Int32} (hT : (EvM l E w d MX10_sizeAt [.ref w.1, .int a2] s (fun r s1 => ∃ v2 : Int32, r = some (.int v2) ∧ ((v2 ≤ a5 → ((¬ a1 = 12 → (∀ y3 : Int32, y3 = (a3 + 1) → ExM l E w (d + 1) MX10_worked 88 [some (.ref w.1), some (.int a1), some (.int a2), some (.int a3), none, some (.int y3), none, none, none] [] s1 Q)) ∧ (a1 = 12 → Q none s1))) ∧ (¬ v2 ≤ a5 → (inB ((a2 + 2) + a5) 166300 ∧ (∀ y4 : Int32, y4 = (s1.2.2.1 104 ((a2 + 2) + a5).toNatClampNeg) → (∀ y5 : Int32, y5 = (a4 + y4) → ((¬ a1 = 12 → ((¬ a1 = 13 → (EvM l E w d MX10_push [.ref w.1, .int 0, .int a5] s1 (fun r s6 => r = none ∧ ExM l E w (d + 1) MX10_worked 11 [some (.ref w.1), some (.int a1), some (.int a2), some (.int a3), some (.int y5), some (.int (a5 + 1)), none, none, none] [] s6 Q))) ∧ (a1 = 13 → (EvM l E w d MX10_push [.ref w.1, .int 0, .int y4] s1 (fun r s7 => r = none ∧ ExM l E w (d + 1) MX10_worked 11 [some (.ref w.1), some (.int a1), some (.int a2), some (.int a3), some (.int y5), some (.int (a5 + 1)), none, none, none] [] s7 Q))))) ∧ (a1 = 12 → (EvM l E w d MX10_push [.ref w.1, .int 0, .int y5] s1 (fun r s8 => r = none ∧ ExM l E w (d + 1) MX10_worked 11 [some (.ref w.1), some (.int a1), some (.int a2), some (.int a3), some (.int y5), some (.int (a5 + 1)), none, none, none] [] s8 Q)))))))))))) : ExM l E w (d + 1) MX10_worked 11 [some (.ref w.1), some (.int a1), some (.int a2), some (.int a3), some (.int a4), some (.int a5), none, none, none] [] s Q := by
  intro h0 h hW hF
  refine x_iload dX10_worked_11 rfl ?_
  refine x_aload_n dX10_worked_13 rfl rfl rfl ?_
  refine x_iload_n dX10_worked_14 rfl rfl ?_
  refine m_inv (vs := [.int a2]) dX10_worked_15 oX10_sizeAt q2735 q2733 qs107 rfl rfl (Nat.le_of_ble_eq_true rfl) rfl hW hF hT ?_
  rintro _ s1 ⟨v2, rfl, hT⟩ h hW hF
  refine x_icmp_ge (tgt := 76) dX10_worked_18 rfl (fun c => ?_) (fun c => ?_)
  · have hT := hT.1 c
    refine x_iload_n dX10_worked_76 rfl rfl ?_
    refine x_bipush (v := 12) dX10_worked_77 rfl ?_
    refine x_icmp_ne (tgt := 83) dX10_worked_79 rfl (fun c => ?_) (fun c => ?_)
    · have hT := hT.1 c
      refine x_iload_n dX10_worked_83 rfl rfl ?_
      refine x_iconst (v := 1) dX10_worked_84 rfl ?_
      refine x_iadd dX10_worked_85 ?_
      obtain ⟨y3, ey3⟩ : ∃ z : Int32, z = (a3 + 1) := ⟨_, rfl⟩
      have hT := hT y3 ey3
      refine x_istore (lo' := [some (.ref w.1), some (.int a1), some (.int a2), some (.int a3), some (.int a4), some (.int y3), none, none, none]) dX10_worked_86 (Nat.le_of_ble_eq_true rfl) (by rw [ey3]; rfl) ?_
      refine Ex.wkl (lo' := [some (.ref w.1), some (.int a1), some (.int a2), some (.int a3), none, some (.int y3), none, none, none]) ⟨rfl, rfl, rfl, rfl, rfl, trivial⟩ ?_
      exact hT h0 h hW hF
    · have hT := hT.2 c
      exact x_vret dX10_worked_82 rfl ⟨_, _, rfl, hW, hF, hT⟩
  · have hT := hT.2 c
    refine x_aload_n dX10_worked_21 rfl rfl rfl ?_
    refine m_geta dX10_worked_22 f_TallySlateModel_183 (by decide) rfl hW ?_
    refine x_iload_n dX10_worked_25 rfl rfl ?_
    refine x_iconst (v := 2) dX10_worked_26 rfl ?_
    refine x_iadd dX10_worked_27 ?_
    refine x_iload dX10_worked_28 rfl ?_
    refine x_iadd dX10_worked_30 ?_
    obtain ⟨hb, hT⟩ := hT
    refine m_iald (v := (s1.2.2.1 104 ((a2 + 2) + a5).toNatClampNeg)) dX10_worked_31 rfl hb hW rfl ?_
    obtain ⟨y4, ey4⟩ : ∃ z : Int32, z = (s1.2.2.1 104 ((a2 + 2) + a5).toNatClampNeg) := ⟨_, rfl⟩
    have hT := hT y4 ey4
    refine x_istore (lo' := [some (.ref w.1), some (.int a1), some (.int a2), some (.int a3), some (.int a4), some (.int a5), some (.int y4), none, none]) dX10_worked_32 (Nat.le_of_ble_eq_true rfl) (by rw [ey4]; rfl) ?_
    refine x_iload dX10_worked_34 rfl ?_
    refine x_iload dX10_worked_36 rfl ?_
    refine x_iadd dX10_worked_38 ?_
    obtain ⟨y5, ey5⟩ : ∃ z : Int32, z = (a4 + y4) := ⟨_, rfl⟩
    have hT := hT y5 ey5
    refine x_istore (lo' := [some (.ref w.1), some (.int a1), some (.int a2), some (.int a3), some (.int y5), some (.int a5), some (.int y4), none, none]) dX10_worked_39 (Nat.le_of_ble_eq_true rfl) (by rw [ey5]; rfl) ?_
    refine x_aload_n dX10_worked_41 rfl rfl rfl ?_
    refine x_iconst (v := 0) dX10_worked_42 rfl ?_
    refine x_iload_n dX10_worked_43 rfl rfl ?_
    refine x_bipush (v := 12) dX10_worked_44 rfl ?_
    refine x_icmp_ne (tgt := 54) dX10_worked_46 rfl (fun c => ?_) (fun c => ?_)
    · have hT := hT.1 c
      refine x_iload_n dX10_worked_54 rfl rfl ?_
      refine x_bipush (v := 13) dX10_worked_55 rfl ?_
      refine x_icmp_ne (tgt := 65) dX10_worked_57 rfl (fun c => ?_) (fun c => ?_)
      · have hT := hT.1 c
        refine x_iload dX10_worked_65 rfl ?_
        refine m_inv (vs := [.int 0, .int a5]) dX10_worked_67 oX10_push q2708 q2706 qs101 rfl rfl (Nat.le_of_ble_eq_true rfl) rfl hW hF hT ?_
        rintro _ s6 ⟨rfl, hT⟩ h hW hF
        refine x_iinc (lo' := [some (.ref w.1), some (.int a1), some (.int a2), some (.int a3), some (.int y5), some (.int (a5 + 1)), some (.int y4), none, none]) dX10_worked_70 rfl (show _ = (a5 + 1) from rfl) rfl ?_
        refine x_goto (tgt := 11) dX10_worked_73 rfl ?_
        refine Ex.wkl (lo' := [some (.ref w.1), some (.int a1), some (.int a2), some (.int a3), some (.int y5), some (.int (a5 + 1)), none, none, none]) ⟨rfl, rfl, rfl, rfl, rfl, rfl, trivial⟩ ?_
        exact hT h0 h hW hF
      · have hT := hT.2 c
        refine x_iload dX10_worked_60 rfl ?_
        refine x_goto (tgt := 67) dX10_worked_62 rfl ?_
        refine m_inv (vs := [.int 0, .int y4]) dX10_worked_67 oX10_push q2708 q2706 qs101 rfl rfl (Nat.le_of_ble_eq_true rfl) rfl hW hF hT ?_
        rintro _ s7 ⟨rfl, hT⟩ h hW hF
        refine x_iinc (lo' := [some (.ref w.1), some (.int a1), some (.int a2), some (.int a3), some (.int y5), some (.int (a5 + 1)), some (.int y4), none, none]) dX10_worked_70 rfl (show _ = (a5 + 1) from rfl) rfl ?_
        refine x_goto (tgt := 11) dX10_worked_73 rfl ?_
        refine Ex.wkl (lo' := [some (.ref w.1), some (.int a1), some (.int a2), some (.int a3), some (.int y5), some (.int (a5 + 1)), none, none, none]) ⟨rfl, rfl, rfl, rfl, rfl, rfl, trivial⟩ ?_
        exact hT h0 h hW hF
    · have hT := hT.2 c
      refine x_iload dX10_worked_49 rfl ?_
      refine x_goto (tgt := 67) dX10_worked_51 rfl ?_
      refine m_inv (vs := [.int 0, .int y5]) dX10_worked_67 oX10_push q2708 q2706 qs101 rfl rfl (Nat.le_of_ble_eq_true rfl) rfl hW hF hT ?_
      rintro _ s8 ⟨rfl, hT⟩ h hW hF
      refine x_iinc (lo' := [some (.ref w.1), some (.int a1), some (.int a2), some (.int a3), some (.int y5), some (.int (a5 + 1)), some (.int y4), none, none]) dX10_worked_70 rfl (show _ = (a5 + 1) from rfl) rfl ?_
      refine x_goto (tgt := 11) dX10_worked_73 rfl ?_
      refine Ex.wkl (lo' := [some (.ref w.1), some (.int a1), some (.int a2), some (.int a3), some (.int y5), some (.int (a5 + 1)), none, none, none]) ⟨rfl, rfl, rfl, rfl, rfl, rfl, trivial⟩ ?_
      exact hT h0 h hW hF
theorem vX10_worked_88 {l : Launch} {E : EN} {w : MO} {d : Nat} {s : MS} {Q : Option Value → MS → Prop} {a1 : Int32} {a2 : Int32} {a3 : Int32} {a5 : Int32} (hT : (((s.1 108) ≤ a5 → Q none s) ∧ (¬ (s.1 108) ≤ a5 → (inB a5 9000 ∧ (∀ y1 : Int32, y1 = (s.2.2.1 107 a5.toNatClampNeg) → ((¬ a1 = 13 → (inB ((a2 + 2) + y1) 166300 ∧ (∀ y2 : Int32, y2 = (s.2.2.1 104 ((a2 + 2) + y1).toNatClampNeg) → ExM l E w (d + 1) MX10_worked 134 [some (.ref w.1), some (.int a1), some (.int a2), some (.int a3), none, some (.int a5), some (.int y1), some (.int y2), some (.int a5)] [] s Q))) ∧ (a1 = 13 → ExM l E w (d + 1) MX10_worked 134 [some (.ref w.1), some (.int a1), some (.int a2), some (.int a3), none, some (.int a5), some (.int y1), some (.int y1), some (.int a5)] [] s Q))))))) : ExM l E w (d + 1) MX10_worked 88 [some (.ref w.1), some (.int a1), some (.int a2), some (.int a3), none, some (.int a5), none, none, none] [] s Q := by
  intro h0 h hW hF
  refine x_iload dX10_worked_88 rfl ?_
  refine x_aload_n dX10_worked_90 rfl rfl rfl ?_
  refine m_geti (v := (s.1 108)) dX10_worked_91 f_TallySlateModel_461 (by decide) rfl hW rfl ?_
  refine x_icmp_ge (tgt := 218) dX10_worked_94 rfl (fun c => ?_) (fun c => ?_)
  · have hT := hT.1 c
    exact x_vret dX10_worked_218 rfl ⟨_, _, rfl, hW, hF, hT⟩
  · have hT := hT.2 c
    refine x_aload_n dX10_worked_97 rfl rfl rfl ?_
    refine m_geta dX10_worked_98 f_TallySlateModel_189 (by decide) rfl hW ?_
    refine x_iload dX10_worked_101 rfl ?_
    obtain ⟨hb, hT⟩ := hT
    refine m_iald (v := (s.2.2.1 107 a5.toNatClampNeg)) dX10_worked_103 rfl hb hW rfl ?_
    obtain ⟨y1, ey1⟩ : ∃ z : Int32, z = (s.2.2.1 107 a5.toNatClampNeg) := ⟨_, rfl⟩
    have hT := hT y1 ey1
    refine x_istore (lo' := [some (.ref w.1), some (.int a1), some (.int a2), some (.int a3), none, some (.int a5), some (.int y1), none, none]) dX10_worked_104 (Nat.le_of_ble_eq_true rfl) (by rw [ey1]; rfl) ?_
    refine x_iload_n dX10_worked_106 rfl rfl ?_
    refine x_bipush (v := 13) dX10_worked_107 rfl ?_
    refine x_icmp_ne (tgt := 117) dX10_worked_109 rfl (fun c => ?_) (fun c => ?_)
    · have hT := hT.1 c
      refine x_aload_n dX10_worked_117 rfl rfl rfl ?_
      refine m_geta dX10_worked_118 f_TallySlateModel_183 (by decide) rfl hW ?_
      refine x_iload_n dX10_worked_121 rfl rfl ?_
      refine x_iconst (v := 2) dX10_worked_122 rfl ?_
      refine x_iadd dX10_worked_123 ?_
      refine x_iload dX10_worked_124 rfl ?_
      refine x_iadd dX10_worked_126 ?_
      obtain ⟨hb, hT⟩ := hT
      refine m_iald (v := (s.2.2.1 104 ((a2 + 2) + y1).toNatClampNeg)) dX10_worked_127 rfl hb hW rfl ?_
      obtain ⟨y2, ey2⟩ : ∃ z : Int32, z = (s.2.2.1 104 ((a2 + 2) + y1).toNatClampNeg) := ⟨_, rfl⟩
      have hT := hT y2 ey2
      refine x_istore (lo' := [some (.ref w.1), some (.int a1), some (.int a2), some (.int a3), none, some (.int a5), some (.int y1), some (.int y2), none]) dX10_worked_128 (Nat.le_of_ble_eq_true rfl) (by rw [ey2]; rfl) ?_
      refine x_iload dX10_worked_130 rfl ?_
      refine x_istore (lo' := [some (.ref w.1), some (.int a1), some (.int a2), some (.int a3), none, some (.int a5), some (.int y1), some (.int y2), some (.int a5)]) dX10_worked_132 (Nat.le_of_ble_eq_true rfl) rfl ?_
      exact hT h0 h hW hF
    · have hT := hT.2 c
      refine x_iload dX10_worked_112 rfl ?_
      refine x_goto (tgt := 128) dX10_worked_114 rfl ?_
      refine x_istore (lo' := [some (.ref w.1), some (.int a1), some (.int a2), some (.int a3), none, some (.int a5), some (.int y1), some (.int y1), none]) dX10_worked_128 (Nat.le_of_ble_eq_true rfl) rfl ?_
      refine x_iload dX10_worked_130 rfl ?_
      refine x_istore (lo' := [some (.ref w.1), some (.int a1), some (.int a2), some (.int a3), none, some (.int a5), some (.int y1), some (.int y1), some (.int a5)]) dX10_worked_132 (Nat.le_of_ble_eq_true rfl) rfl ?_
      exact hT h0 h hW hF
set_option maxHeartbeats 16000000 in
theorem vX10_worked_134 {l : Launch} {E : EN} {w : MO} {d : Nat} {s : MS} {Q : Option Value → MS → Prop} {a1 : Int32} {a2 : Int32} {a3 : Int32} {a5 : Int32} {a6 : Int32} {a7 : Int32} {a8 : Int32} (hT : ((a8 ≤ a3 → (inB a8 9000 ∧ ExM l E w (d + 1) MX10_worked 88 [some (.ref w.1), some (.int a1), some (.int a2), some (.int a3), none, some (.int (a5 + 1)), none, none, none] [] (sA s 107 a8.toNatClampNeg a6) Q)) ∧ (¬ a8 ≤ a3 → ((¬ a1 = 13 → (inB (a8 - 1) 9000 ∧ (inB ((a2 + 2) + (s.2.2.1 107 (a8 - 1).toNatClampNeg)) 166300 ∧ (((s.2.2.1 104 ((a2 + 2) + (s.2.2.1 107 (a8 - 1).toNatClampNeg)).toNatClampNeg) ≤ a7 → (inB a8 9000 ∧ ExM l E w (d + 1) MX10_worked 88 [some (.ref w.1), some (.int a1), some (.int a2), some (.int a3), none, some (.int (a5 + 1)), none, none, none] [] (sA s 107 a8.toNatClampNeg a6) Q)) ∧ (¬ (s.2.2.1 104 ((a2 + 2) + (s.2.2.1 107 (a8 - 1).toNatClampNeg)).toNatClampNeg) ≤ a7 → (inB (a8 - 1) 9000 ∧ (inB a8 9000 ∧ ExM l E w (d + 1) MX10_worked 134 [some (.ref w.1), some (.int a1), some (.int a2), some (.int a3), none, some (.int a5), some (.int a6), some (.int a7), some (.int (a8 + (-1)))] [] (sA s 107 a8.toNatClampNeg (s.2.2.1 107 (a8 - 1).toNatClampNeg)) Q))))))) ∧ (a1 = 13 → (inB (a8 - 1) 9000 ∧ (((s.2.2.1 107 (a8 - 1).toNatClampNeg) ≤ a7 → (inB a8 9000 ∧ ExM l E w (d + 1) MX10_worked 88 [some (.ref w.1), some (.int a1), some (.int a2), some (.int a3), none, some (.int (a5 + 1)), none, none, none] [] (sA s 107 a8.toNatClampNeg a6) Q)) ∧ (¬ (s.2.2.1 107 (a8 - 1).toNatClampNeg) ≤ a7 → (inB (a8 - 1) 9000 ∧ (inB a8 9000 ∧ ExM l E w (d + 1) MX10_worked 134 [some (.ref w.1), some (.int a1), some (.int a2), some (.int a3), none, some (.int a5), some (.int a6), some (.int a7), some (.int (a8 + (-1)))] [] (sA s 107 a8.toNatClampNeg (s.2.2.1 107 (a8 - 1).toNatClampNeg)) Q)))))))))) : ExM l E w (d + 1) MX10_worked 134 [some (.ref w.1), some (.int a1), some (.int a2), some (.int a3), none, some (.int a5), some (.int a6), some (.int a7), some (.int a8)] [] s Q := by
  intro h0 h hW hF
  refine x_iload dX10_worked_134 rfl ?_
  refine x_iload_n dX10_worked_136 rfl rfl ?_
  refine x_icmp_le (tgt := 203) dX10_worked_137 rfl (fun c => ?_) (fun c => ?_)
  · have hT := hT.1 c
    refine x_aload_n dX10_worked_203 rfl rfl rfl ?_
    refine m_geta dX10_worked_204 f_TallySlateModel_189 (by decide) rfl hW ?_
    refine x_iload dX10_worked_207 rfl ?_
    refine x_iload dX10_worked_209 rfl ?_
    obtain ⟨hb, hT⟩ := hT
    refine m_iast dX10_worked_211 rfl hb hW hF ?_
    intro h hW hF
    refine x_iinc (lo' := [some (.ref w.1), some (.int a1), some (.int a2), some (.int a3), none, some (.int (a5 + 1)), some (.int a6), some (.int a7), some (.int a8)]) dX10_worked_212 rfl (show _ = (a5 + 1) from rfl) rfl ?_
    refine x_goto (tgt := 88) dX10_worked_215 rfl ?_
    refine Ex.wkl (lo' := [some (.ref w.1), some (.int a1), some (.int a2), some (.int a3), none, some (.int (a5 + 1)), none, none, none]) ⟨rfl, rfl, rfl, rfl, rfl, trivial⟩ ?_
    exact hT h0 h hW hF
  · have hT := hT.2 c
    refine x_iload_n dX10_worked_140 rfl rfl ?_
    refine x_bipush (v := 13) dX10_worked_141 rfl ?_
    refine x_icmp_ne (tgt := 158) dX10_worked_143 rfl (fun c => ?_) (fun c => ?_)
    · have hT := hT.1 c
      refine x_aload_n dX10_worked_158 rfl rfl rfl ?_
      refine m_geta dX10_worked_159 f_TallySlateModel_183 (by decide) rfl hW ?_
      refine x_iload_n dX10_worked_162 rfl rfl ?_
      refine x_iconst (v := 2) dX10_worked_163 rfl ?_
      refine x_iadd dX10_worked_164 ?_
      refine x_aload_n dX10_worked_165 rfl rfl rfl ?_
      refine m_geta dX10_worked_166 f_TallySlateModel_189 (by decide) rfl hW ?_
      refine x_iload dX10_worked_169 rfl ?_
      refine x_iconst (v := 1) dX10_worked_171 rfl ?_
      refine x_isub dX10_worked_172 ?_
      obtain ⟨hb, hT⟩ := hT
      refine m_iald (v := (s.2.2.1 107 (a8 - 1).toNatClampNeg)) dX10_worked_173 rfl hb hW rfl ?_
      refine x_iadd dX10_worked_174 ?_
      obtain ⟨hb, hT⟩ := hT
      refine m_iald (v := (s.2.2.1 104 ((a2 + 2) + (s.2.2.1 107 (a8 - 1).toNatClampNeg)).toNatClampNeg)) dX10_worked_175 rfl hb hW rfl ?_
      refine x_iload dX10_worked_176 rfl ?_
      refine x_icmp_le (tgt := 203) dX10_worked_178 rfl (fun c => ?_) (fun c => ?_)
      · have hT := hT.1 c
        refine x_aload_n dX10_worked_203 rfl rfl rfl ?_
        refine m_geta dX10_worked_204 f_TallySlateModel_189 (by decide) rfl hW ?_
        refine x_iload dX10_worked_207 rfl ?_
        refine x_iload dX10_worked_209 rfl ?_
        obtain ⟨hb, hT⟩ := hT
        refine m_iast dX10_worked_211 rfl hb hW hF ?_
        intro h hW hF
        refine x_iinc (lo' := [some (.ref w.1), some (.int a1), some (.int a2), some (.int a3), none, some (.int (a5 + 1)), some (.int a6), some (.int a7), some (.int a8)]) dX10_worked_212 rfl (show _ = (a5 + 1) from rfl) rfl ?_
        refine x_goto (tgt := 88) dX10_worked_215 rfl ?_
        refine Ex.wkl (lo' := [some (.ref w.1), some (.int a1), some (.int a2), some (.int a3), none, some (.int (a5 + 1)), none, none, none]) ⟨rfl, rfl, rfl, rfl, rfl, trivial⟩ ?_
        exact hT h0 h hW hF
      · have hT := hT.2 c
        refine x_aload_n dX10_worked_181 rfl rfl rfl ?_
        refine m_geta dX10_worked_182 f_TallySlateModel_189 (by decide) rfl hW ?_
        refine x_iload dX10_worked_185 rfl ?_
        refine x_aload_n dX10_worked_187 rfl rfl rfl ?_
        refine m_geta dX10_worked_188 f_TallySlateModel_189 (by decide) rfl hW ?_
        refine x_iload dX10_worked_191 rfl ?_
        refine x_iconst (v := 1) dX10_worked_193 rfl ?_
        refine x_isub dX10_worked_194 ?_
        obtain ⟨hb, hT⟩ := hT
        refine m_iald (v := (s.2.2.1 107 (a8 - 1).toNatClampNeg)) dX10_worked_195 rfl hb hW rfl ?_
        obtain ⟨hb, hT⟩ := hT
        refine m_iast dX10_worked_196 rfl hb hW hF ?_
        intro h hW hF
        refine x_iinc (lo' := [some (.ref w.1), some (.int a1), some (.int a2), some (.int a3), none, some (.int a5), some (.int a6), some (.int a7), some (.int (a8 + (-1)))]) dX10_worked_197 rfl (show _ = (a8 + (-1)) from rfl) rfl ?_
        refine x_goto (tgt := 134) dX10_worked_200 rfl ?_
        exact hT h0 h hW hF
    · have hT := hT.2 c
      refine x_aload_n dX10_worked_146 rfl rfl rfl ?_
      refine m_geta dX10_worked_147 f_TallySlateModel_189 (by decide) rfl hW ?_
      refine x_iload dX10_worked_150 rfl ?_
      refine x_iconst (v := 1) dX10_worked_152 rfl ?_
      refine x_isub dX10_worked_153 ?_
      obtain ⟨hb, hT⟩ := hT
      refine m_iald (v := (s.2.2.1 107 (a8 - 1).toNatClampNeg)) dX10_worked_154 rfl hb hW rfl ?_
      refine x_goto (tgt := 176) dX10_worked_155 rfl ?_
      refine x_iload dX10_worked_176 rfl ?_
      refine x_icmp_le (tgt := 203) dX10_worked_178 rfl (fun c => ?_) (fun c => ?_)
      · have hT := hT.1 c
        refine x_aload_n dX10_worked_203 rfl rfl rfl ?_
        refine m_geta dX10_worked_204 f_TallySlateModel_189 (by decide) rfl hW ?_
        refine x_iload dX10_worked_207 rfl ?_
        refine x_iload dX10_worked_209 rfl ?_
        obtain ⟨hb, hT⟩ := hT
        refine m_iast dX10_worked_211 rfl hb hW hF ?_
        intro h hW hF
        refine x_iinc (lo' := [some (.ref w.1), some (.int a1), some (.int a2), some (.int a3), none, some (.int (a5 + 1)), some (.int a6), some (.int a7), some (.int a8)]) dX10_worked_212 rfl (show _ = (a5 + 1) from rfl) rfl ?_
        refine x_goto (tgt := 88) dX10_worked_215 rfl ?_
        refine Ex.wkl (lo' := [some (.ref w.1), some (.int a1), some (.int a2), some (.int a3), none, some (.int (a5 + 1)), none, none, none]) ⟨rfl, rfl, rfl, rfl, rfl, trivial⟩ ?_
        exact hT h0 h hW hF
      · have hT := hT.2 c
        refine x_aload_n dX10_worked_181 rfl rfl rfl ?_
        refine m_geta dX10_worked_182 f_TallySlateModel_189 (by decide) rfl hW ?_
        refine x_iload dX10_worked_185 rfl ?_
        refine x_aload_n dX10_worked_187 rfl rfl rfl ?_
        refine m_geta dX10_worked_188 f_TallySlateModel_189 (by decide) rfl hW ?_
        refine x_iload dX10_worked_191 rfl ?_
        refine x_iconst (v := 1) dX10_worked_193 rfl ?_
        refine x_isub dX10_worked_194 ?_
        obtain ⟨hb, hT⟩ := hT
        refine m_iald (v := (s.2.2.1 107 (a8 - 1).toNatClampNeg)) dX10_worked_195 rfl hb hW rfl ?_
        obtain ⟨hb, hT⟩ := hT
        refine m_iast dX10_worked_196 rfl hb hW hF ?_
        intro h hW hF
        refine x_iinc (lo' := [some (.ref w.1), some (.int a1), some (.int a2), some (.int a3), none, some (.int a5), some (.int a6), some (.int a7), some (.int (a8 + (-1)))]) dX10_worked_197 rfl (show _ = (a8 + (-1)) from rfl) rfl ?_
        refine x_goto (tgt := 134) dX10_worked_200 rfl ?_
        exact hT h0 h hW hF
