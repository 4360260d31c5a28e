/-! weakest preconditions of methods of the component: printed by wpc.py -/
set_option maxRecDepth 100000
set_option maxHeartbeats 16000000 in
theorem vX2_next_0 {l : Launch} {E : EN} {w : CO} {d : Nat} {s : CS} {f : RH} {Q : KO → CS → RH → Prop}   (hT : (((s.1 18) ≤ (s.1 19) → (EvC l E w d MX2_look [.ref (w.1 2), .int (s.1 19)] (uI s 21 (s.1 19)) f (fun o s1 f2 => KP o (fun r => ∃ v3 : Int32, r = some (.int v3) ∧ (((s1.1 19) < (s1.1 18) → (EvC l E w d MX2_isLetter [.int v3] s1 f2 (fun o s4 f5 => KP o (fun r => ∃ v6 : Int32, r = some (.int v6) ∧ ((v6 = 0 → (EvC l E w d MX2_isDigit [.int v3] s4 f5 (fun o s7 f8 => KP o (fun r => ∃ v9 : Int32, r = some (.int v9) ∧ ((v9 = 0 → (EvC l E w d MX2_sign [.ref (w.1 2), .int v3] s7 f8 (fun o s10 f11 => KP o (fun r => r = none ∧ Q (.inl none) s10 f11) (fun k => Q (.inr k) s10 f11)))) ∧ (¬ v9 = 0 → (EvC l E w d MX2_number [.ref (w.1 2)] s7 f8 (fun o s12 f13 => KP o (fun r => r = none ∧ Q (.inl none) s12 f13) (fun k => Q (.inr k) s12 f13)))))) (fun k => Q (.inr k) s7 f8)))) ∧ (¬ v6 = 0 → (EvC l E w d MX2_word [.ref (w.1 2)] s4 f5 (fun o s14 f15 => KP o (fun r => r = none ∧ Q (.inl none) s14 f15) (fun k => Q (.inr k) s14 f15)))))) (fun k => Q (.inr k) s4 f5)))) ∧ (¬ (s1.1 19) < (s1.1 18) → Q (.inl none) (uI s1 20 0) f2))) (fun k => Q (.inr k) s1 f2)))) ∧ (¬ (s.1 18) ≤ (s.1 19) → (EvC l E w d MX2_look [.ref (w.1 2), .int (s.1 19)] s f (fun o s16 f17 => KP o (fun r => ∃ v18 : Int32, r = some (.int v18) ∧ ((v18 = 32 → (EvC l E w d MX2_look [.ref (w.1 2), .int (s16.1 19)] s16 f17 (fun o s19 f20 => KP o (fun r => ∃ v21 : Int32, r = some (.int v21) ∧ ((¬ v21 = 35 → ExC l E w (d + 1) MX2_next 0 [some (.ref (w.1 2)), none] [] (uI s19 19 ((s19.1 19) + 1)) f20 Q) ∧ (v21 = 35 → ExC l E w (d + 1) MX2_next 63 [some (.ref (w.1 2)), none] [] s19 f20 Q))) (fun k => Q (.inr k) s19 f20)))) ∧ (¬ v18 = 32 → (EvC l E w d MX2_look [.ref (w.1 2), .int (s16.1 19)] s16 f17 (fun o s22 f23 => KP o (fun r => ∃ v24 : Int32, r = some (.int v24) ∧ ((v24 = 10 → (EvC l E w d MX2_look [.ref (w.1 2), .int (s22.1 19)] s22 f23 (fun o s25 f26 => KP o (fun r => ∃ v27 : Int32, r = some (.int v27) ∧ ((¬ v27 = 35 → ExC l E w (d + 1) MX2_next 0 [some (.ref (w.1 2)), none] [] (uI s25 19 ((s25.1 19) + 1)) f26 Q) ∧ (v27 = 35 → ExC l E w (d + 1) MX2_next 63 [some (.ref (w.1 2)), none] [] s25 f26 Q))) (fun k => Q (.inr k) s25 f26)))) ∧ (¬ v24 = 10 → (EvC l E w d MX2_look [.ref (w.1 2), .int (s22.1 19)] s22 f23 (fun o s28 f29 => KP o (fun r => ∃ v30 : Int32, r = some (.int v30) ∧ ((¬ v30 = 35 → (EvC l E w d MX2_look [.ref (w.1 2), .int (s28.1 19)] (uI s28 21 (s28.1 19)) f29 (fun o s31 f32 => KP o (fun r => ∃ v33 : Int32, r = some (.int v33) ∧ (((s31.1 19) < (s31.1 18) → (EvC l E w d MX2_isLetter [.int v33] s31 f32 (fun o s34 f35 => KP o (fun r => ∃ v36 : Int32, r = some (.int v36) ∧ ((v36 = 0 → (EvC l E w d MX2_isDigit [.int v33] s34 f35 (fun o s37 f38 => KP o (fun r => ∃ v39 : Int32, r = some (.int v39) ∧ ((v39 = 0 → (EvC l E w d MX2_sign [.ref (w.1 2), .int v33] s37 f38 (fun o s40 f41 => KP o (fun r => r = none ∧ Q (.inl none) s40 f41) (fun k => Q (.inr k) s40 f41)))) ∧ (¬ v39 = 0 → (EvC l E w d MX2_number [.ref (w.1 2)] s37 f38 (fun o s42 f43 => KP o (fun r => r = none ∧ Q (.inl none) s42 f43) (fun k => Q (.inr k) s42 f43)))))) (fun k => Q (.inr k) s37 f38)))) ∧ (¬ v36 = 0 → (EvC l E w d MX2_word [.ref (w.1 2)] s34 f35 (fun o s44 f45 => KP o (fun r => r = none ∧ Q (.inl none) s44 f45) (fun k => Q (.inr k) s44 f45)))))) (fun k => Q (.inr k) s34 f35)))) ∧ (¬ (s31.1 19) < (s31.1 18) → Q (.inl none) (uI s31 20 0) f32))) (fun k => Q (.inr k) s31 f32)))) ∧ (v30 = 35 → (EvC l E w d MX2_look [.ref (w.1 2), .int (s28.1 19)] s28 f29 (fun o s46 f47 => KP o (fun r => ∃ v48 : Int32, r = some (.int v48) ∧ ((¬ v48 = 35 → ExC l E w (d + 1) MX2_next 0 [some (.ref (w.1 2)), none] [] (uI s46 19 ((s46.1 19) + 1)) f47 Q) ∧ (v48 = 35 → ExC l E w (d + 1) MX2_next 63 [some (.ref (w.1 2)), none] [] s46 f47 Q))) (fun k => Q (.inr k) s46 f47)))))) (fun k => Q (.inr k) s28 f29)))))) (fun k => Q (.inr k) s22 f23)))))) (fun k => Q (.inr k) s16 f17)))))) : ExC l E w (d + 1) MX2_next 0 [some (.ref (w.1 2)), none] [] s f Q := by
  intro f0 h hW hF
  refine x_aload_n dX2_next_0 rfl rfl rfl ?_
  refine c_getI (v := (s.1 19)) dX2_next_1 f_TallySlate_Scanner_37 (by decide) (by decide) rfl hW rfl ?_
  refine x_aload_n dX2_next_4 rfl rfl rfl ?_
  refine c_getI (v := (s.1 18)) dX2_next_5 f_TallySlate_Scanner_34 (by decide) (by decide) rfl hW rfl ?_
  refine x_icmp_ge (tgt := 113) dX2_next_8 rfl (fun c => ?_) (fun c => ?_)
  · replace hT := hT.1 c
    refine x_aload_n dX2_next_113 rfl rfl rfl ?_
    refine x_aload_n dX2_next_114 rfl rfl rfl ?_
    refine c_getI (v := (s.1 19)) dX2_next_115 f_TallySlate_Scanner_37 (by decide) (by decide) rfl hW rfl ?_
    refine c_putI dX2_next_118 f_TallySlate_Scanner_47 (by decide) (by decide) rfl rfl rfl rfl hW ?_
    intro h hW
    refine x_aload_n dX2_next_121 rfl rfl rfl ?_
    refine x_aload_n dX2_next_122 rfl rfl rfl ?_
    refine c_getI (v := (s.1 19)) dX2_next_123 f_TallySlate_Scanner_37 (by decide) (by decide) rfl hW rfl ?_
    obtain ⟨-, -, cc, hcc, -⟩ := hW.ob 2 (by decide)
    refine c_invV (vs := [.int (s.1 19)]) dX2_next_126 oX2_look q615 q613 hcc qs2 (Or.inl rfl) rfl rfl (Nat.le_of_ble_eq_true rfl) rfl hW hF hT ?_ ?_
    · intro _ s1 f2 hT h hW hF
      obtain ⟨v3, rfl, hT⟩ := hT
      refine x_istore_n (lo' := [some (.ref (w.1 2)), some (.int v3)]) dX2_next_129 rfl (Nat.le_of_ble_eq_true rfl) rfl ?_
      refine x_aload_n dX2_next_130 rfl rfl rfl ?_
      refine c_getI (v := (s1.1 19)) dX2_next_131 f_TallySlate_Scanner_37 (by decide) (by decide) rfl hW rfl ?_
      refine x_aload_n dX2_next_134 rfl rfl rfl ?_
      refine c_getI (v := (s1.1 18)) dX2_next_135 f_TallySlate_Scanner_34 (by decide) (by decide) rfl hW rfl ?_
      refine x_icmp_lt (tgt := 149) dX2_next_138 rfl (fun c => ?_) (fun c => ?_)
      · replace hT := hT.1 c
        refine x_iload_n dX2_next_149 rfl rfl ?_
        refine c_invS (vs := [.int v3]) dX2_next_150 oX2_isLetter q618 (Or.inl q617) rfl rfl (Nat.le_of_ble_eq_true rfl) rfl hW hF hT ?_ ?_
        · intro _ s4 f5 hT h hW hF
          obtain ⟨v6, rfl, hT⟩ := hT
          refine x_if_eq (tgt := 163) dX2_next_153 rfl (fun c => ?_) (fun c => ?_)
          · replace hT := hT.1 c
            refine x_iload_n dX2_next_163 rfl rfl ?_
            refine c_invS (vs := [.int v3]) dX2_next_164 oX2_isDigit q626 (Or.inl q625) rfl rfl (Nat.le_of_ble_eq_true rfl) rfl hW hF hT ?_ ?_
            · intro _ s7 f8 hT h hW hF
              obtain ⟨v9, rfl, hT⟩ := hT
              refine x_if_eq (tgt := 177) dX2_next_167 rfl (fun c => ?_) (fun c => ?_)
              · replace hT := hT.1 c
                refine x_aload_n dX2_next_177 rfl rfl rfl ?_
                refine x_iload_n dX2_next_178 rfl rfl ?_
                obtain ⟨-, -, cc, hcc, -⟩ := hW.ob 2 (by decide)
                refine c_invV (vs := [.int v3]) dX2_next_179 oX2_sign q637 q635 hcc qs5 (Or.inl rfl) rfl rfl (Nat.le_of_ble_eq_true rfl) rfl hW hF hT ?_ ?_
                · intro _ s10 f11 hT h hW hF
                  obtain ⟨rfl, hT⟩ := hT
                  exact x_vret dX2_next_182 rfl ⟨_, _, hW, hF, Or.inl ⟨_, rfl, hT⟩⟩
                · intro k s10 f11 hT h a hW hx hF
                  exact c_out (rfl) hW hx hF hT
              · replace hT := hT.2 c
                refine x_aload_n dX2_next_170 rfl rfl rfl ?_
                obtain ⟨-, -, cc, hcc, -⟩ := hW.ob 2 (by decide)
                refine c_invV (vs := []) dX2_next_171 oX2_number q630 q628 hcc qs4 (Or.inl rfl) rfl rfl (Nat.le_of_ble_eq_true rfl) rfl hW hF hT ?_ ?_
                · intro _ s12 f13 hT h hW hF
                  obtain ⟨rfl, hT⟩ := hT
                  refine x_goto (tgt := 182) dX2_next_174 rfl ?_
                  exact x_vret dX2_next_182 rfl ⟨_, _, hW, hF, Or.inl ⟨_, rfl, hT⟩⟩
                · intro k s12 f13 hT h a hW hx hF
                  exact c_out (rfl) hW hx hF hT
            · intro k s7 f8 hT h a hW hx hF
              exact c_out (rfl) hW hx hF hT
          · replace hT := hT.2 c
            refine x_aload_n dX2_next_156 rfl rfl rfl ?_
            obtain ⟨-, -, cc, hcc, -⟩ := hW.ob 2 (by decide)
            refine c_invV (vs := []) dX2_next_157 oX2_word q622 q620 hcc qs3 (Or.inl rfl) rfl rfl (Nat.le_of_ble_eq_true rfl) rfl hW hF hT ?_ ?_
            · intro _ s14 f15 hT h hW hF
              obtain ⟨rfl, hT⟩ := hT
              refine x_goto (tgt := 182) dX2_next_160 rfl ?_
              exact x_vret dX2_next_182 rfl ⟨_, _, hW, hF, Or.inl ⟨_, rfl, hT⟩⟩
            · intro k s14 f15 hT h a hW hx hF
              exact c_out (rfl) hW hx hF hT
        · intro k s4 f5 hT h a hW hx hF
          exact c_out (rfl) hW hx hF hT
      · replace hT := hT.2 c
        refine x_aload_n dX2_next_141 rfl rfl rfl ?_
        refine x_iconst (v := 0) dX2_next_142 rfl ?_
        refine c_putI dX2_next_143 f_TallySlate_Scanner_48 (by decide) (by decide) rfl rfl rfl rfl hW ?_
        intro h hW
        refine x_goto (tgt := 182) dX2_next_146 rfl ?_
        exact x_vret dX2_next_182 rfl ⟨_, _, hW, hF, Or.inl ⟨_, rfl, hT⟩⟩
    · intro k s1 f2 hT h a hW hx hF
      exact c_out (rfl) hW hx hF hT
  · replace hT := hT.2 c
    refine x_aload_n dX2_next_11 rfl rfl rfl ?_
    refine x_aload_n dX2_next_12 rfl rfl rfl ?_
    refine c_getI (v := (s.1 19)) dX2_next_13 f_TallySlate_Scanner_37 (by decide) (by decide) rfl hW rfl ?_
    obtain ⟨-, -, cc, hcc, -⟩ := hW.ob 2 (by decide)
    refine c_invV (vs := [.int (s.1 19)]) dX2_next_16 oX2_look q615 q613 hcc qs2 (Or.inl rfl) rfl rfl (Nat.le_of_ble_eq_true rfl) rfl hW hF hT ?_ ?_
    · intro _ s16 f17 hT h hW hF
      obtain ⟨v18, rfl, hT⟩ := hT
      refine x_bipush (v := 32) dX2_next_19 rfl ?_
      refine x_icmp_eq (tgt := 50) dX2_next_21 rfl (fun c => ?_) (fun c => ?_)
      · replace hT := hT.1 c
        refine x_aload_n dX2_next_50 rfl rfl rfl ?_
        refine x_aload_n dX2_next_51 rfl rfl rfl ?_
        refine c_getI (v := (s16.1 19)) dX2_next_52 f_TallySlate_Scanner_37 (by decide) (by decide) rfl hW rfl ?_
        obtain ⟨-, -, cc, hcc, -⟩ := hW.ob 2 (by decide)
        refine c_invV (vs := [.int (s16.1 19)]) dX2_next_55 oX2_look q615 q613 hcc qs2 (Or.inl rfl) rfl rfl (Nat.le_of_ble_eq_true rfl) rfl hW hF hT ?_ ?_
        · intro _ s19 f20 hT h hW hF
          obtain ⟨v21, rfl, hT⟩ := hT
          refine x_bipush (v := 35) dX2_next_58 rfl ?_
          refine x_icmp_ne (tgt := 100) dX2_next_60 rfl (fun c => ?_) (fun c => ?_)
          · replace hT := hT.1 c
            refine x_aload_n dX2_next_100 rfl rfl rfl ?_
            refine x_dup dX2_next_101 rfl ?_
            refine c_getI (v := (s19.1 19)) dX2_next_102 f_TallySlate_Scanner_37 (by decide) (by decide) rfl hW rfl ?_
            refine x_iconst (v := 1) dX2_next_105 rfl ?_
            refine x_iadd dX2_next_106 ?_
            refine c_putI dX2_next_107 f_TallySlate_Scanner_37 (by decide) (by decide) rfl rfl rfl rfl hW ?_
            intro h hW
            refine x_goto (tgt := 0) dX2_next_110 rfl ?_
            exact hT f0 h hW hF
          · replace hT := hT.2 c
            exact hT f0 h hW hF
        · intro k s19 f20 hT h a hW hx hF
          exact c_out (rfl) hW hx hF hT
      · replace hT := hT.2 c
        refine x_aload_n dX2_next_24 rfl rfl rfl ?_
        refine x_aload_n dX2_next_25 rfl rfl rfl ?_
        refine c_getI (v := (s16.1 19)) dX2_next_26 f_TallySlate_Scanner_37 (by decide) (by decide) rfl hW rfl ?_
        obtain ⟨-, -, cc, hcc, -⟩ := hW.ob 2 (by decide)
        refine c_invV (vs := [.int (s16.1 19)]) dX2_next_29 oX2_look q615 q613 hcc qs2 (Or.inl rfl) rfl rfl (Nat.le_of_ble_eq_true rfl) rfl hW hF hT ?_ ?_
        · intro _ s22 f23 hT h hW hF
          obtain ⟨v24, rfl, hT⟩ := hT
          refine x_bipush (v := 10) dX2_next_32 rfl ?_
          refine x_icmp_eq (tgt := 50) dX2_next_34 rfl (fun c => ?_) (fun c => ?_)
          · replace hT := hT.1 c
            refine x_aload_n dX2_next_50 rfl rfl rfl ?_
            refine x_aload_n dX2_next_51 rfl rfl rfl ?_
            refine c_getI (v := (s22.1 19)) dX2_next_52 f_TallySlate_Scanner_37 (by decide) (by decide) rfl hW rfl ?_
            obtain ⟨-, -, cc, hcc, -⟩ := hW.ob 2 (by decide)
            refine c_invV (vs := [.int (s22.1 19)]) dX2_next_55 oX2_look q615 q613 hcc qs2 (Or.inl rfl) rfl rfl (Nat.le_of_ble_eq_true rfl) rfl hW hF hT ?_ ?_
            · intro _ s25 f26 hT h hW hF
              obtain ⟨v27, rfl, hT⟩ := hT
              refine x_bipush (v := 35) dX2_next_58 rfl ?_
              refine x_icmp_ne (tgt := 100) dX2_next_60 rfl (fun c => ?_) (fun c => ?_)
              · replace hT := hT.1 c
                refine x_aload_n dX2_next_100 rfl rfl rfl ?_
                refine x_dup dX2_next_101 rfl ?_
                refine c_getI (v := (s25.1 19)) dX2_next_102 f_TallySlate_Scanner_37 (by decide) (by decide) rfl hW rfl ?_
                refine x_iconst (v := 1) dX2_next_105 rfl ?_
                refine x_iadd dX2_next_106 ?_
                refine c_putI dX2_next_107 f_TallySlate_Scanner_37 (by decide) (by decide) rfl rfl rfl rfl hW ?_
                intro h hW
                refine x_goto (tgt := 0) dX2_next_110 rfl ?_
                exact hT f0 h hW hF
              · replace hT := hT.2 c
                exact hT f0 h hW hF
            · intro k s25 f26 hT h a hW hx hF
              exact c_out (rfl) hW hx hF hT
          · replace hT := hT.2 c
            refine x_aload_n dX2_next_37 rfl rfl rfl ?_
            refine x_aload_n dX2_next_38 rfl rfl rfl ?_
            refine c_getI (v := (s22.1 19)) dX2_next_39 f_TallySlate_Scanner_37 (by decide) (by decide) rfl hW rfl ?_
            obtain ⟨-, -, cc, hcc, -⟩ := hW.ob 2 (by decide)
            refine c_invV (vs := [.int (s22.1 19)]) dX2_next_42 oX2_look q615 q613 hcc qs2 (Or.inl rfl) rfl rfl (Nat.le_of_ble_eq_true rfl) rfl hW hF hT ?_ ?_
            · intro _ s28 f29 hT h hW hF
              obtain ⟨v30, rfl, hT⟩ := hT
              refine x_bipush (v := 35) dX2_next_45 rfl ?_
              refine x_icmp_ne (tgt := 113) dX2_next_47 rfl (fun c => ?_) (fun c => ?_)
              · replace hT := hT.1 c
                refine x_aload_n dX2_next_113 rfl rfl rfl ?_
                refine x_aload_n dX2_next_114 rfl rfl rfl ?_
                refine c_getI (v := (s28.1 19)) dX2_next_115 f_TallySlate_Scanner_37 (by decide) (by decide) rfl hW rfl ?_
                refine c_putI dX2_next_118 f_TallySlate_Scanner_47 (by decide) (by decide) rfl rfl rfl rfl hW ?_
                intro h hW
                refine x_aload_n dX2_next_121 rfl rfl rfl ?_
                refine x_aload_n dX2_next_122 rfl rfl rfl ?_
                refine c_getI (v := (s28.1 19)) dX2_next_123 f_TallySlate_Scanner_37 (by decide) (by decide) rfl hW rfl ?_
                obtain ⟨-, -, cc, hcc, -⟩ := hW.ob 2 (by decide)
                refine c_invV (vs := [.int (s28.1 19)]) dX2_next_126 oX2_look q615 q613 hcc qs2 (Or.inl rfl) rfl rfl (Nat.le_of_ble_eq_true rfl) rfl hW hF hT ?_ ?_
                · intro _ s31 f32 hT h hW hF
                  obtain ⟨v33, rfl, hT⟩ := hT
                  refine x_istore_n (lo' := [some (.ref (w.1 2)), some (.int v33)]) dX2_next_129 rfl (Nat.le_of_ble_eq_true rfl) rfl ?_
                  refine x_aload_n dX2_next_130 rfl rfl rfl ?_
                  refine c_getI (v := (s31.1 19)) dX2_next_131 f_TallySlate_Scanner_37 (by decide) (by decide) rfl hW rfl ?_
                  refine x_aload_n dX2_next_134 rfl rfl rfl ?_
                  refine c_getI (v := (s31.1 18)) dX2_next_135 f_TallySlate_Scanner_34 (by decide) (by decide) rfl hW rfl ?_
                  refine x_icmp_lt (tgt := 149) dX2_next_138 rfl (fun c => ?_) (fun c => ?_)
                  · replace hT := hT.1 c
                    refine x_iload_n dX2_next_149 rfl rfl ?_
                    refine c_invS (vs := [.int v33]) dX2_next_150 oX2_isLetter q618 (Or.inl q617) rfl rfl (Nat.le_of_ble_eq_true rfl) rfl hW hF hT ?_ ?_
                    · intro _ s34 f35 hT h hW hF
                      obtain ⟨v36, rfl, hT⟩ := hT
                      refine x_if_eq (tgt := 163) dX2_next_153 rfl (fun c => ?_) (fun c => ?_)
                      · replace hT := hT.1 c
                        refine x_iload_n dX2_next_163 rfl rfl ?_
                        refine c_invS (vs := [.int v33]) dX2_next_164 oX2_isDigit q626 (Or.inl q625) rfl rfl (Nat.le_of_ble_eq_true rfl) rfl hW hF hT ?_ ?_
                        · intro _ s37 f38 hT h hW hF
                          obtain ⟨v39, rfl, hT⟩ := hT
                          refine x_if_eq (tgt := 177) dX2_next_167 rfl (fun c => ?_) (fun c => ?_)
                          · replace hT := hT.1 c
                            refine x_aload_n dX2_next_177 rfl rfl rfl ?_
                            refine x_iload_n dX2_next_178 rfl rfl ?_
                            obtain ⟨-, -, cc, hcc, -⟩ := hW.ob 2 (by decide)
                            refine c_invV (vs := [.int v33]) dX2_next_179 oX2_sign q637 q635 hcc qs5 (Or.inl rfl) rfl rfl (Nat.le_of_ble_eq_true rfl) rfl hW hF hT ?_ ?_
                            · intro _ s40 f41 hT h hW hF
                              obtain ⟨rfl, hT⟩ := hT
                              exact x_vret dX2_next_182 rfl ⟨_, _, hW, hF, Or.inl ⟨_, rfl, hT⟩⟩
                            · intro k s40 f41 hT h a hW hx hF
                              exact c_out (rfl) hW hx hF hT
                          · replace hT := hT.2 c
                            refine x_aload_n dX2_next_170 rfl rfl rfl ?_
                            obtain ⟨-, -, cc, hcc, -⟩ := hW.ob 2 (by decide)
                            refine c_invV (vs := []) dX2_next_171 oX2_number q630 q628 hcc qs4 (Or.inl rfl) rfl rfl (Nat.le_of_ble_eq_true rfl) rfl hW hF hT ?_ ?_
                            · intro _ s42 f43 hT h hW hF
                              obtain ⟨rfl, hT⟩ := hT
                              refine x_goto (tgt := 182) dX2_next_174 rfl ?_
                              exact x_vret dX2_next_182 rfl ⟨_, _, hW, hF, Or.inl ⟨_, rfl, hT⟩⟩
                            · intro k s42 f43 hT h a hW hx hF
                              exact c_out (rfl) hW hx hF hT
                        · intro k s37 f38 hT h a hW hx hF
                          exact c_out (rfl) hW hx hF hT
                      · replace hT := hT.2 c
                        refine x_aload_n dX2_next_156 rfl rfl rfl ?_
                        obtain ⟨-, -, cc, hcc, -⟩ := hW.ob 2 (by decide)
                        refine c_invV (vs := []) dX2_next_157 oX2_word q622 q620 hcc qs3 (Or.inl rfl) rfl rfl (Nat.le_of_ble_eq_true rfl) rfl hW hF hT ?_ ?_
                        · intro _ s44 f45 hT h hW hF
                          obtain ⟨rfl, hT⟩ := hT
                          refine x_goto (tgt := 182) dX2_next_160 rfl ?_
                          exact x_vret dX2_next_182 rfl ⟨_, _, hW, hF, Or.inl ⟨_, rfl, hT⟩⟩
                        · intro k s44 f45 hT h a hW hx hF
                          exact c_out (rfl) hW hx hF hT
                    · intro k s34 f35 hT h a hW hx hF
                      exact c_out (rfl) hW hx hF hT
                  · replace hT := hT.2 c
                    refine x_aload_n dX2_next_141 rfl rfl rfl ?_
                    refine x_iconst (v := 0) dX2_next_142 rfl ?_
                    refine c_putI dX2_next_143 f_TallySlate_Scanner_48 (by decide) (by decide) rfl rfl rfl rfl hW ?_
                    intro h hW
                    refine x_goto (tgt := 182) dX2_next_146 rfl ?_
                    exact x_vret dX2_next_182 rfl ⟨_, _, hW, hF, Or.inl ⟨_, rfl, hT⟩⟩
                · intro k s31 f32 hT h a hW hx hF
                  exact c_out (rfl) hW hx hF hT
              · replace hT := hT.2 c
                refine x_aload_n dX2_next_50 rfl rfl rfl ?_
                refine x_aload_n dX2_next_51 rfl rfl rfl ?_
                refine c_getI (v := (s28.1 19)) dX2_next_52 f_TallySlate_Scanner_37 (by decide) (by decide) rfl hW rfl ?_
                obtain ⟨-, -, cc, hcc, -⟩ := hW.ob 2 (by decide)
                refine c_invV (vs := [.int (s28.1 19)]) dX2_next_55 oX2_look q615 q613 hcc qs2 (Or.inl rfl) rfl rfl (Nat.le_of_ble_eq_true rfl) rfl hW hF hT ?_ ?_
                · intro _ s46 f47 hT h hW hF
                  obtain ⟨v48, rfl, hT⟩ := hT
                  refine x_bipush (v := 35) dX2_next_58 rfl ?_
                  refine x_icmp_ne (tgt := 100) dX2_next_60 rfl (fun c => ?_) (fun c => ?_)
                  · replace hT := hT.1 c
                    refine x_aload_n dX2_next_100 rfl rfl rfl ?_
                    refine x_dup dX2_next_101 rfl ?_
                    refine c_getI (v := (s46.1 19)) dX2_next_102 f_TallySlate_Scanner_37 (by decide) (by decide) rfl hW rfl ?_
                    refine x_iconst (v := 1) dX2_next_105 rfl ?_
                    refine x_iadd dX2_next_106 ?_
                    refine c_putI dX2_next_107 f_TallySlate_Scanner_37 (by decide) (by decide) rfl rfl rfl rfl hW ?_
                    intro h hW
                    refine x_goto (tgt := 0) dX2_next_110 rfl ?_
                    exact hT f0 h hW hF
                  · replace hT := hT.2 c
                    exact hT f0 h hW hF
                · intro k s46 f47 hT h a hW hx hF
                  exact c_out (rfl) hW hx hF hT
            · intro k s28 f29 hT h a hW hx hF
              exact c_out (rfl) hW hx hF hT
        · intro k s22 f23 hT h a hW hx hF
          exact c_out (rfl) hW hx hF hT
    · intro k s16 f17 hT h a hW hx hF
      exact c_out (rfl) hW hx hF hT
theorem eX2_next {l : Launch} {E : EN} {w : CO} {d : Nat} {s : CS} {f : RH} {Q : KO → CS → RH → Prop}   (hst : l.stackTraces = false) (hT : (((s.1 18) ≤ (s.1 19) → (EvC l E w d MX2_look [.ref (w.1 2), .int (s.1 19)] (uI s 21 (s.1 19)) f (fun o s1 f2 => KP o (fun r => ∃ v3 : Int32, r = some (.int v3) ∧ (((s1.1 19) < (s1.1 18) → (EvC l E w d MX2_isLetter [.int v3] s1 f2 (fun o s4 f5 => KP o (fun r => ∃ v6 : Int32, r = some (.int v6) ∧ ((v6 = 0 → (EvC l E w d MX2_isDigit [.int v3] s4 f5 (fun o s7 f8 => KP o (fun r => ∃ v9 : Int32, r = some (.int v9) ∧ ((v9 = 0 → (EvC l E w d MX2_sign [.ref (w.1 2), .int v3] s7 f8 (fun o s10 f11 => KP o (fun r => r = none ∧ Q (.inl none) s10 f11) (fun k => Q (.inr k) s10 f11)))) ∧ (¬ v9 = 0 → (EvC l E w d MX2_number [.ref (w.1 2)] s7 f8 (fun o s12 f13 => KP o (fun r => r = none ∧ Q (.inl none) s12 f13) (fun k => Q (.inr k) s12 f13)))))) (fun k => Q (.inr k) s7 f8)))) ∧ (¬ v6 = 0 → (EvC l E w d MX2_word [.ref (w.1 2)] s4 f5 (fun o s14 f15 => KP o (fun r => r = none ∧ Q (.inl none) s14 f15) (fun k => Q (.inr k) s14 f15)))))) (fun k => Q (.inr k) s4 f5)))) ∧ (¬ (s1.1 19) < (s1.1 18) → Q (.inl none) (uI s1 20 0) f2))) (fun k => Q (.inr k) s1 f2)))) ∧ (¬ (s.1 18) ≤ (s.1 19) → (EvC l E w d MX2_look [.ref (w.1 2), .int (s.1 19)] s f (fun o s16 f17 => KP o (fun r => ∃ v18 : Int32, r = some (.int v18) ∧ ((v18 = 32 → (EvC l E w d MX2_look [.ref (w.1 2), .int (s16.1 19)] s16 f17 (fun o s19 f20 => KP o (fun r => ∃ v21 : Int32, r = some (.int v21) ∧ ((¬ v21 = 35 → ExC l E w (d + 1) MX2_next 0 [some (.ref (w.1 2)), none] [] (uI s19 19 ((s19.1 19) + 1)) f20 Q) ∧ (v21 = 35 → ExC l E w (d + 1) MX2_next 63 [some (.ref (w.1 2)), none] [] s19 f20 Q))) (fun k => Q (.inr k) s19 f20)))) ∧ (¬ v18 = 32 → (EvC l E w d MX2_look [.ref (w.1 2), .int (s16.1 19)] s16 f17 (fun o s22 f23 => KP o (fun r => ∃ v24 : Int32, r = some (.int v24) ∧ ((v24 = 10 → (EvC l E w d MX2_look [.ref (w.1 2), .int (s22.1 19)] s22 f23 (fun o s25 f26 => KP o (fun r => ∃ v27 : Int32, r = some (.int v27) ∧ ((¬ v27 = 35 → ExC l E w (d + 1) MX2_next 0 [some (.ref (w.1 2)), none] [] (uI s25 19 ((s25.1 19) + 1)) f26 Q) ∧ (v27 = 35 → ExC l E w (d + 1) MX2_next 63 [some (.ref (w.1 2)), none] [] s25 f26 Q))) (fun k => Q (.inr k) s25 f26)))) ∧ (¬ v24 = 10 → (EvC l E w d MX2_look [.ref (w.1 2), .int (s22.1 19)] s22 f23 (fun o s28 f29 => KP o (fun r => ∃ v30 : Int32, r = some (.int v30) ∧ ((¬ v30 = 35 → (EvC l E w d MX2_look [.ref (w.1 2), .int (s28.1 19)] (uI s28 21 (s28.1 19)) f29 (fun o s31 f32 => KP o (fun r => ∃ v33 : Int32, r = some (.int v33) ∧ (((s31.1 19) < (s31.1 18) → (EvC l E w d MX2_isLetter [.int v33] s31 f32 (fun o s34 f35 => KP o (fun r => ∃ v36 : Int32, r = some (.int v36) ∧ ((v36 = 0 → (EvC l E w d MX2_isDigit [.int v33] s34 f35 (fun o s37 f38 => KP o (fun r => ∃ v39 : Int32, r = some (.int v39) ∧ ((v39 = 0 → (EvC l E w d MX2_sign [.ref (w.1 2), .int v33] s37 f38 (fun o s40 f41 => KP o (fun r => r = none ∧ Q (.inl none) s40 f41) (fun k => Q (.inr k) s40 f41)))) ∧ (¬ v39 = 0 → (EvC l E w d MX2_number [.ref (w.1 2)] s37 f38 (fun o s42 f43 => KP o (fun r => r = none ∧ Q (.inl none) s42 f43) (fun k => Q (.inr k) s42 f43)))))) (fun k => Q (.inr k) s37 f38)))) ∧ (¬ v36 = 0 → (EvC l E w d MX2_word [.ref (w.1 2)] s34 f35 (fun o s44 f45 => KP o (fun r => r = none ∧ Q (.inl none) s44 f45) (fun k => Q (.inr k) s44 f45)))))) (fun k => Q (.inr k) s34 f35)))) ∧ (¬ (s31.1 19) < (s31.1 18) → Q (.inl none) (uI s31 20 0) f32))) (fun k => Q (.inr k) s31 f32)))) ∧ (v30 = 35 → (EvC l E w d MX2_look [.ref (w.1 2), .int (s28.1 19)] s28 f29 (fun o s46 f47 => KP o (fun r => ∃ v48 : Int32, r = some (.int v48) ∧ ((¬ v48 = 35 → ExC l E w (d + 1) MX2_next 0 [some (.ref (w.1 2)), none] [] (uI s46 19 ((s46.1 19) + 1)) f47 Q) ∧ (v48 = 35 → ExC l E w (d + 1) MX2_next 63 [some (.ref (w.1 2)), none] [] s46 f47 Q))) (fun k => Q (.inr k) s46 f47)))))) (fun k => Q (.inr k) s28 f29)))))) (fun k => Q (.inr k) s22 f23)))))) (fun k => Q (.inr k) s16 f17)))))) : EvC l E w (d + 1) MX2_next [.ref (w.1 2)] s f Q :=
  EvC.of hst (by decide) (Nat.le_of_ble_eq_true rfl) (vX2_next_0  hT)
theorem vX2_next_63 {l : Launch} {E : EN} {w : CO} {d : Nat} {s : CS} {f : RH} {Q : KO → CS → RH → Prop}   (hT : (((s.1 18) ≤ (s.1 19) → ExC l E w (d + 1) MX2_next 0 [some (.ref (w.1 2)), none] [] s f Q) ∧ (¬ (s.1 18) ≤ (s.1 19) → (EvC l E w d MX2_look [.ref (w.1 2), .int (s.1 19)] s f (fun o s49 f50 => KP o (fun r => ∃ v51 : Int32, r = some (.int v51) ∧ ((v51 = 10 → ExC l E w (d + 1) MX2_next 0 [some (.ref (w.1 2)), none] [] s49 f50 Q) ∧ (¬ v51 = 10 → ExC l E w (d + 1) MX2_next 63 [some (.ref (w.1 2)), none] [] (uI s49 19 ((s49.1 19) + 1)) f50 Q))) (fun k => Q (.inr k) s49 f50)))))) : ExC l E w (d + 1) MX2_next 63 [some (.ref (w.1 2)), none] [] s f Q := by
  intro f0 h hW hF
  refine x_aload_n dX2_next_63 rfl rfl rfl ?_
  refine c_getI (v := (s.1 19)) dX2_next_64 f_TallySlate_Scanner_37 (by decide) (by decide) rfl hW rfl ?_
  refine x_aload_n dX2_next_67 rfl rfl rfl ?_
  refine c_getI (v := (s.1 18)) dX2_next_68 f_TallySlate_Scanner_34 (by decide) (by decide) rfl hW rfl ?_
  refine x_icmp_ge (tgt := 0) dX2_next_71 rfl (fun c => ?_) (fun c => ?_)
  · replace hT := hT.1 c
    exact hT f0 h hW hF
  · replace hT := hT.2 c
    refine x_aload_n dX2_next_74 rfl rfl rfl ?_
    refine x_aload_n dX2_next_75 rfl rfl rfl ?_
    refine c_getI (v := (s.1 19)) dX2_next_76 f_TallySlate_Scanner_37 (by decide) (by decide) rfl hW rfl ?_
    obtain ⟨-, -, cc, hcc, -⟩ := hW.ob 2 (by decide)
    refine c_invV (vs := [.int (s.1 19)]) dX2_next_79 oX2_look q615 q613 hcc qs2 (Or.inl rfl) rfl rfl (Nat.le_of_ble_eq_true rfl) rfl hW hF hT ?_ ?_
    · intro _ s49 f50 hT h hW hF
      obtain ⟨v51, rfl, hT⟩ := hT
      refine x_bipush (v := 10) dX2_next_82 rfl ?_
      refine x_icmp_eq (tgt := 0) dX2_next_84 rfl (fun c => ?_) (fun c => ?_)
      · replace hT := hT.1 c
        exact hT f0 h hW hF
      · replace hT := hT.2 c
        refine x_aload_n dX2_next_87 rfl rfl rfl ?_
        refine x_dup dX2_next_88 rfl ?_
        refine c_getI (v := (s49.1 19)) dX2_next_89 f_TallySlate_Scanner_37 (by decide) (by decide) rfl hW rfl ?_
        refine x_iconst (v := 1) dX2_next_92 rfl ?_
        refine x_iadd dX2_next_93 ?_
        refine c_putI dX2_next_94 f_TallySlate_Scanner_37 (by decide) (by decide) rfl rfl rfl rfl hW ?_
        intro h hW
        refine x_goto (tgt := 63) dX2_next_97 rfl ?_
        exact hT f0 h hW hF
    · intro k s49 f50 hT h a hW hx hF
      exact c_out (rfl) hW hx hF hT
theorem vX2_look_0 {l : Launch} {E : EN} {w : CO} {d : Nat} {s : CS} {f : RH} {Q : KO → CS → RH → Prop} {x1 : Int32}  (hT : (((s.1 18) ≤ x1 → Q (.inl (some (.int 0))) s f) ∧ (¬ (s.1 18) ≤ x1 → (inB x1 1600 ∧ Q (.inl (some (.int (s.2.2.1 17 x1.toNatClampNeg)))) s f)))) : ExC l E w d MX2_look 0 [some (.ref (w.1 2)), some (.int x1)] [] s f Q := by
  intro f0 h hW hF
  refine x_iload_n dX2_look_0 rfl rfl ?_
  refine x_aload_n dX2_look_1 rfl rfl rfl ?_
  refine c_getI (v := (s.1 18)) dX2_look_2 f_TallySlate_Scanner_34 (by decide) (by decide) rfl hW rfl ?_
  refine x_icmp_ge (tgt := 17) dX2_look_5 rfl (fun c => ?_) (fun c => ?_)
  · replace hT := hT.1 c
    refine x_iconst (v := 0) dX2_look_17 rfl ?_
    exact x_iret dX2_look_18 rfl rfl ⟨_, _, hW, hF, Or.inl ⟨_, rfl, hT⟩⟩
  · replace hT := hT.2 c
    refine x_aload_n dX2_look_8 rfl rfl rfl ?_
    refine c_getA dX2_look_9 f_TallySlate_Scanner_9 (by decide) (by decide) rfl hW ?_
    refine x_iload_n dX2_look_12 rfl rfl ?_
    obtain ⟨hb, hT⟩ := hT
    refine c_bald (v := (s.2.2.1 17 x1.toNatClampNeg)) dX2_look_13 rfl (by decide) hb hW rfl ?_
    refine x_goto (tgt := 18) dX2_look_14 rfl ?_
    exact x_iret dX2_look_18 rfl rfl ⟨_, _, hW, hF, Or.inl ⟨_, rfl, hT⟩⟩
theorem eX2_look {l : Launch} {E : EN} {w : CO} {d : Nat} {s : CS} {f : RH} {Q : KO → CS → RH → Prop} {x1 : Int32}  (hst : l.stackTraces = false) (hT : (((s.1 18) ≤ x1 → Q (.inl (some (.int 0))) s f) ∧ (¬ (s.1 18) ≤ x1 → (inB x1 1600 ∧ Q (.inl (some (.int (s.2.2.1 17 x1.toNatClampNeg)))) s f)))) : EvC l E w d MX2_look [.ref (w.1 2), .int x1] s f Q :=
  EvC.of hst (by decide) (Nat.le_of_ble_eq_true rfl) (vX2_look_0  hT)
theorem vX2_isLetter_0 {l : Launch} {E : EN} {w : CO} {d : Nat} {s : CS} {f : RH} {Q : KO → CS → RH → Prop} {x1 : Int32}  (hT : ((x1 < 97 → Q (.inl (some (.int 0))) s f) ∧ (¬ x1 < 97 → ((122 < x1 → Q (.inl (some (.int 0))) s f) ∧ (¬ 122 < x1 → Q (.inl (some (.int 1))) s f))))) : ExC l E w d MX2_isLetter 0 [some (.int x1)] [] s f Q := by
  intro f0 h hW hF
  refine x_iload_n dX2_isLetter_0 rfl rfl ?_
  refine x_bipush (v := 97) dX2_isLetter_1 rfl ?_
  refine x_icmp_lt (tgt := 16) dX2_isLetter_3 rfl (fun c => ?_) (fun c => ?_)
  · replace hT := hT.1 c
    refine x_iconst (v := 0) dX2_isLetter_16 rfl ?_
    exact x_iret dX2_isLetter_17 rfl rfl ⟨_, _, hW, hF, Or.inl ⟨_, rfl, hT⟩⟩
  · replace hT := hT.2 c
    refine x_iload_n dX2_isLetter_6 rfl rfl ?_
    refine x_bipush (v := 122) dX2_isLetter_7 rfl ?_
    refine x_icmp_gt (tgt := 16) dX2_isLetter_9 rfl (fun c => ?_) (fun c => ?_)
    · replace hT := hT.1 c
      refine x_iconst (v := 0) dX2_isLetter_16 rfl ?_
      exact x_iret dX2_isLetter_17 rfl rfl ⟨_, _, hW, hF, Or.inl ⟨_, rfl, hT⟩⟩
    · replace hT := hT.2 c
      refine x_iconst (v := 1) dX2_isLetter_12 rfl ?_
      refine x_goto (tgt := 17) dX2_isLetter_13 rfl ?_
      exact x_iret dX2_isLetter_17 rfl rfl ⟨_, _, hW, hF, Or.inl ⟨_, rfl, hT⟩⟩
theorem eX2_isLetter {l : Launch} {E : EN} {w : CO} {d : Nat} {s : CS} {f : RH} {Q : KO → CS → RH → Prop} {x1 : Int32}  (hst : l.stackTraces = false) (hT : ((x1 < 97 → Q (.inl (some (.int 0))) s f) ∧ (¬ x1 < 97 → ((122 < x1 → Q (.inl (some (.int 0))) s f) ∧ (¬ 122 < x1 → Q (.inl (some (.int 1))) s f))))) : EvC l E w d MX2_isLetter [.int x1] s f Q :=
  EvC.of hst (by decide) (Nat.le_of_ble_eq_true rfl) (vX2_isLetter_0  hT)
theorem vX2_word_0 {l : Launch} {E : EN} {w : CO} {d : Nat} {s : CS} {f : RH} {Q : KO → CS → RH → Prop}   (hT : (EvC l E w d MX2_look [.ref (w.1 2), .int (s.1 19)] s f (fun o s1 f2 => KP o (fun r => ∃ v3 : Int32, r = some (.int v3) ∧ (EvC l E w d MX2_isLetter [.int v3] s1 f2 (fun o s4 f5 => KP o (fun r => ∃ v6 : Int32, r = some (.int v6) ∧ ((v6 = 0 → ((((s4.1 19) - (s4.1 21)) ≤ 8 → Q (.inl none) (uI s4 20 1) f5) ∧ (¬ ((s4.1 19) - (s4.1 21)) ≤ 8 → (EvC l E w d MX2_wrong [.ref (w.1 2), .int 1, .int (s4.1 21)] s4 f5 (fun o s7 f8 => KP o (fun r => r = some (.ref (w.1 1)) ∧ Q (.inr 1) s7 f8) (fun k => Q (.inr k) s7 f8)))))) ∧ (¬ v6 = 0 → ExC l E w (d + 1) MX2_word 0 [some (.ref (w.1 2))] [] (uI s4 19 ((s4.1 19) + 1)) f5 Q))) (fun k => Q (.inr k) s4 f5)))) (fun k => Q (.inr k) s1 f2)))) : ExC l E w (d + 1) MX2_word 0 [some (.ref (w.1 2))] [] s f Q := by
  intro f0 h hW hF
  refine x_aload_n dX2_word_0 rfl rfl rfl ?_
  refine x_aload_n dX2_word_1 rfl rfl rfl ?_
  refine c_getI (v := (s.1 19)) dX2_word_2 f_TallySlate_Scanner_37 (by decide) (by decide) rfl hW rfl ?_
  obtain ⟨-, -, cc, hcc, -⟩ := hW.ob 2 (by decide)
  refine c_invV (vs := [.int (s.1 19)]) dX2_word_5 oX2_look q615 q613 hcc qs2 (Or.inl rfl) rfl rfl (Nat.le_of_ble_eq_true rfl) rfl hW hF hT ?_ ?_
  · intro _ s1 f2 hT h hW hF
    obtain ⟨v3, rfl, hT⟩ := hT
    refine c_invS (vs := [.int v3]) dX2_word_8 oX2_isLetter q618 (Or.inl q617) rfl rfl (Nat.le_of_ble_eq_true rfl) rfl hW hF hT ?_ ?_
    · intro _ s4 f5 hT h hW hF
      obtain ⟨v6, rfl, hT⟩ := hT
      refine x_if_eq (tgt := 27) dX2_word_11 rfl (fun c => ?_) (fun c => ?_)
      · replace hT := hT.1 c
        refine x_aload_n dX2_word_27 rfl rfl rfl ?_
        refine c_getI (v := (s4.1 19)) dX2_word_28 f_TallySlate_Scanner_37 (by decide) (by decide) rfl hW rfl ?_
        refine x_aload_n dX2_word_31 rfl rfl rfl ?_
        refine c_getI (v := (s4.1 21)) dX2_word_32 f_TallySlate_Scanner_47 (by decide) (by decide) rfl hW rfl ?_
        refine x_isub dX2_word_35 ?_
        refine x_bipush (v := 8) dX2_word_36 rfl ?_
        refine x_icmp_le (tgt := 51) dX2_word_38 rfl (fun c => ?_) (fun c => ?_)
        · replace hT := hT.1 c
          refine x_aload_n dX2_word_51 rfl rfl rfl ?_
          refine x_iconst (v := 1) dX2_word_52 rfl ?_
          refine c_putI dX2_word_53 f_TallySlate_Scanner_48 (by decide) (by decide) rfl rfl rfl rfl hW ?_
          intro h hW
          exact x_vret dX2_word_56 rfl ⟨_, _, hW, hF, Or.inl ⟨_, rfl, hT⟩⟩
        · replace hT := hT.2 c
          refine x_aload_n dX2_word_41 rfl rfl rfl ?_
          refine x_iconst (v := 1) dX2_word_42 rfl ?_
          refine x_aload_n dX2_word_43 rfl rfl rfl ?_
          refine c_getI (v := (s4.1 21)) dX2_word_44 f_TallySlate_Scanner_47 (by decide) (by decide) rfl hW rfl ?_
          obtain ⟨-, -, cc, hcc, -⟩ := hW.ob 2 (by decide)
          refine c_invV (vs := [.int 1, .int (s4.1 21)]) dX2_word_47 oX2_wrong q564 q624 hcc q565 (Or.inl rfl) rfl rfl (Nat.le_of_ble_eq_true rfl) rfl hW hF hT ?_ ?_
          · intro _ s7 f8 hT h hW hF
            obtain ⟨rfl, hT⟩ := hT
            refine x_athrow dX2_word_50 ?_
            exact c_out (rfl) hW (Or.inr (Or.inl ⟨rfl, rfl⟩)) hF hT
          · intro k s7 f8 hT h a hW hx hF
            exact c_out (rfl) hW hx hF hT
      · replace hT := hT.2 c
        refine x_aload_n dX2_word_14 rfl rfl rfl ?_
        refine x_dup dX2_word_15 rfl ?_
        refine c_getI (v := (s4.1 19)) dX2_word_16 f_TallySlate_Scanner_37 (by decide) (by decide) rfl hW rfl ?_
        refine x_iconst (v := 1) dX2_word_19 rfl ?_
        refine x_iadd dX2_word_20 ?_
        refine c_putI dX2_word_21 f_TallySlate_Scanner_37 (by decide) (by decide) rfl rfl rfl rfl hW ?_
        intro h hW
        refine x_goto (tgt := 0) dX2_word_24 rfl ?_
        exact hT f0 h hW hF
    · intro k s4 f5 hT h a hW hx hF
      exact c_out (rfl) hW hx hF hT
  · intro k s1 f2 hT h a hW hx hF
    exact c_out (rfl) hW hx hF hT
theorem eX2_word {l : Launch} {E : EN} {w : CO} {d : Nat} {s : CS} {f : RH} {Q : KO → CS → RH → Prop}   (hst : l.stackTraces = false) (hT : (EvC l E w d MX2_look [.ref (w.1 2), .int (s.1 19)] s f (fun o s1 f2 => KP o (fun r => ∃ v3 : Int32, r = some (.int v3) ∧ (EvC l E w d MX2_isLetter [.int v3] s1 f2 (fun o s4 f5 => KP o (fun r => ∃ v6 : Int32, r = some (.int v6) ∧ ((v6 = 0 → ((((s4.1 19) - (s4.1 21)) ≤ 8 → Q (.inl none) (uI s4 20 1) f5) ∧ (¬ ((s4.1 19) - (s4.1 21)) ≤ 8 → (EvC l E w d MX2_wrong [.ref (w.1 2), .int 1, .int (s4.1 21)] s4 f5 (fun o s7 f8 => KP o (fun r => r = some (.ref (w.1 1)) ∧ Q (.inr 1) s7 f8) (fun k => Q (.inr k) s7 f8)))))) ∧ (¬ v6 = 0 → ExC l E w (d + 1) MX2_word 0 [some (.ref (w.1 2))] [] (uI s4 19 ((s4.1 19) + 1)) f5 Q))) (fun k => Q (.inr k) s4 f5)))) (fun k => Q (.inr k) s1 f2)))) : EvC l E w (d + 1) MX2_word [.ref (w.1 2)] s f Q :=
  EvC.of hst (by decide) (Nat.le_of_ble_eq_true rfl) (vX2_word_0  hT)
theorem vX2_isDigit_0 {l : Launch} {E : EN} {w : CO} {d : Nat} {s : CS} {f : RH} {Q : KO → CS → RH → Prop} {x1 : Int32}  (hT : ((x1 < 48 → Q (.inl (some (.int 0))) s f) ∧ (¬ x1 < 48 → ((57 < x1 → Q (.inl (some (.int 0))) s f) ∧ (¬ 57 < x1 → Q (.inl (some (.int 1))) s f))))) : ExC l E w d MX2_isDigit 0 [some (.int x1)] [] s f Q := by
  intro f0 h hW hF
  refine x_iload_n dX2_isDigit_0 rfl rfl ?_
  refine x_bipush (v := 48) dX2_isDigit_1 rfl ?_
  refine x_icmp_lt (tgt := 16) dX2_isDigit_3 rfl (fun c => ?_) (fun c => ?_)
  · replace hT := hT.1 c
    refine x_iconst (v := 0) dX2_isDigit_16 rfl ?_
    exact x_iret dX2_isDigit_17 rfl rfl ⟨_, _, hW, hF, Or.inl ⟨_, rfl, hT⟩⟩
  · replace hT := hT.2 c
    refine x_iload_n dX2_isDigit_6 rfl rfl ?_
    refine x_bipush (v := 57) dX2_isDigit_7 rfl ?_
    refine x_icmp_gt (tgt := 16) dX2_isDigit_9 rfl (fun c => ?_) (fun c => ?_)
    · replace hT := hT.1 c
      refine x_iconst (v := 0) dX2_isDigit_16 rfl ?_
      exact x_iret dX2_isDigit_17 rfl rfl ⟨_, _, hW, hF, Or.inl ⟨_, rfl, hT⟩⟩
    · replace hT := hT.2 c
      refine x_iconst (v := 1) dX2_isDigit_12 rfl ?_
      refine x_goto (tgt := 17) dX2_isDigit_13 rfl ?_
      exact x_iret dX2_isDigit_17 rfl rfl ⟨_, _, hW, hF, Or.inl ⟨_, rfl, hT⟩⟩
theorem eX2_isDigit {l : Launch} {E : EN} {w : CO} {d : Nat} {s : CS} {f : RH} {Q : KO → CS → RH → Prop} {x1 : Int32}  (hst : l.stackTraces = false) (hT : ((x1 < 48 → Q (.inl (some (.int 0))) s f) ∧ (¬ x1 < 48 → ((57 < x1 → Q (.inl (some (.int 0))) s f) ∧ (¬ 57 < x1 → Q (.inl (some (.int 1))) s f))))) : EvC l E w d MX2_isDigit [.int x1] s f Q :=
  EvC.of hst (by decide) (Nat.le_of_ble_eq_true rfl) (vX2_isDigit_0  hT)
theorem vX2_number_0 {l : Launch} {E : EN} {w : CO} {d : Nat} {s : CS} {f : RH} {Q : KO → CS → RH → Prop}   (hT : ExC l E w (d + 1) MX2_number 2 [some (.ref (w.1 2)), some (.long 0), none] [] s f Q) : ExC l E w (d + 1) MX2_number 0 [some (.ref (w.1 2)), none, none] [] s f Q := by
  intro f0 h hW hF
  refine x_lconst (v := 0) dX2_number_0 rfl ?_
  refine x_lstore_n (lo' := [some (.ref (w.1 2)), some (.long 0), none]) dX2_number_1 rfl (Nat.le_of_ble_eq_true rfl) rfl ?_
  exact hT f0 h hW hF
theorem eX2_number {l : Launch} {E : EN} {w : CO} {d : Nat} {s : CS} {f : RH} {Q : KO → CS → RH → Prop}   (hst : l.stackTraces = false) (hT : ExC l E w (d + 1) MX2_number 2 [some (.ref (w.1 2)), some (.long 0), none] [] s f Q) : EvC l E w (d + 1) MX2_number [.ref (w.1 2)] s f Q :=
  EvC.of hst (by decide) (Nat.le_of_ble_eq_true rfl) (vX2_number_0  hT)
set_option maxHeartbeats 16000000 in
theorem vX2_number_2 {l : Launch} {E : EN} {w : CO} {d : Nat} {s : CS} {f : RH} {Q : KO → CS → RH → Prop} {b1 : Int64}  (hT : (EvC l E w d MX2_look [.ref (w.1 2), .int (s.1 19)] s f (fun o s1 f2 => KP o (fun r => ∃ v3 : Int32, r = some (.int v3) ∧ (EvC l E w d MX2_isDigit [.int v3] s1 f2 (fun o s4 f5 => KP o (fun r => ∃ v6 : Int32, r = some (.int v6) ∧ ((v6 = 0 → ((10 < ((s4.1 19) - (s4.1 21)) → (EvC l E w d MX2_wrong [.ref (w.1 2), .int 1, .int (s4.1 21)] s4 f5 (fun o s7 f8 => KP o (fun r => r = some (.ref (w.1 1)) ∧ Q (.inr 1) s7 f8) (fun k => Q (.inr k) s7 f8)))) ∧ (¬ 10 < ((s4.1 19) - (s4.1 21)) → (((lg_cmp b1 2147483647) ≤ 0 → Q (.inl none) (uI (uI s4 20 2) 22 b1.toInt32) f5) ∧ (¬ (lg_cmp b1 2147483647) ≤ 0 → (EvC l E w d MX2_wrong [.ref (w.1 2), .int 1, .int (s4.1 21)] s4 f5 (fun o s9 f10 => KP o (fun r => r = some (.ref (w.1 1)) ∧ Q (.inr 1) s9 f10) (fun k => Q (.inr k) s9 f10)))))))) ∧ (¬ v6 = 0 → ((10 ≤ ((s4.1 19) - (s4.1 21)) → ExC l E w (d + 1) MX2_number 2 [some (.ref (w.1 2)), some (.long b1), none] [] (uI s4 19 ((s4.1 19) + 1)) f5 Q) ∧ (¬ 10 ≤ ((s4.1 19) - (s4.1 21)) → (EvC l E w d MX2_look [.ref (w.1 2), .int (s4.1 19)] s4 f5 (fun o s11 f12 => KP o (fun r => ∃ v13 : Int32, r = some (.int v13) ∧ (∀ y14 : Int64, y14 = (((10 * b1) + v13.toInt64) - 48) → ExC l E w (d + 1) MX2_number 2 [some (.ref (w.1 2)), some (.long y14), none] [] (uI s11 19 ((s11.1 19) + 1)) f12 Q)) (fun k => Q (.inr k) s11 f12)))))))) (fun k => Q (.inr k) s4 f5)))) (fun k => Q (.inr k) s1 f2)))) : ExC l E w (d + 1) MX2_number 2 [some (.ref (w.1 2)), some (.long b1), none] [] s f Q := by
  intro f0 h hW hF
  refine x_aload_n dX2_number_2 rfl rfl rfl ?_
  refine x_aload_n dX2_number_3 rfl rfl rfl ?_
  refine c_getI (v := (s.1 19)) dX2_number_4 f_TallySlate_Scanner_37 (by decide) (by decide) rfl hW rfl ?_
  obtain ⟨-, -, cc, hcc, -⟩ := hW.ob 2 (by decide)
  refine c_invV (vs := [.int (s.1 19)]) dX2_number_7 oX2_look q615 q613 hcc qs2 (Or.inl rfl) rfl rfl (Nat.le_of_ble_eq_true rfl) rfl hW hF hT ?_ ?_
  · intro _ s1 f2 hT h hW hF
    obtain ⟨v3, rfl, hT⟩ := hT
    refine c_invS (vs := [.int v3]) dX2_number_10 oX2_isDigit q626 (Or.inl q625) rfl rfl (Nat.le_of_ble_eq_true rfl) rfl hW hF hT ?_ ?_
    · intro _ s4 f5 hT h hW hF
      obtain ⟨v6, rfl, hT⟩ := hT
      refine x_if_eq (tgt := 63) dX2_number_13 rfl (fun c => ?_) (fun c => ?_)
      · replace hT := hT.1 c
        refine x_aload_n dX2_number_63 rfl rfl rfl ?_
        refine c_getI (v := (s4.1 19)) dX2_number_64 f_TallySlate_Scanner_37 (by decide) (by decide) rfl hW rfl ?_
        refine x_aload_n dX2_number_67 rfl rfl rfl ?_
        refine c_getI (v := (s4.1 21)) dX2_number_68 f_TallySlate_Scanner_47 (by decide) (by decide) rfl hW rfl ?_
        refine x_isub dX2_number_71 ?_
        refine x_bipush (v := 10) dX2_number_72 rfl ?_
        refine x_icmp_gt (tgt := 85) dX2_number_74 rfl (fun c => ?_) (fun c => ?_)
        · replace hT := hT.1 c
          refine x_aload_n dX2_number_85 rfl rfl rfl ?_
          refine x_iconst (v := 1) dX2_number_86 rfl ?_
          refine x_aload_n dX2_number_87 rfl rfl rfl ?_
          refine c_getI (v := (s4.1 21)) dX2_number_88 f_TallySlate_Scanner_47 (by decide) (by decide) rfl hW rfl ?_
          obtain ⟨-, -, cc, hcc, -⟩ := hW.ob 2 (by decide)
          refine c_invV (vs := [.int 1, .int (s4.1 21)]) dX2_number_91 oX2_wrong q564 q624 hcc q565 (Or.inl rfl) rfl rfl (Nat.le_of_ble_eq_true rfl) rfl hW hF hT ?_ ?_
          · intro _ s7 f8 hT h hW hF
            obtain ⟨rfl, hT⟩ := hT
            refine x_athrow dX2_number_94 ?_
            exact c_out (rfl) hW (Or.inr (Or.inl ⟨rfl, rfl⟩)) hF hT
          · intro k s7 f8 hT h a hW hx hF
            exact c_out (rfl) hW hx hF hT
        · replace hT := hT.2 c
          refine x_lload_n dX2_number_77 rfl rfl ?_
          refine x_ldc2 dX2_number_78 q634 ?_
          refine x_lcmp dX2_number_81 ?_
          refine x_if_le (tgt := 95) dX2_number_82 rfl (fun c => ?_) (fun c => ?_)
          · replace hT := hT.1 c
            refine x_aload_n dX2_number_95 rfl rfl rfl ?_
            refine x_iconst (v := 2) dX2_number_96 rfl ?_
            refine c_putI dX2_number_97 f_TallySlate_Scanner_48 (by decide) (by decide) rfl rfl rfl rfl hW ?_
            intro h hW
            refine x_aload_n dX2_number_100 rfl rfl rfl ?_
            refine x_lload_n dX2_number_101 rfl rfl ?_
            refine x_l2i dX2_number_102 ?_
            refine c_putI dX2_number_103 f_TallySlate_Scanner_78 (by decide) (by decide) rfl rfl rfl rfl hW ?_
            intro h hW
            exact x_vret dX2_number_106 rfl ⟨_, _, hW, hF, Or.inl ⟨_, rfl, hT⟩⟩
          · replace hT := hT.2 c
            refine x_aload_n dX2_number_85 rfl rfl rfl ?_
            refine x_iconst (v := 1) dX2_number_86 rfl ?_
            refine x_aload_n dX2_number_87 rfl rfl rfl ?_
            refine c_getI (v := (s4.1 21)) dX2_number_88 f_TallySlate_Scanner_47 (by decide) (by decide) rfl hW rfl ?_
            obtain ⟨-, -, cc, hcc, -⟩ := hW.ob 2 (by decide)
            refine c_invV (vs := [.int 1, .int (s4.1 21)]) dX2_number_91 oX2_wrong q564 q624 hcc q565 (Or.inl rfl) rfl rfl (Nat.le_of_ble_eq_true rfl) rfl hW hF hT ?_ ?_
            · intro _ s9 f10 hT h hW hF
              obtain ⟨rfl, hT⟩ := hT
              refine x_athrow dX2_number_94 ?_
              exact c_out (rfl) hW (Or.inr (Or.inl ⟨rfl, rfl⟩)) hF hT
            · intro k s9 f10 hT h a hW hx hF
              exact c_out (rfl) hW hx hF hT
      · replace hT := hT.2 c
        refine x_aload_n dX2_number_16 rfl rfl rfl ?_
        refine c_getI (v := (s4.1 19)) dX2_number_17 f_TallySlate_Scanner_37 (by decide) (by decide) rfl hW rfl ?_
        refine x_aload_n dX2_number_20 rfl rfl rfl ?_
        refine c_getI (v := (s4.1 21)) dX2_number_21 f_TallySlate_Scanner_47 (by decide) (by decide) rfl hW rfl ?_
        refine x_isub dX2_number_24 ?_
        refine x_bipush (v := 10) dX2_number_25 rfl ?_
        refine x_icmp_ge (tgt := 50) dX2_number_27 rfl (fun c => ?_) (fun c => ?_)
        · replace hT := hT.1 c
          refine x_aload_n dX2_number_50 rfl rfl rfl ?_
          refine x_dup dX2_number_51 rfl ?_
          refine c_getI (v := (s4.1 19)) dX2_number_52 f_TallySlate_Scanner_37 (by decide) (by decide) rfl hW rfl ?_
          refine x_iconst (v := 1) dX2_number_55 rfl ?_
          refine x_iadd dX2_number_56 ?_
          refine c_putI dX2_number_57 f_TallySlate_Scanner_37 (by decide) (by decide) rfl rfl rfl rfl hW ?_
          intro h hW
          refine x_goto (tgt := 2) dX2_number_60 rfl ?_
          exact hT f0 h hW hF
        · replace hT := hT.2 c
          refine x_ldc2 dX2_number_30 q632 ?_
          refine x_lload_n dX2_number_33 rfl rfl ?_
          refine x_lmul dX2_number_34 ?_
          refine x_aload_n dX2_number_35 rfl rfl rfl ?_
          refine x_aload_n dX2_number_36 rfl rfl rfl ?_
          refine c_getI (v := (s4.1 19)) dX2_number_37 f_TallySlate_Scanner_37 (by decide) (by decide) rfl hW rfl ?_
          obtain ⟨-, -, cc, hcc, -⟩ := hW.ob 2 (by decide)
          refine c_invV (vs := [.int (s4.1 19)]) dX2_number_40 oX2_look q615 q613 hcc qs2 (Or.inl rfl) rfl rfl (Nat.le_of_ble_eq_true rfl) rfl hW hF hT ?_ ?_
          · intro _ s11 f12 hT h hW hF
            obtain ⟨v13, rfl, hT⟩ := hT
            refine x_i2l dX2_number_43 ?_
            refine x_ladd dX2_number_44 ?_
            refine x_ldc2 dX2_number_45 q633 ?_
            refine x_lsub dX2_number_48 ?_
            obtain ⟨y14, ey14⟩ : ∃ z : Int64, z = (((10 * b1) + v13.toInt64) - 48) := ⟨_, rfl⟩
            replace hT := hT y14 ey14
            refine x_lstore_n (lo' := [some (.ref (w.1 2)), some (.long y14), none]) dX2_number_49 rfl (Nat.le_of_ble_eq_true rfl) (by rw [ey14]; exact rfl) ?_
            refine x_aload_n dX2_number_50 rfl rfl rfl ?_
            refine x_dup dX2_number_51 rfl ?_
            refine c_getI (v := (s11.1 19)) dX2_number_52 f_TallySlate_Scanner_37 (by decide) (by decide) rfl hW rfl ?_
            refine x_iconst (v := 1) dX2_number_55 rfl ?_
            refine x_iadd dX2_number_56 ?_
            refine c_putI dX2_number_57 f_TallySlate_Scanner_37 (by decide) (by decide) rfl rfl rfl rfl hW ?_
            intro h hW
            refine x_goto (tgt := 2) dX2_number_60 rfl ?_
            exact hT f0 h hW hF
          · intro k s11 f12 hT h a hW hx hF
            exact c_out (rfl) hW hx hF hT
    · intro k s4 f5 hT h a hW hx hF
      exact c_out (rfl) hW hx hF hT
  · intro k s1 f2 hT h a hW hx hF
    exact c_out (rfl) hW hx hF hT
theorem vX2_sign_0 {l : Launch} {E : EN} {w : CO} {d : Nat} {s : CS} {f : RH} {Q : KO → CS → RH → Prop} {x1 : Int32}  (hT : (EvC l E w d MX2_look [.ref (w.1 2), .int ((s.1 19) + 1)] s f (fun o s1 f2 => KP o (fun r => ∃ v3 : Int32, r = some (.int v3) ∧ ((¬ v3 = 61 → ExC l E w (d + 1) MX2_sign 44 [some (.ref (w.1 2)), some (.int x1), none] [.int 0] s1 f2 Q) ∧ (v3 = 61 → ((x1 = 61 → ExC l E w (d + 1) MX2_sign 44 [some (.ref (w.1 2)), some (.int x1), none] [.int 1] s1 f2 Q) ∧ (¬ x1 = 61 → ((x1 = 33 → ExC l E w (d + 1) MX2_sign 44 [some (.ref (w.1 2)), some (.int x1), none] [.int 1] s1 f2 Q) ∧ (¬ x1 = 33 → ((x1 = 60 → ExC l E w (d + 1) MX2_sign 44 [some (.ref (w.1 2)), some (.int x1), none] [.int 1] s1 f2 Q) ∧ (¬ x1 = 60 → ((¬ x1 = 62 → ExC l E w (d + 1) MX2_sign 44 [some (.ref (w.1 2)), some (.int x1), none] [.int 0] s1 f2 Q) ∧ (x1 = 62 → ExC l E w (d + 1) MX2_sign 44 [some (.ref (w.1 2)), some (.int x1), none] [.int 1] s1 f2 Q))))))))))) (fun k => Q (.inr k) s1 f2)))) : ExC l E w (d + 1) MX2_sign 0 [some (.ref (w.1 2)), some (.int x1), none] [] s f Q := by
  intro f0 h hW hF
  refine x_aload_n dX2_sign_0 rfl rfl rfl ?_
  refine x_aload_n dX2_sign_1 rfl rfl rfl ?_
  refine c_getI (v := (s.1 19)) dX2_sign_2 f_TallySlate_Scanner_37 (by decide) (by decide) rfl hW rfl ?_
  refine x_iconst (v := 1) dX2_sign_5 rfl ?_
  refine x_iadd dX2_sign_6 ?_
  obtain ⟨-, -, cc, hcc, -⟩ := hW.ob 2 (by decide)
  refine c_invV (vs := [.int ((s.1 19) + 1)]) dX2_sign_7 oX2_look q615 q613 hcc qs2 (Or.inl rfl) rfl rfl (Nat.le_of_ble_eq_true rfl) rfl hW hF hT ?_ ?_
  · intro _ s1 f2 hT h hW hF
    obtain ⟨v3, rfl, hT⟩ := hT
    refine x_bipush (v := 61) dX2_sign_10 rfl ?_
    refine x_icmp_ne (tgt := 43) dX2_sign_12 rfl (fun c => ?_) (fun c => ?_)
    · replace hT := hT.1 c
      refine x_iconst (v := 0) dX2_sign_43 rfl ?_
      exact hT f0 h hW hF
    · replace hT := hT.2 c
      refine x_iload_n dX2_sign_15 rfl rfl ?_
      refine x_bipush (v := 61) dX2_sign_16 rfl ?_
      refine x_icmp_eq (tgt := 39) dX2_sign_18 rfl (fun c => ?_) (fun c => ?_)
      · replace hT := hT.1 c
        refine x_iconst (v := 1) dX2_sign_39 rfl ?_
        refine x_goto (tgt := 44) dX2_sign_40 rfl ?_
        exact hT f0 h hW hF
      · replace hT := hT.2 c
        refine x_iload_n dX2_sign_21 rfl rfl ?_
        refine x_bipush (v := 33) dX2_sign_22 rfl ?_
        refine x_icmp_eq (tgt := 39) dX2_sign_24 rfl (fun c => ?_) (fun c => ?_)
        · replace hT := hT.1 c
          refine x_iconst (v := 1) dX2_sign_39 rfl ?_
          refine x_goto (tgt := 44) dX2_sign_40 rfl ?_
          exact hT f0 h hW hF
        · replace hT := hT.2 c
          refine x_iload_n dX2_sign_27 rfl rfl ?_
          refine x_bipush (v := 60) dX2_sign_28 rfl ?_
          refine x_icmp_eq (tgt := 39) dX2_sign_30 rfl (fun c => ?_) (fun c => ?_)
          · replace hT := hT.1 c
            refine x_iconst (v := 1) dX2_sign_39 rfl ?_
            refine x_goto (tgt := 44) dX2_sign_40 rfl ?_
            exact hT f0 h hW hF
          · replace hT := hT.2 c
            refine x_iload_n dX2_sign_33 rfl rfl ?_
            refine x_bipush (v := 62) dX2_sign_34 rfl ?_
            refine x_icmp_ne (tgt := 43) dX2_sign_36 rfl (fun c => ?_) (fun c => ?_)
            · replace hT := hT.1 c
              refine x_iconst (v := 0) dX2_sign_43 rfl ?_
              exact hT f0 h hW hF
            · replace hT := hT.2 c
              refine x_iconst (v := 1) dX2_sign_39 rfl ?_
              refine x_goto (tgt := 44) dX2_sign_40 rfl ?_
              exact hT f0 h hW hF
  · intro k s1 f2 hT h a hW hx hF
    exact c_out (rfl) hW hx hF hT
theorem eX2_sign {l : Launch} {E : EN} {w : CO} {d : Nat} {s : CS} {f : RH} {Q : KO → CS → RH → Prop} {x1 : Int32}  (hst : l.stackTraces = false) (hT : (EvC l E w d MX2_look [.ref (w.1 2), .int ((s.1 19) + 1)] s f (fun o s1 f2 => KP o (fun r => ∃ v3 : Int32, r = some (.int v3) ∧ ((¬ v3 = 61 → ExC l E w (d + 1) MX2_sign 44 [some (.ref (w.1 2)), some (.int x1), none] [.int 0] s1 f2 Q) ∧ (v3 = 61 → ((x1 = 61 → ExC l E w (d + 1) MX2_sign 44 [some (.ref (w.1 2)), some (.int x1), none] [.int 1] s1 f2 Q) ∧ (¬ x1 = 61 → ((x1 = 33 → ExC l E w (d + 1) MX2_sign 44 [some (.ref (w.1 2)), some (.int x1), none] [.int 1] s1 f2 Q) ∧ (¬ x1 = 33 → ((x1 = 60 → ExC l E w (d + 1) MX2_sign 44 [some (.ref (w.1 2)), some (.int x1), none] [.int 1] s1 f2 Q) ∧ (¬ x1 = 60 → ((¬ x1 = 62 → ExC l E w (d + 1) MX2_sign 44 [some (.ref (w.1 2)), some (.int x1), none] [.int 0] s1 f2 Q) ∧ (x1 = 62 → ExC l E w (d + 1) MX2_sign 44 [some (.ref (w.1 2)), some (.int x1), none] [.int 1] s1 f2 Q))))))))))) (fun k => Q (.inr k) s1 f2)))) : EvC l E w (d + 1) MX2_sign [.ref (w.1 2), .int x1] s f Q :=
  EvC.of hst (by decide) (Nat.le_of_ble_eq_true rfl) (vX2_sign_0  hT)
set_option maxHeartbeats 16000000 in
theorem vX2_sign_44 {l : Launch} {E : EN} {w : CO} {d : Nat} {s : CS} {f : RH} {Q : KO → CS → RH → Prop} {b1 : Int32} {c0 : Int32}  (hT : (oc f (eSC E 52) 34 ∧ EvC l E w d MJ3_indexOf [.ref (eSC E 52), .int b1] s f (fun o s4 f5 => KP o (fun r => ∃ v6 : Int32, r = some (.int v6) ∧ ((0 ≤ v6 → ((c0 = 0 → ((c0 = 0 → Q (.inl none) (uI (uI (uI s4 20 3) 22 b1) 19 ((s4.1 19) + 1)) f5) ∧ (¬ c0 = 0 → Q (.inl none) (uI (uI (uI s4 20 3) 22 b1) 19 ((s4.1 19) + 2)) f5))) ∧ (¬ c0 = 0 → ((c0 = 0 → Q (.inl none) (uI (uI (uI s4 20 3) 22 (256 + b1)) 19 ((s4.1 19) + 1)) f5) ∧ (¬ c0 = 0 → Q (.inl none) (uI (uI (uI s4 20 3) 22 (256 + b1)) 19 ((s4.1 19) + 2)) f5))))) ∧ (¬ 0 ≤ v6 → (EvC l E w d MX2_wrong [.ref (w.1 2), .int 1, .int (s4.1 21)] s4 f5 (fun o s7 f8 => KP o (fun r => r = some (.ref (w.1 1)) ∧ Q (.inr 1) s7 f8) (fun k => Q (.inr k) s7 f8)))))) (fun k => Q (.inr k) s4 f5)))) : ExC l E w (d + 1) MX2_sign 44 [some (.ref (w.1 2)), some (.int b1), none] [.int c0] s f Q := by
  intro f0 h hW hF
  refine x_istore_n (lo' := [some (.ref (w.1 2)), some (.int b1), some (.int c0)]) dX2_sign_44 rfl (Nat.le_of_ble_eq_true rfl) rfl ?_
  refine x_ldcS (i := 52) dX2_sign_45 rfl ?_
  refine x_iload_n dX2_sign_47 rfl rfl ?_
  obtain ⟨hc, hT⟩ := hT
  obtain ⟨cc, hcc⟩ := hW.ocell hc
  refine c_invV (vs := [.int b1]) dX2_sign_48 oJ3_indexOf q641 q640 hcc q642 (Or.inl rfl) rfl rfl (Nat.le_of_ble_eq_true rfl) rfl hW hF hT ?_ ?_
  · intro _ s4 f5 hT h hW hF
    obtain ⟨v6, rfl, hT⟩ := hT
    refine x_if_ge (tgt := 64) dX2_sign_51 rfl (fun c => ?_) (fun c => ?_)
    · replace hT := hT.1 c
      refine x_aload_n dX2_sign_64 rfl rfl rfl ?_
      refine x_iconst (v := 3) dX2_sign_65 rfl ?_
      refine c_putI dX2_sign_66 f_TallySlate_Scanner_48 (by decide) (by decide) rfl rfl rfl rfl hW ?_
      intro h hW
      refine x_aload_n dX2_sign_69 rfl rfl rfl ?_
      refine x_iload_n dX2_sign_70 rfl rfl ?_
      refine x_if_eq (tgt := 82) dX2_sign_71 rfl (fun c => ?_) (fun c => ?_)
      · replace hT := hT.1 c
        refine x_iload_n dX2_sign_82 rfl rfl ?_
        refine c_putI dX2_sign_83 f_TallySlate_Scanner_78 (by decide) (by decide) rfl rfl rfl rfl hW ?_
        intro h hW
        refine x_aload_n dX2_sign_86 rfl rfl rfl ?_
        refine x_dup dX2_sign_87 rfl ?_
        refine c_getI (v := (s4.1 19)) dX2_sign_88 f_TallySlate_Scanner_37 (by decide) (by decide) rfl hW rfl ?_
        refine x_iload_n dX2_sign_91 rfl rfl ?_
        refine x_if_eq (tgt := 99) dX2_sign_92 rfl (fun c => ?_) (fun c => ?_)
        · replace hT := hT.1 c
          refine x_iconst (v := 1) dX2_sign_99 rfl ?_
          refine x_iadd dX2_sign_100 ?_
          refine c_putI dX2_sign_101 f_TallySlate_Scanner_37 (by decide) (by decide) rfl rfl rfl rfl hW ?_
          intro h hW
          exact x_vret dX2_sign_104 rfl ⟨_, _, hW, hF, Or.inl ⟨_, rfl, hT⟩⟩
        · replace hT := hT.2 c
          refine x_iconst (v := 2) dX2_sign_95 rfl ?_
          refine x_goto (tgt := 100) dX2_sign_96 rfl ?_
          refine x_iadd dX2_sign_100 ?_
          refine c_putI dX2_sign_101 f_TallySlate_Scanner_37 (by decide) (by decide) rfl rfl rfl rfl hW ?_
          intro h hW
          exact x_vret dX2_sign_104 rfl ⟨_, _, hW, hF, Or.inl ⟨_, rfl, hT⟩⟩
      · replace hT := hT.2 c
        refine x_sipush (v := 256) dX2_sign_74 rfl ?_
        refine x_iload_n dX2_sign_77 rfl rfl ?_
        refine x_iadd dX2_sign_78 ?_
        refine x_goto (tgt := 83) dX2_sign_79 rfl ?_
        refine c_putI dX2_sign_83 f_TallySlate_Scanner_78 (by decide) (by decide) rfl rfl rfl rfl hW ?_
        intro h hW
        refine x_aload_n dX2_sign_86 rfl rfl rfl ?_
        refine x_dup dX2_sign_87 rfl ?_
        refine c_getI (v := (s4.1 19)) dX2_sign_88 f_TallySlate_Scanner_37 (by decide) (by decide) rfl hW rfl ?_
        refine x_iload_n dX2_sign_91 rfl rfl ?_
        refine x_if_eq (tgt := 99) dX2_sign_92 rfl (fun c => ?_) (fun c => ?_)
        · replace hT := hT.1 c
          refine x_iconst (v := 1) dX2_sign_99 rfl ?_
          refine x_iadd dX2_sign_100 ?_
          refine c_putI dX2_sign_101 f_TallySlate_Scanner_37 (by decide) (by decide) rfl rfl rfl rfl hW ?_
          intro h hW
          exact x_vret dX2_sign_104 rfl ⟨_, _, hW, hF, Or.inl ⟨_, rfl, hT⟩⟩
        · replace hT := hT.2 c
          refine x_iconst (v := 2) dX2_sign_95 rfl ?_
          refine x_goto (tgt := 100) dX2_sign_96 rfl ?_
          refine x_iadd dX2_sign_100 ?_
          refine c_putI dX2_sign_101 f_TallySlate_Scanner_37 (by decide) (by decide) rfl rfl rfl rfl hW ?_
          intro h hW
          exact x_vret dX2_sign_104 rfl ⟨_, _, hW, hF, Or.inl ⟨_, rfl, hT⟩⟩
    · replace hT := hT.2 c
      refine x_aload_n dX2_sign_54 rfl rfl rfl ?_
      refine x_iconst (v := 1) dX2_sign_55 rfl ?_
      refine x_aload_n dX2_sign_56 rfl rfl rfl ?_
      refine c_getI (v := (s4.1 21)) dX2_sign_57 f_TallySlate_Scanner_47 (by decide) (by decide) rfl hW rfl ?_
      obtain ⟨-, -, cc, hcc, -⟩ := hW.ob 2 (by decide)
      refine c_invV (vs := [.int 1, .int (s4.1 21)]) dX2_sign_60 oX2_wrong q564 q624 hcc q565 (Or.inl rfl) rfl rfl (Nat.le_of_ble_eq_true rfl) rfl hW hF hT ?_ ?_
      · intro _ s7 f8 hT h hW hF
        obtain ⟨rfl, hT⟩ := hT
        refine x_athrow dX2_sign_63 ?_
        exact c_out (rfl) hW (Or.inr (Or.inl ⟨rfl, rfl⟩)) hF hT
      · intro k s7 f8 hT h a hW hx hF
        exact c_out (rfl) hW hx hF hT
  · intro k s4 f5 hT h a hW hx hF
    exact c_out (rfl) hW hx hF hT
theorem vX2_isWord_0 {l : Launch} {E : EN} {w : CO} {d : Nat} {s : CS} {f : RH} {Q : KO → CS → RH → Prop} {x1 : Nat}  (hT : ((¬ (s.1 20) = 1 → Q (.inl (some (.int 0))) s f) ∧ ((s.1 20) = 1 → (oc f x1 34 ∧ EvC l E w d MJ3_length [.ref x1] s f (fun o s1 f2 => KP o (fun r => ∃ v3 : Int32, r = some (.int v3) ∧ ((((s.1 19) - (s.1 21)) = v3 → ExC l E w (d + 1) MX2_isWord 28 [some (.ref (w.1 2)), some (.ref x1), some (.int 0)] [] s1 f2 Q) ∧ (¬ ((s.1 19) - (s.1 21)) = v3 → Q (.inl (some (.int 0))) s1 f2))) (fun k => Q (.inr k) s1 f2)))))) : ExC l E w (d + 1) MX2_isWord 0 [some (.ref (w.1 2)), some (.ref x1), none] [] s f Q := by
  intro f0 h hW hF
  refine x_aload_n dX2_isWord_0 rfl rfl rfl ?_
  refine c_getI (v := (s.1 20)) dX2_isWord_1 f_TallySlate_Scanner_48 (by decide) (by decide) rfl hW rfl ?_
  refine x_iconst (v := 1) dX2_isWord_4 rfl ?_
  refine x_icmp_ne (tgt := 24) dX2_isWord_5 rfl (fun c => ?_) (fun c => ?_)
  · replace hT := hT.1 c
    refine x_iconst (v := 0) dX2_isWord_24 rfl ?_
    exact x_iret dX2_isWord_25 rfl rfl ⟨_, _, hW, hF, Or.inl ⟨_, rfl, hT⟩⟩
  · replace hT := hT.2 c
    refine x_aload_n dX2_isWord_8 rfl rfl rfl ?_
    refine c_getI (v := (s.1 19)) dX2_isWord_9 f_TallySlate_Scanner_37 (by decide) (by decide) rfl hW rfl ?_
    refine x_aload_n dX2_isWord_12 rfl rfl rfl ?_
    refine c_getI (v := (s.1 21)) dX2_isWord_13 f_TallySlate_Scanner_47 (by decide) (by decide) rfl hW rfl ?_
    refine x_isub dX2_isWord_16 ?_
    refine x_aload_n dX2_isWord_17 rfl rfl rfl ?_
    obtain ⟨hc, hT⟩ := hT
    obtain ⟨cc, hcc⟩ := hW.ocell hc
    refine c_invV (vs := []) dX2_isWord_18 oJ3_length q655 q731 hcc q656 (Or.inl rfl) rfl rfl (Nat.le_of_ble_eq_true rfl) rfl hW hF hT ?_ ?_
    · intro _ s1 f2 hT h hW hF
      obtain ⟨v3, rfl, hT⟩ := hT
      refine x_icmp_eq (tgt := 26) dX2_isWord_21 rfl (fun c => ?_) (fun c => ?_)
      · replace hT := hT.1 c
        refine x_iconst (v := 0) dX2_isWord_26 rfl ?_
        refine x_istore_n (lo' := [some (.ref (w.1 2)), some (.ref x1), some (.int 0)]) dX2_isWord_27 rfl (Nat.le_of_ble_eq_true rfl) rfl ?_
        exact hT f0 h hW hF
      · replace hT := hT.2 c
        refine x_iconst (v := 0) dX2_isWord_24 rfl ?_
        exact x_iret dX2_isWord_25 rfl rfl ⟨_, _, hW, hF, Or.inl ⟨_, rfl, hT⟩⟩
    · intro k s1 f2 hT h a hW hx hF
      exact c_out (rfl) hW hx hF hT
theorem eX2_isWord {l : Launch} {E : EN} {w : CO} {d : Nat} {s : CS} {f : RH} {Q : KO → CS → RH → Prop} {x1 : Nat}  (hst : l.stackTraces = false) (hT : ((¬ (s.1 20) = 1 → Q (.inl (some (.int 0))) s f) ∧ ((s.1 20) = 1 → (oc f x1 34 ∧ EvC l E w d MJ3_length [.ref x1] s f (fun o s1 f2 => KP o (fun r => ∃ v3 : Int32, r = some (.int v3) ∧ ((((s.1 19) - (s.1 21)) = v3 → ExC l E w (d + 1) MX2_isWord 28 [some (.ref (w.1 2)), some (.ref x1), some (.int 0)] [] s1 f2 Q) ∧ (¬ ((s.1 19) - (s.1 21)) = v3 → Q (.inl (some (.int 0))) s1 f2))) (fun k => Q (.inr k) s1 f2)))))) : EvC l E w (d + 1) MX2_isWord [.ref (w.1 2), .ref x1] s f Q :=
  EvC.of hst (by decide) (Nat.le_of_ble_eq_true rfl) (vX2_isWord_0  hT)
theorem vX2_isWord_28 {l : Launch} {E : EN} {w : CO} {d : Nat} {s : CS} {f : RH} {Q : KO → CS → RH → Prop} {b1 : Nat} {b2 : Int32}  (hT : (oc f b1 34 ∧ EvC l E w d MJ3_length [.ref b1] s f (fun o s5 f6 => KP o (fun r => ∃ v7 : Int32, r = some (.int v7) ∧ ((v7 ≤ b2 → Q (.inl (some (.int 1))) s5 f6) ∧ (¬ v7 ≤ b2 → (inB ((s5.1 21) + b2) 1600 ∧ (oc f6 b1 34 ∧ EvC l E w d MJ3_charAt [.ref b1, .int b2] s5 f6 (fun o s8 f9 => KP o (fun r => ∃ v10 : Int32, r = some (.int v10) ∧ (((s5.2.2.1 17 ((s5.1 21) + b2).toNatClampNeg) = v10 → ExC l E w (d + 1) MX2_isWord 28 [some (.ref (w.1 2)), some (.ref b1), some (.int (b2 + 1))] [] s8 f9 Q) ∧ (¬ (s5.2.2.1 17 ((s5.1 21) + b2).toNatClampNeg) = v10 → Q (.inl (some (.int 0))) s8 f9))) (fun k => Q (.inr k) s8 f9))))))) (fun k => Q (.inr k) s5 f6)))) : ExC l E w (d + 1) MX2_isWord 28 [some (.ref (w.1 2)), some (.ref b1), some (.int b2)] [] s f Q := by
  intro f0 h hW hF
  refine x_iload_n dX2_isWord_28 rfl rfl ?_
  refine x_aload_n dX2_isWord_29 rfl rfl rfl ?_
  obtain ⟨hc, hT⟩ := hT
  obtain ⟨cc, hcc⟩ := hW.ocell hc
  refine c_invV (vs := []) dX2_isWord_30 oJ3_length q655 q731 hcc q656 (Or.inl rfl) rfl rfl (Nat.le_of_ble_eq_true rfl) rfl hW hF hT ?_ ?_
  · intro _ s5 f6 hT h hW hF
    obtain ⟨v7, rfl, hT⟩ := hT
    refine x_icmp_ge (tgt := 63) dX2_isWord_33 rfl (fun c => ?_) (fun c => ?_)
    · replace hT := hT.1 c
      refine x_iconst (v := 1) dX2_isWord_63 rfl ?_
      exact x_iret dX2_isWord_64 rfl rfl ⟨_, _, hW, hF, Or.inl ⟨_, rfl, hT⟩⟩
    · replace hT := hT.2 c
      refine x_aload_n dX2_isWord_36 rfl rfl rfl ?_
      refine c_getA dX2_isWord_37 f_TallySlate_Scanner_9 (by decide) (by decide) rfl hW ?_
      refine x_aload_n dX2_isWord_40 rfl rfl rfl ?_
      refine c_getI (v := (s5.1 21)) dX2_isWord_41 f_TallySlate_Scanner_47 (by decide) (by decide) rfl hW rfl ?_
      refine x_iload_n dX2_isWord_44 rfl rfl ?_
      refine x_iadd dX2_isWord_45 ?_
      obtain ⟨hb, hT⟩ := hT
      refine c_bald (v := (s5.2.2.1 17 ((s5.1 21) + b2).toNatClampNeg)) dX2_isWord_46 rfl (by decide) hb hW rfl ?_
      refine x_aload_n dX2_isWord_47 rfl rfl rfl ?_
      refine x_iload_n dX2_isWord_48 rfl rfl ?_
      obtain ⟨hc, hT⟩ := hT
      obtain ⟨cc, hcc⟩ := hW.ocell hc
      refine c_invV (vs := [.int b2]) dX2_isWord_49 oJ3_charAt q733 q732 hcc q734 (Or.inl rfl) rfl rfl (Nat.le_of_ble_eq_true rfl) rfl hW hF hT ?_ ?_
      · intro _ s8 f9 hT h hW hF
        obtain ⟨v10, rfl, hT⟩ := hT
        refine x_icmp_eq (tgt := 57) dX2_isWord_52 rfl (fun c => ?_) (fun c => ?_)
        · replace hT := hT.1 c
          refine x_iinc (lo' := [some (.ref (w.1 2)), some (.ref b1), some (.int (b2 + 1))]) dX2_isWord_57 rfl (show _ = (b2 + 1) from rfl) rfl ?_
          refine x_goto (tgt := 28) dX2_isWord_60 rfl ?_
          exact hT f0 h hW hF
        · replace hT := hT.2 c
          refine x_iconst (v := 0) dX2_isWord_55 rfl ?_
          exact x_iret dX2_isWord_56 rfl rfl ⟨_, _, hW, hF, Or.inl ⟨_, rfl, hT⟩⟩
      · intro k s8 f9 hT h a hW hx hF
        exact c_out (rfl) hW hx hF hT
  · intro k s5 f6 hT h a hW hx hF
    exact c_out (rfl) hW hx hF hT
theorem vX2_name_0 {l : Launch} {E : EN} {w : CO} {d : Nat} {s : CS} {f : RH} {Q : KO → CS → RH → Prop}   (hT : (∀ y1 : Int32, y1 = (s.1 21) → ExC l E w d MX2_name 7 [some (.ref (w.1 2)), some (.long 0), none, some (.int y1)] [] s f Q)) : ExC l E w d MX2_name 0 [some (.ref (w.1 2)), none, none, none] [] s f Q := by
  intro f0 h hW hF
  refine x_lconst (v := 0) dX2_name_0 rfl ?_
  refine x_lstore_n (lo' := [some (.ref (w.1 2)), some (.long 0), none, none]) dX2_name_1 rfl (Nat.le_of_ble_eq_true rfl) rfl ?_
  refine x_aload_n dX2_name_2 rfl rfl rfl ?_
  refine c_getI (v := (s.1 21)) dX2_name_3 f_TallySlate_Scanner_47 (by decide) (by decide) rfl hW rfl ?_
  obtain ⟨y1, ey1⟩ : ∃ z : Int32, z = (s.1 21) := ⟨_, rfl⟩
  replace hT := hT y1 ey1
  refine x_istore_n (lo' := [some (.ref (w.1 2)), some (.long 0), none, some (.int y1)]) dX2_name_6 rfl (Nat.le_of_ble_eq_true rfl) (by rw [ey1]; exact rfl) ?_
  exact hT f0 h hW hF
theorem eX2_name {l : Launch} {E : EN} {w : CO} {d : Nat} {s : CS} {f : RH} {Q : KO → CS → RH → Prop}   (hst : l.stackTraces = false) (hT : (∀ y1 : Int32, y1 = (s.1 21) → ExC l E w d MX2_name 7 [some (.ref (w.1 2)), some (.long 0), none, some (.int y1)] [] s f Q)) : EvC l E w d MX2_name [.ref (w.1 2)] s f Q :=
  EvC.of hst (by decide) (Nat.le_of_ble_eq_true rfl) (vX2_name_0  hT)
theorem vX2_name_7 {l : Launch} {E : EN} {w : CO} {d : Nat} {s : CS} {f : RH} {Q : KO → CS → RH → Prop} {b1 : Int64} {b3 : Int32}  (hT : (((s.1 19) ≤ b3 → Q (.inl (some (.long b1))) s f) ∧ (¬ (s.1 19) ≤ b3 → (inB b3 1600 ∧ (∀ y2 : Int64, y2 = (((32 * b1) + (s.2.2.1 17 b3.toNatClampNeg).toInt64) - 96) → ExC l E w d MX2_name 7 [some (.ref (w.1 2)), some (.long y2), none, some (.int (b3 + 1))] [] s f Q))))) : ExC l E w d MX2_name 7 [some (.ref (w.1 2)), some (.long b1), none, some (.int b3)] [] s f Q := by
  intro f0 h hW hF
  refine x_iload_n dX2_name_7 rfl rfl ?_
  refine x_aload_n dX2_name_8 rfl rfl rfl ?_
  refine c_getI (v := (s.1 19)) dX2_name_9 f_TallySlate_Scanner_37 (by decide) (by decide) rfl hW rfl ?_
  refine x_icmp_ge (tgt := 39) dX2_name_12 rfl (fun c => ?_) (fun c => ?_)
  · replace hT := hT.1 c
    refine x_lload_n dX2_name_39 rfl rfl ?_
    exact x_lret dX2_name_40 rfl ⟨_, _, hW, hF, Or.inl ⟨_, rfl, hT⟩⟩
  · replace hT := hT.2 c
    refine x_ldc2 dX2_name_15 q809 ?_
    refine x_lload_n dX2_name_18 rfl rfl ?_
    refine x_lmul dX2_name_19 ?_
    refine x_aload_n dX2_name_20 rfl rfl rfl ?_
    refine c_getA dX2_name_21 f_TallySlate_Scanner_9 (by decide) (by decide) rfl hW ?_
    refine x_iload_n dX2_name_24 rfl rfl ?_
    obtain ⟨hb, hT⟩ := hT
    refine c_bald (v := (s.2.2.1 17 b3.toNatClampNeg)) dX2_name_25 rfl (by decide) hb hW rfl ?_
    refine x_i2l dX2_name_26 ?_
    refine x_ladd dX2_name_27 ?_
    refine x_ldc2 dX2_name_28 q810 ?_
    refine x_lsub dX2_name_31 ?_
    obtain ⟨y2, ey2⟩ : ∃ z : Int64, z = (((32 * b1) + (s.2.2.1 17 b3.toNatClampNeg).toInt64) - 96) := ⟨_, rfl⟩
    replace hT := hT y2 ey2
    refine x_lstore_n (lo' := [some (.ref (w.1 2)), some (.long y2), none, some (.int b3)]) dX2_name_32 rfl (Nat.le_of_ble_eq_true rfl) (by rw [ey2]; exact rfl) ?_
    refine x_iinc (lo' := [some (.ref (w.1 2)), some (.long y2), none, some (.int (b3 + 1))]) dX2_name_33 rfl (show _ = (b3 + 1) from rfl) rfl ?_
    refine x_goto (tgt := 7) dX2_name_36 rfl ?_
    exact hT f0 h hW hF
set_option maxHeartbeats 16000000 in
theorem vX2_take_0 {l : Launch} {E : EN} {w : CO} {d : Nat} {s : CS} {f : RH} {Q : KO → CS → RH → Prop} {x1 : Int32}  (hT : (EvC l E w d MX2_is [.ref (w.1 2), .int x1] s f (fun o s1 f2 => KP o (fun r => ∃ v3 : Int32, r = some (.int v3) ∧ ((¬ v3 = 0 → ((x1 = 40 → ExC l E w (d + 1) MX2_take 46 [some (.ref (w.1 2)), some (.int x1)] [] (uI s1 23 ((s1.1 23) + 1)) f2 Q) ∧ (¬ x1 = 40 → ((x1 = 91 → ExC l E w (d + 1) MX2_take 46 [some (.ref (w.1 2)), some (.int x1)] [] (uI s1 23 ((s1.1 23) + 1)) f2 Q) ∧ (¬ x1 = 91 → ((¬ x1 = 123 → ExC l E w (d + 1) MX2_take 46 [some (.ref (w.1 2)), some (.int x1)] [] s1 f2 Q) ∧ (x1 = 123 → ExC l E w (d + 1) MX2_take 46 [some (.ref (w.1 2)), some (.int x1)] [] (uI s1 23 ((s1.1 23) + 1)) f2 Q))))))) ∧ (v3 = 0 → (EvC l E w d MX2_wrong [.ref (w.1 2), .int 2, .int (s1.1 21)] s1 f2 (fun o s4 f5 => KP o (fun r => r = some (.ref (w.1 1)) ∧ Q (.inr 1) s4 f5) (fun k => Q (.inr k) s4 f5)))))) (fun k => Q (.inr k) s1 f2)))) : ExC l E w (d + 1) MX2_take 0 [some (.ref (w.1 2)), some (.int x1)] [] s f Q := by
  intro f0 h hW hF
  refine x_aload_n dX2_take_0 rfl rfl rfl ?_
  refine x_iload_n dX2_take_1 rfl rfl ?_
  obtain ⟨-, -, cc, hcc, -⟩ := hW.ob 2 (by decide)
  refine c_invV (vs := [.int x1]) dX2_take_2 oX2_is q820 q819 hcc q821 (Or.inl rfl) rfl rfl (Nat.le_of_ble_eq_true rfl) rfl hW hF hT ?_ ?_
  · intro _ s1 f2 hT h hW hF
    obtain ⟨v3, rfl, hT⟩ := hT
    refine x_if_ne (tgt := 18) dX2_take_5 rfl (fun c => ?_) (fun c => ?_)
    · replace hT := hT.1 c
      refine x_iload_n dX2_take_18 rfl rfl ?_
      refine x_bipush (v := 40) dX2_take_19 rfl ?_
      refine x_icmp_eq (tgt := 36) dX2_take_21 rfl (fun c => ?_) (fun c => ?_)
      · replace hT := hT.1 c
        refine x_aload_n dX2_take_36 rfl rfl rfl ?_
        refine x_dup dX2_take_37 rfl ?_
        refine c_getI (v := (s1.1 23)) dX2_take_38 f_TallySlate_Scanner_40 (by decide) (by decide) rfl hW rfl ?_
        refine x_iconst (v := 1) dX2_take_41 rfl ?_
        refine x_iadd dX2_take_42 ?_
        refine c_putI dX2_take_43 f_TallySlate_Scanner_40 (by decide) (by decide) rfl rfl rfl rfl hW ?_
        intro h hW
        exact hT f0 h hW hF
      · replace hT := hT.2 c
        refine x_iload_n dX2_take_24 rfl rfl ?_
        refine x_bipush (v := 91) dX2_take_25 rfl ?_
        refine x_icmp_eq (tgt := 36) dX2_take_27 rfl (fun c => ?_) (fun c => ?_)
        · replace hT := hT.1 c
          refine x_aload_n dX2_take_36 rfl rfl rfl ?_
          refine x_dup dX2_take_37 rfl ?_
          refine c_getI (v := (s1.1 23)) dX2_take_38 f_TallySlate_Scanner_40 (by decide) (by decide) rfl hW rfl ?_
          refine x_iconst (v := 1) dX2_take_41 rfl ?_
          refine x_iadd dX2_take_42 ?_
          refine c_putI dX2_take_43 f_TallySlate_Scanner_40 (by decide) (by decide) rfl rfl rfl rfl hW ?_
          intro h hW
          exact hT f0 h hW hF
        · replace hT := hT.2 c
          refine x_iload_n dX2_take_30 rfl rfl ?_
          refine x_bipush (v := 123) dX2_take_31 rfl ?_
          refine x_icmp_ne (tgt := 46) dX2_take_33 rfl (fun c => ?_) (fun c => ?_)
          · replace hT := hT.1 c
            exact hT f0 h hW hF
          · replace hT := hT.2 c
            refine x_aload_n dX2_take_36 rfl rfl rfl ?_
            refine x_dup dX2_take_37 rfl ?_
            refine c_getI (v := (s1.1 23)) dX2_take_38 f_TallySlate_Scanner_40 (by decide) (by decide) rfl hW rfl ?_
            refine x_iconst (v := 1) dX2_take_41 rfl ?_
            refine x_iadd dX2_take_42 ?_
            refine c_putI dX2_take_43 f_TallySlate_Scanner_40 (by decide) (by decide) rfl rfl rfl rfl hW ?_
            intro h hW
            exact hT f0 h hW hF
    · replace hT := hT.2 c
      refine x_aload_n dX2_take_8 rfl rfl rfl ?_
      refine x_iconst (v := 2) dX2_take_9 rfl ?_
      refine x_aload_n dX2_take_10 rfl rfl rfl ?_
      refine c_getI (v := (s1.1 21)) dX2_take_11 f_TallySlate_Scanner_47 (by decide) (by decide) rfl hW rfl ?_
      obtain ⟨-, -, cc, hcc, -⟩ := hW.ob 2 (by decide)
      refine c_invV (vs := [.int 2, .int (s1.1 21)]) dX2_take_14 oX2_wrong q564 q624 hcc q565 (Or.inl rfl) rfl rfl (Nat.le_of_ble_eq_true rfl) rfl hW hF hT ?_ ?_
      · intro _ s4 f5 hT h hW hF
        obtain ⟨rfl, hT⟩ := hT
        refine x_athrow dX2_take_17 ?_
        exact c_out (rfl) hW (Or.inr (Or.inl ⟨rfl, rfl⟩)) hF hT
      · intro k s4 f5 hT h a hW hx hF
        exact c_out (rfl) hW hx hF hT
  · intro k s1 f2 hT h a hW hx hF
    exact c_out (rfl) hW hx hF hT
theorem eX2_take {l : Launch} {E : EN} {w : CO} {d : Nat} {s : CS} {f : RH} {Q : KO → CS → RH → Prop} {x1 : Int32}  (hst : l.stackTraces = false) (hT : (EvC l E w d MX2_is [.ref (w.1 2), .int x1] s f (fun o s1 f2 => KP o (fun r => ∃ v3 : Int32, r = some (.int v3) ∧ ((¬ v3 = 0 → ((x1 = 40 → ExC l E w (d + 1) MX2_take 46 [some (.ref (w.1 2)), some (.int x1)] [] (uI s1 23 ((s1.1 23) + 1)) f2 Q) ∧ (¬ x1 = 40 → ((x1 = 91 → ExC l E w (d + 1) MX2_take 46 [some (.ref (w.1 2)), some (.int x1)] [] (uI s1 23 ((s1.1 23) + 1)) f2 Q) ∧ (¬ x1 = 91 → ((¬ x1 = 123 → ExC l E w (d + 1) MX2_take 46 [some (.ref (w.1 2)), some (.int x1)] [] s1 f2 Q) ∧ (x1 = 123 → ExC l E w (d + 1) MX2_take 46 [some (.ref (w.1 2)), some (.int x1)] [] (uI s1 23 ((s1.1 23) + 1)) f2 Q))))))) ∧ (v3 = 0 → (EvC l E w d MX2_wrong [.ref (w.1 2), .int 2, .int (s1.1 21)] s1 f2 (fun o s4 f5 => KP o (fun r => r = some (.ref (w.1 1)) ∧ Q (.inr 1) s4 f5) (fun k => Q (.inr k) s4 f5)))))) (fun k => Q (.inr k) s1 f2)))) : EvC l E w (d + 1) MX2_take [.ref (w.1 2), .int x1] s f Q :=
  EvC.of hst (by decide) (Nat.le_of_ble_eq_true rfl) (vX2_take_0  hT)
set_option maxHeartbeats 16000000 in
theorem vX2_take_46 {l : Launch} {E : EN} {w : CO} {d : Nat} {s : CS} {f : RH} {Q : KO → CS → RH → Prop} {b1 : Int32}  (hT : ((b1 = 41 → ((((s.1 23) - 1) ≤ 10 → (EvC l E w d MX2_next [.ref (w.1 2)] (uI s 23 ((s.1 23) - 1)) f (fun o s6 f7 => KP o (fun r => r = none ∧ Q (.inl none) s6 f7) (fun k => Q (.inr k) s6 f7)))) ∧ (¬ ((s.1 23) - 1) ≤ 10 → (EvC l E w d MX2_wrong [.ref (w.1 2), .int 3, .int (s.1 21)] (uI s 23 ((s.1 23) - 1)) f (fun o s8 f9 => KP o (fun r => r = some (.ref (w.1 1)) ∧ Q (.inr 1) s8 f9) (fun k => Q (.inr k) s8 f9)))))) ∧ (¬ b1 = 41 → ((b1 = 93 → ((((s.1 23) - 1) ≤ 10 → (EvC l E w d MX2_next [.ref (w.1 2)] (uI s 23 ((s.1 23) - 1)) f (fun o s10 f11 => KP o (fun r => r = none ∧ Q (.inl none) s10 f11) (fun k => Q (.inr k) s10 f11)))) ∧ (¬ ((s.1 23) - 1) ≤ 10 → (EvC l E w d MX2_wrong [.ref (w.1 2), .int 3, .int (s.1 21)] (uI s 23 ((s.1 23) - 1)) f (fun o s12 f13 => KP o (fun r => r = some (.ref (w.1 1)) ∧ Q (.inr 1) s12 f13) (fun k => Q (.inr k) s12 f13)))))) ∧ (¬ b1 = 93 → ((¬ b1 = 125 → (((s.1 23) ≤ 10 → (EvC l E w d MX2_next [.ref (w.1 2)] s f (fun o s14 f15 => KP o (fun r => r = none ∧ Q (.inl none) s14 f15) (fun k => Q (.inr k) s14 f15)))) ∧ (¬ (s.1 23) ≤ 10 → (EvC l E w d MX2_wrong [.ref (w.1 2), .int 3, .int (s.1 21)] s f (fun o s16 f17 => KP o (fun r => r = some (.ref (w.1 1)) ∧ Q (.inr 1) s16 f17) (fun k => Q (.inr k) s16 f17)))))) ∧ (b1 = 125 → ((((s.1 23) - 1) ≤ 10 → (EvC l E w d MX2_next [.ref (w.1 2)] (uI s 23 ((s.1 23) - 1)) f (fun o s18 f19 => KP o (fun r => r = none ∧ Q (.inl none) s18 f19) (fun k => Q (.inr k) s18 f19)))) ∧ (¬ ((s.1 23) - 1) ≤ 10 → (EvC l E w d MX2_wrong [.ref (w.1 2), .int 3, .int (s.1 21)] (uI s 23 ((s.1 23) - 1)) f (fun o s20 f21 => KP o (fun r => r = some (.ref (w.1 1)) ∧ Q (.inr 1) s20 f21) (fun k => Q (.inr k) s20 f21)))))))))))) : ExC l E w (d + 1) MX2_take 46 [some (.ref (w.1 2)), some (.int b1)] [] s f Q := by
  intro f0 h hW hF
  refine x_iload_n dX2_take_46 rfl rfl ?_
  refine x_bipush (v := 41) dX2_take_47 rfl ?_
  refine x_icmp_eq (tgt := 64) dX2_take_49 rfl (fun c => ?_) (fun c => ?_)
  · replace hT := hT.1 c
    refine x_aload_n dX2_take_64 rfl rfl rfl ?_
    refine x_dup dX2_take_65 rfl ?_
    refine c_getI (v := (s.1 23)) dX2_take_66 f_TallySlate_Scanner_40 (by decide) (by decide) rfl hW rfl ?_
    refine x_iconst (v := 1) dX2_take_69 rfl ?_
    refine x_isub dX2_take_70 ?_
    refine c_putI dX2_take_71 f_TallySlate_Scanner_40 (by decide) (by decide) rfl rfl rfl rfl hW ?_
    intro h hW
    refine x_aload_n dX2_take_74 rfl rfl rfl ?_
    refine c_getI (v := ((s.1 23) - 1)) dX2_take_75 f_TallySlate_Scanner_40 (by decide) (by decide) rfl hW rfl ?_
    refine x_bipush (v := 10) dX2_take_78 rfl ?_
    refine x_icmp_le (tgt := 93) dX2_take_80 rfl (fun c => ?_) (fun c => ?_)
    · replace hT := hT.1 c
      refine x_aload_n dX2_take_93 rfl rfl rfl ?_
      obtain ⟨-, -, cc, hcc, -⟩ := hW.ob 2 (by decide)
      refine c_invV (vs := []) dX2_take_94 oX2_next q610 q823 hcc q611 (Or.inl rfl) rfl rfl (Nat.le_of_ble_eq_true rfl) rfl hW hF hT ?_ ?_
      · intro _ s6 f7 hT h hW hF
        obtain ⟨rfl, hT⟩ := hT
        exact x_vret dX2_take_97 rfl ⟨_, _, hW, hF, Or.inl ⟨_, rfl, hT⟩⟩
      · intro k s6 f7 hT h a hW hx hF
        exact c_out (rfl) hW hx hF hT
    · replace hT := hT.2 c
      refine x_aload_n dX2_take_83 rfl rfl rfl ?_
      refine x_iconst (v := 3) dX2_take_84 rfl ?_
      refine x_aload_n dX2_take_85 rfl rfl rfl ?_
      refine c_getI (v := (s.1 21)) dX2_take_86 f_TallySlate_Scanner_47 (by decide) (by decide) rfl hW rfl ?_
      obtain ⟨-, -, cc, hcc, -⟩ := hW.ob 2 (by decide)
      refine c_invV (vs := [.int 3, .int (s.1 21)]) dX2_take_89 oX2_wrong q564 q624 hcc q565 (Or.inl rfl) rfl rfl (Nat.le_of_ble_eq_true rfl) rfl hW hF hT ?_ ?_
      · intro _ s8 f9 hT h hW hF
        obtain ⟨rfl, hT⟩ := hT
        refine x_athrow dX2_take_92 ?_
        exact c_out (rfl) hW (Or.inr (Or.inl ⟨rfl, rfl⟩)) hF hT
      · intro k s8 f9 hT h a hW hx hF
        exact c_out (rfl) hW hx hF hT
  · replace hT := hT.2 c
    refine x_iload_n dX2_take_52 rfl rfl ?_
    refine x_bipush (v := 93) dX2_take_53 rfl ?_
    refine x_icmp_eq (tgt := 64) dX2_take_55 rfl (fun c => ?_) (fun c => ?_)
    · replace hT := hT.1 c
      refine x_aload_n dX2_take_64 rfl rfl rfl ?_
      refine x_dup dX2_take_65 rfl ?_
      refine c_getI (v := (s.1 23)) dX2_take_66 f_TallySlate_Scanner_40 (by decide) (by decide) rfl hW rfl ?_
      refine x_iconst (v := 1) dX2_take_69 rfl ?_
      refine x_isub dX2_take_70 ?_
      refine c_putI dX2_take_71 f_TallySlate_Scanner_40 (by decide) (by decide) rfl rfl rfl rfl hW ?_
      intro h hW
      refine x_aload_n dX2_take_74 rfl rfl rfl ?_
      refine c_getI (v := ((s.1 23) - 1)) dX2_take_75 f_TallySlate_Scanner_40 (by decide) (by decide) rfl hW rfl ?_
      refine x_bipush (v := 10) dX2_take_78 rfl ?_
      refine x_icmp_le (tgt := 93) dX2_take_80 rfl (fun c => ?_) (fun c => ?_)
      · replace hT := hT.1 c
        refine x_aload_n dX2_take_93 rfl rfl rfl ?_
        obtain ⟨-, -, cc, hcc, -⟩ := hW.ob 2 (by decide)
        refine c_invV (vs := []) dX2_take_94 oX2_next q610 q823 hcc q611 (Or.inl rfl) rfl rfl (Nat.le_of_ble_eq_true rfl) rfl hW hF hT ?_ ?_
        · intro _ s10 f11 hT h hW hF
          obtain ⟨rfl, hT⟩ := hT
          exact x_vret dX2_take_97 rfl ⟨_, _, hW, hF, Or.inl ⟨_, rfl, hT⟩⟩
        · intro k s10 f11 hT h a hW hx hF
          exact c_out (rfl) hW hx hF hT
      · replace hT := hT.2 c
        refine x_aload_n dX2_take_83 rfl rfl rfl ?_
        refine x_iconst (v := 3) dX2_take_84 rfl ?_
        refine x_aload_n dX2_take_85 rfl rfl rfl ?_
        refine c_getI (v := (s.1 21)) dX2_take_86 f_TallySlate_Scanner_47 (by decide) (by decide) rfl hW rfl ?_
        obtain ⟨-, -, cc, hcc, -⟩ := hW.ob 2 (by decide)
        refine c_invV (vs := [.int 3, .int (s.1 21)]) dX2_take_89 oX2_wrong q564 q624 hcc q565 (Or.inl rfl) rfl rfl (Nat.le_of_ble_eq_true rfl) rfl hW hF hT ?_ ?_
        · intro _ s12 f13 hT h hW hF
          obtain ⟨rfl, hT⟩ := hT
          refine x_athrow dX2_take_92 ?_
          exact c_out (rfl) hW (Or.inr (Or.inl ⟨rfl, rfl⟩)) hF hT
        · intro k s12 f13 hT h a hW hx hF
          exact c_out (rfl) hW hx hF hT
    · replace hT := hT.2 c
      refine x_iload_n dX2_take_58 rfl rfl ?_
      refine x_bipush (v := 125) dX2_take_59 rfl ?_
      refine x_icmp_ne (tgt := 74) dX2_take_61 rfl (fun c => ?_) (fun c => ?_)
      · replace hT := hT.1 c
        refine x_aload_n dX2_take_74 rfl rfl rfl ?_
        refine c_getI (v := (s.1 23)) dX2_take_75 f_TallySlate_Scanner_40 (by decide) (by decide) rfl hW rfl ?_
        refine x_bipush (v := 10) dX2_take_78 rfl ?_
        refine x_icmp_le (tgt := 93) dX2_take_80 rfl (fun c => ?_) (fun c => ?_)
        · replace hT := hT.1 c
          refine x_aload_n dX2_take_93 rfl rfl rfl ?_
          obtain ⟨-, -, cc, hcc, -⟩ := hW.ob 2 (by decide)
          refine c_invV (vs := []) dX2_take_94 oX2_next q610 q823 hcc q611 (Or.inl rfl) rfl rfl (Nat.le_of_ble_eq_true rfl) rfl hW hF hT ?_ ?_
          · intro _ s14 f15 hT h hW hF
            obtain ⟨rfl, hT⟩ := hT
            exact x_vret dX2_take_97 rfl ⟨_, _, hW, hF, Or.inl ⟨_, rfl, hT⟩⟩
          · intro k s14 f15 hT h a hW hx hF
            exact c_out (rfl) hW hx hF hT
        · replace hT := hT.2 c
          refine x_aload_n dX2_take_83 rfl rfl rfl ?_
          refine x_iconst (v := 3) dX2_take_84 rfl ?_
          refine x_aload_n dX2_take_85 rfl rfl rfl ?_
          refine c_getI (v := (s.1 21)) dX2_take_86 f_TallySlate_Scanner_47 (by decide) (by decide) rfl hW rfl ?_
          obtain ⟨-, -, cc, hcc, -⟩ := hW.ob 2 (by decide)
          refine c_invV (vs := [.int 3, .int (s.1 21)]) dX2_take_89 oX2_wrong q564 q624 hcc q565 (Or.inl rfl) rfl rfl (Nat.le_of_ble_eq_true rfl) rfl hW hF hT ?_ ?_
          · intro _ s16 f17 hT h hW hF
            obtain ⟨rfl, hT⟩ := hT
            refine x_athrow dX2_take_92 ?_
            exact c_out (rfl) hW (Or.inr (Or.inl ⟨rfl, rfl⟩)) hF hT
          · intro k s16 f17 hT h a hW hx hF
            exact c_out (rfl) hW hx hF hT
      · replace hT := hT.2 c
        refine x_aload_n dX2_take_64 rfl rfl rfl ?_
        refine x_dup dX2_take_65 rfl ?_
        refine c_getI (v := (s.1 23)) dX2_take_66 f_TallySlate_Scanner_40 (by decide) (by decide) rfl hW rfl ?_
        refine x_iconst (v := 1) dX2_take_69 rfl ?_
        refine x_isub dX2_take_70 ?_
        refine c_putI dX2_take_71 f_TallySlate_Scanner_40 (by decide) (by decide) rfl rfl rfl rfl hW ?_
        intro h hW
        refine x_aload_n dX2_take_74 rfl rfl rfl ?_
        refine c_getI (v := ((s.1 23) - 1)) dX2_take_75 f_TallySlate_Scanner_40 (by decide) (by decide) rfl hW rfl ?_
        refine x_bipush (v := 10) dX2_take_78 rfl ?_
        refine x_icmp_le (tgt := 93) dX2_take_80 rfl (fun c => ?_) (fun c => ?_)
        · replace hT := hT.1 c
          refine x_aload_n dX2_take_93 rfl rfl rfl ?_
          obtain ⟨-, -, cc, hcc, -⟩ := hW.ob 2 (by decide)
          refine c_invV (vs := []) dX2_take_94 oX2_next q610 q823 hcc q611 (Or.inl rfl) rfl rfl (Nat.le_of_ble_eq_true rfl) rfl hW hF hT ?_ ?_
          · intro _ s18 f19 hT h hW hF
            obtain ⟨rfl, hT⟩ := hT
            exact x_vret dX2_take_97 rfl ⟨_, _, hW, hF, Or.inl ⟨_, rfl, hT⟩⟩
          · intro k s18 f19 hT h a hW hx hF
            exact c_out (rfl) hW hx hF hT
        · replace hT := hT.2 c
          refine x_aload_n dX2_take_83 rfl rfl rfl ?_
          refine x_iconst (v := 3) dX2_take_84 rfl ?_
          refine x_aload_n dX2_take_85 rfl rfl rfl ?_
          refine c_getI (v := (s.1 21)) dX2_take_86 f_TallySlate_Scanner_47 (by decide) (by decide) rfl hW rfl ?_
          obtain ⟨-, -, cc, hcc, -⟩ := hW.ob 2 (by decide)
          refine c_invV (vs := [.int 3, .int (s.1 21)]) dX2_take_89 oX2_wrong q564 q624 hcc q565 (Or.inl rfl) rfl rfl (Nat.le_of_ble_eq_true rfl) rfl hW hF hT ?_ ?_
          · intro _ s20 f21 hT h hW hF
            obtain ⟨rfl, hT⟩ := hT
            refine x_athrow dX2_take_92 ?_
            exact c_out (rfl) hW (Or.inr (Or.inl ⟨rfl, rfl⟩)) hF hT
          · intro k s20 f21 hT h a hW hx hF
            exact c_out (rfl) hW hx hF hT
theorem vX2_is_0 {l : Launch} {E : EN} {w : CO} {d : Nat} {s : CS} {f : RH} {Q : KO → CS → RH → Prop} {x1 : Int32}  (hT : ((¬ (s.1 20) = 3 → Q (.inl (some (.int 0))) s f) ∧ ((s.1 20) = 3 → ((¬ (s.1 22) = x1 → Q (.inl (some (.int 0))) s f) ∧ ((s.1 22) = x1 → Q (.inl (some (.int 1))) s f))))) : ExC l E w d MX2_is 0 [some (.ref (w.1 2)), some (.int x1)] [] s f Q := by
  intro f0 h hW hF
  refine x_aload_n dX2_is_0 rfl rfl rfl ?_
  refine c_getI (v := (s.1 20)) dX2_is_1 f_TallySlate_Scanner_48 (by decide) (by decide) rfl hW rfl ?_
  refine x_iconst (v := 3) dX2_is_4 rfl ?_
  refine x_icmp_ne (tgt := 20) dX2_is_5 rfl (fun c => ?_) (fun c => ?_)
  · replace hT := hT.1 c
    refine x_iconst (v := 0) dX2_is_20 rfl ?_
    exact x_iret dX2_is_21 rfl rfl ⟨_, _, hW, hF, Or.inl ⟨_, rfl, hT⟩⟩
  · replace hT := hT.2 c
    refine x_aload_n dX2_is_8 rfl rfl rfl ?_
    refine c_getI (v := (s.1 22)) dX2_is_9 f_TallySlate_Scanner_78 (by decide) (by decide) rfl hW rfl ?_
    refine x_iload_n dX2_is_12 rfl rfl ?_
    refine x_icmp_ne (tgt := 20) dX2_is_13 rfl (fun c => ?_) (fun c => ?_)
    · replace hT := hT.1 c
      refine x_iconst (v := 0) dX2_is_20 rfl ?_
      exact x_iret dX2_is_21 rfl rfl ⟨_, _, hW, hF, Or.inl ⟨_, rfl, hT⟩⟩
    · replace hT := hT.2 c
      refine x_iconst (v := 1) dX2_is_16 rfl ?_
      refine x_goto (tgt := 21) dX2_is_17 rfl ?_
      exact x_iret dX2_is_21 rfl rfl ⟨_, _, hW, hF, Or.inl ⟨_, rfl, hT⟩⟩
theorem eX2_is {l : Launch} {E : EN} {w : CO} {d : Nat} {s : CS} {f : RH} {Q : KO → CS → RH → Prop} {x1 : Int32}  (hst : l.stackTraces = false) (hT : ((¬ (s.1 20) = 3 → Q (.inl (some (.int 0))) s f) ∧ ((s.1 20) = 3 → ((¬ (s.1 22) = x1 → Q (.inl (some (.int 0))) s f) ∧ ((s.1 22) = x1 → Q (.inl (some (.int 1))) s f))))) : EvC l E w d MX2_is [.ref (w.1 2), .int x1] s f Q :=
  EvC.of hst (by decide) (Nat.le_of_ble_eq_true rfl) (vX2_is_0  hT)
theorem vX2_isCalled_0 {l : Launch} {E : EN} {w : CO} {d : Nat} {s : CS} {f : RH} {Q : KO → CS → RH → Prop}   (hT : (∀ y1 : Int32, y1 = (s.1 19) → ExC l E w (d + 1) MX2_isCalled 5 [some (.ref (w.1 2)), some (.int y1)] [] s f Q)) : ExC l E w (d + 1) MX2_isCalled 0 [some (.ref (w.1 2)), none] [] s f Q := by
  intro f0 h hW hF
  refine x_aload_n dX2_isCalled_0 rfl rfl rfl ?_
  refine c_getI (v := (s.1 19)) dX2_isCalled_1 f_TallySlate_Scanner_37 (by decide) (by decide) rfl hW rfl ?_
  obtain ⟨y1, ey1⟩ : ∃ z : Int32, z = (s.1 19) := ⟨_, rfl⟩
  replace hT := hT y1 ey1
  refine x_istore_n (lo' := [some (.ref (w.1 2)), some (.int y1)]) dX2_isCalled_4 rfl (Nat.le_of_ble_eq_true rfl) (by rw [ey1]; exact rfl) ?_
  exact hT f0 h hW hF
theorem eX2_isCalled {l : Launch} {E : EN} {w : CO} {d : Nat} {s : CS} {f : RH} {Q : KO → CS → RH → Prop}   (hst : l.stackTraces = false) (hT : (∀ y1 : Int32, y1 = (s.1 19) → ExC l E w (d + 1) MX2_isCalled 5 [some (.ref (w.1 2)), some (.int y1)] [] s f Q)) : EvC l E w (d + 1) MX2_isCalled [.ref (w.1 2)] s f Q :=
  EvC.of hst (by decide) (Nat.le_of_ble_eq_true rfl) (vX2_isCalled_0  hT)
set_option maxHeartbeats 16000000 in
theorem vX2_isCalled_5 {l : Launch} {E : EN} {w : CO} {d : Nat} {s : CS} {f : RH} {Q : KO → CS → RH → Prop} {b1 : Int32}  (hT : (((s.1 18) ≤ b1 → (EvC l E w d MX2_look [.ref (w.1 2), .int b1] s f (fun o s2 f3 => KP o (fun r => ∃ v4 : Int32, r = some (.int v4) ∧ ((¬ v4 = 40 → Q (.inl (some (.int 0))) s2 f3) ∧ (v4 = 40 → Q (.inl (some (.int 1))) s2 f3))) (fun k => Q (.inr k) s2 f3)))) ∧ (¬ (s.1 18) ≤ b1 → (EvC l E w d MX2_look [.ref (w.1 2), .int b1] s f (fun o s5 f6 => KP o (fun r => ∃ v7 : Int32, r = some (.int v7) ∧ ((v7 = 32 → (EvC l E w d MX2_look [.ref (w.1 2), .int b1] s5 f6 (fun o s8 f9 => KP o (fun r => ∃ v10 : Int32, r = some (.int v10) ∧ ((¬ v10 = 35 → ExC l E w (d + 1) MX2_isCalled 5 [some (.ref (w.1 2)), some (.int (b1 + 1))] [] s8 f9 Q) ∧ (v10 = 35 → ExC l E w (d + 1) MX2_isCalled 53 [some (.ref (w.1 2)), some (.int b1)] [] s8 f9 Q))) (fun k => Q (.inr k) s8 f9)))) ∧ (¬ v7 = 32 → (EvC l E w d MX2_look [.ref (w.1 2), .int b1] s5 f6 (fun o s11 f12 => KP o (fun r => ∃ v13 : Int32, r = some (.int v13) ∧ ((v13 = 10 → (EvC l E w d MX2_look [.ref (w.1 2), .int b1] s11 f12 (fun o s14 f15 => KP o (fun r => ∃ v16 : Int32, r = some (.int v16) ∧ ((¬ v16 = 35 → ExC l E w (d + 1) MX2_isCalled 5 [some (.ref (w.1 2)), some (.int (b1 + 1))] [] s14 f15 Q) ∧ (v16 = 35 → ExC l E w (d + 1) MX2_isCalled 53 [some (.ref (w.1 2)), some (.int b1)] [] s14 f15 Q))) (fun k => Q (.inr k) s14 f15)))) ∧ (¬ v13 = 10 → (EvC l E w d MX2_look [.ref (w.1 2), .int b1] s11 f12 (fun o s17 f18 => KP o (fun r => ∃ v19 : Int32, r = some (.int v19) ∧ ((¬ v19 = 35 → (EvC l E w d MX2_look [.ref (w.1 2), .int b1] s17 f18 (fun o s20 f21 => KP o (fun r => ∃ v22 : Int32, r = some (.int v22) ∧ ((¬ v22 = 40 → Q (.inl (some (.int 0))) s20 f21) ∧ (v22 = 40 → Q (.inl (some (.int 1))) s20 f21))) (fun k => Q (.inr k) s20 f21)))) ∧ (v19 = 35 → (EvC l E w d MX2_look [.ref (w.1 2), .int b1] s17 f18 (fun o s23 f24 => KP o (fun r => ∃ v25 : Int32, r = some (.int v25) ∧ ((¬ v25 = 35 → ExC l E w (d + 1) MX2_isCalled 5 [some (.ref (w.1 2)), some (.int (b1 + 1))] [] s23 f24 Q) ∧ (v25 = 35 → ExC l E w (d + 1) MX2_isCalled 53 [some (.ref (w.1 2)), some (.int b1)] [] s23 f24 Q))) (fun k => Q (.inr k) s23 f24)))))) (fun k => Q (.inr k) s17 f18)))))) (fun k => Q (.inr k) s11 f12)))))) (fun k => Q (.inr k) s5 f6)))))) : ExC l E w (d + 1) MX2_isCalled 5 [some (.ref (w.1 2)), some (.int b1)] [] s f Q := by
  intro f0 h hW hF
  refine x_iload_n dX2_isCalled_5 rfl rfl ?_
  refine x_aload_n dX2_isCalled_6 rfl rfl rfl ?_
  refine c_getI (v := (s.1 18)) dX2_isCalled_7 f_TallySlate_Scanner_34 (by decide) (by decide) rfl hW rfl ?_
  refine x_icmp_ge (tgt := 83) dX2_isCalled_10 rfl (fun c => ?_) (fun c => ?_)
  · replace hT := hT.1 c
    refine x_aload_n dX2_isCalled_83 rfl rfl rfl ?_
    refine x_iload_n dX2_isCalled_84 rfl rfl ?_
    obtain ⟨-, -, cc, hcc, -⟩ := hW.ob 2 (by decide)
    refine c_invV (vs := [.int b1]) dX2_isCalled_85 oX2_look q615 q613 hcc qs2 (Or.inl rfl) rfl rfl (Nat.le_of_ble_eq_true rfl) rfl hW hF hT ?_ ?_
    · intro _ s2 f3 hT h hW hF
      obtain ⟨v4, rfl, hT⟩ := hT
      refine x_bipush (v := 40) dX2_isCalled_88 rfl ?_
      refine x_icmp_ne (tgt := 97) dX2_isCalled_90 rfl (fun c => ?_) (fun c => ?_)
      · replace hT := hT.1 c
        refine x_iconst (v := 0) dX2_isCalled_97 rfl ?_
        exact x_iret dX2_isCalled_98 rfl rfl ⟨_, _, hW, hF, Or.inl ⟨_, rfl, hT⟩⟩
      · replace hT := hT.2 c
        refine x_iconst (v := 1) dX2_isCalled_93 rfl ?_
        refine x_goto (tgt := 98) dX2_isCalled_94 rfl ?_
        exact x_iret dX2_isCalled_98 rfl rfl ⟨_, _, hW, hF, Or.inl ⟨_, rfl, hT⟩⟩
    · intro k s2 f3 hT h a hW hx hF
      exact c_out (rfl) hW hx hF hT
  · replace hT := hT.2 c
    refine x_aload_n dX2_isCalled_13 rfl rfl rfl ?_
    refine x_iload_n dX2_isCalled_14 rfl rfl ?_
    obtain ⟨-, -, cc, hcc, -⟩ := hW.ob 2 (by decide)
    refine c_invV (vs := [.int b1]) dX2_isCalled_15 oX2_look q615 q613 hcc qs2 (Or.inl rfl) rfl rfl (Nat.le_of_ble_eq_true rfl) rfl hW hF hT ?_ ?_
    · intro _ s5 f6 hT h hW hF
      obtain ⟨v7, rfl, hT⟩ := hT
      refine x_bipush (v := 32) dX2_isCalled_18 rfl ?_
      refine x_icmp_eq (tgt := 43) dX2_isCalled_20 rfl (fun c => ?_) (fun c => ?_)
      · replace hT := hT.1 c
        refine x_aload_n dX2_isCalled_43 rfl rfl rfl ?_
        refine x_iload_n dX2_isCalled_44 rfl rfl ?_
        obtain ⟨-, -, cc, hcc, -⟩ := hW.ob 2 (by decide)
        refine c_invV (vs := [.int b1]) dX2_isCalled_45 oX2_look q615 q613 hcc qs2 (Or.inl rfl) rfl rfl (Nat.le_of_ble_eq_true rfl) rfl hW hF hT ?_ ?_
        · intro _ s8 f9 hT h hW hF
          obtain ⟨v10, rfl, hT⟩ := hT
          refine x_bipush (v := 35) dX2_isCalled_48 rfl ?_
          refine x_icmp_ne (tgt := 77) dX2_isCalled_50 rfl (fun c => ?_) (fun c => ?_)
          · replace hT := hT.1 c
            refine x_iinc (lo' := [some (.ref (w.1 2)), some (.int (b1 + 1))]) dX2_isCalled_77 rfl (show _ = (b1 + 1) from rfl) rfl ?_
            refine x_goto (tgt := 5) dX2_isCalled_80 rfl ?_
            exact hT f0 h hW hF
          · replace hT := hT.2 c
            exact hT f0 h hW hF
        · intro k s8 f9 hT h a hW hx hF
          exact c_out (rfl) hW hx hF hT
      · replace hT := hT.2 c
        refine x_aload_n dX2_isCalled_23 rfl rfl rfl ?_
        refine x_iload_n dX2_isCalled_24 rfl rfl ?_
        obtain ⟨-, -, cc, hcc, -⟩ := hW.ob 2 (by decide)
        refine c_invV (vs := [.int b1]) dX2_isCalled_25 oX2_look q615 q613 hcc qs2 (Or.inl rfl) rfl rfl (Nat.le_of_ble_eq_true rfl) rfl hW hF hT ?_ ?_
        · intro _ s11 f12 hT h hW hF
          obtain ⟨v13, rfl, hT⟩ := hT
          refine x_bipush (v := 10) dX2_isCalled_28 rfl ?_
          refine x_icmp_eq (tgt := 43) dX2_isCalled_30 rfl (fun c => ?_) (fun c => ?_)
          · replace hT := hT.1 c
            refine x_aload_n dX2_isCalled_43 rfl rfl rfl ?_
            refine x_iload_n dX2_isCalled_44 rfl rfl ?_
            obtain ⟨-, -, cc, hcc, -⟩ := hW.ob 2 (by decide)
            refine c_invV (vs := [.int b1]) dX2_isCalled_45 oX2_look q615 q613 hcc qs2 (Or.inl rfl) rfl rfl (Nat.le_of_ble_eq_true rfl) rfl hW hF hT ?_ ?_
            · intro _ s14 f15 hT h hW hF
              obtain ⟨v16, rfl, hT⟩ := hT
              refine x_bipush (v := 35) dX2_isCalled_48 rfl ?_
              refine x_icmp_ne (tgt := 77) dX2_isCalled_50 rfl (fun c => ?_) (fun c => ?_)
              · replace hT := hT.1 c
                refine x_iinc (lo' := [some (.ref (w.1 2)), some (.int (b1 + 1))]) dX2_isCalled_77 rfl (show _ = (b1 + 1) from rfl) rfl ?_
                refine x_goto (tgt := 5) dX2_isCalled_80 rfl ?_
                exact hT f0 h hW hF
              · replace hT := hT.2 c
                exact hT f0 h hW hF
            · intro k s14 f15 hT h a hW hx hF
              exact c_out (rfl) hW hx hF hT
          · replace hT := hT.2 c
            refine x_aload_n dX2_isCalled_33 rfl rfl rfl ?_
            refine x_iload_n dX2_isCalled_34 rfl rfl ?_
            obtain ⟨-, -, cc, hcc, -⟩ := hW.ob 2 (by decide)
            refine c_invV (vs := [.int b1]) dX2_isCalled_35 oX2_look q615 q613 hcc qs2 (Or.inl rfl) rfl rfl (Nat.le_of_ble_eq_true rfl) rfl hW hF hT ?_ ?_
            · intro _ s17 f18 hT h hW hF
              obtain ⟨v19, rfl, hT⟩ := hT
              refine x_bipush (v := 35) dX2_isCalled_38 rfl ?_
              refine x_icmp_ne (tgt := 83) dX2_isCalled_40 rfl (fun c => ?_) (fun c => ?_)
              · replace hT := hT.1 c
                refine x_aload_n dX2_isCalled_83 rfl rfl rfl ?_
                refine x_iload_n dX2_isCalled_84 rfl rfl ?_
                obtain ⟨-, -, cc, hcc, -⟩ := hW.ob 2 (by decide)
                refine c_invV (vs := [.int b1]) dX2_isCalled_85 oX2_look q615 q613 hcc qs2 (Or.inl rfl) rfl rfl (Nat.le_of_ble_eq_true rfl) rfl hW hF hT ?_ ?_
                · intro _ s20 f21 hT h hW hF
                  obtain ⟨v22, rfl, hT⟩ := hT
                  refine x_bipush (v := 40) dX2_isCalled_88 rfl ?_
                  refine x_icmp_ne (tgt := 97) dX2_isCalled_90 rfl (fun c => ?_) (fun c => ?_)
                  · replace hT := hT.1 c
                    refine x_iconst (v := 0) dX2_isCalled_97 rfl ?_
                    exact x_iret dX2_isCalled_98 rfl rfl ⟨_, _, hW, hF, Or.inl ⟨_, rfl, hT⟩⟩
                  · replace hT := hT.2 c
                    refine x_iconst (v := 1) dX2_isCalled_93 rfl ?_
                    refine x_goto (tgt := 98) dX2_isCalled_94 rfl ?_
                    exact x_iret dX2_isCalled_98 rfl rfl ⟨_, _, hW, hF, Or.inl ⟨_, rfl, hT⟩⟩
                · intro k s20 f21 hT h a hW hx hF
                  exact c_out (rfl) hW hx hF hT
              · replace hT := hT.2 c
                refine x_aload_n dX2_isCalled_43 rfl rfl rfl ?_
                refine x_iload_n dX2_isCalled_44 rfl rfl ?_
                obtain ⟨-, -, cc, hcc, -⟩ := hW.ob 2 (by decide)
                refine c_invV (vs := [.int b1]) dX2_isCalled_45 oX2_look q615 q613 hcc qs2 (Or.inl rfl) rfl rfl (Nat.le_of_ble_eq_true rfl) rfl hW hF hT ?_ ?_
                · intro _ s23 f24 hT h hW hF
                  obtain ⟨v25, rfl, hT⟩ := hT
                  refine x_bipush (v := 35) dX2_isCalled_48 rfl ?_
                  refine x_icmp_ne (tgt := 77) dX2_isCalled_50 rfl (fun c => ?_) (fun c => ?_)
                  · replace hT := hT.1 c
                    refine x_iinc (lo' := [some (.ref (w.1 2)), some (.int (b1 + 1))]) dX2_isCalled_77 rfl (show _ = (b1 + 1) from rfl) rfl ?_
                    refine x_goto (tgt := 5) dX2_isCalled_80 rfl ?_
                    exact hT f0 h hW hF
                  · replace hT := hT.2 c
                    exact hT f0 h hW hF
                · intro k s23 f24 hT h a hW hx hF
                  exact c_out (rfl) hW hx hF hT
            · intro k s17 f18 hT h a hW hx hF
              exact c_out (rfl) hW hx hF hT
        · intro k s11 f12 hT h a hW hx hF
          exact c_out (rfl) hW hx hF hT
    · intro k s5 f6 hT h a hW hx hF
      exact c_out (rfl) hW hx hF hT
theorem vX2_isCalled_53 {l : Launch} {E : EN} {w : CO} {d : Nat} {s : CS} {f : RH} {Q : KO → CS → RH → Prop} {b1 : Int32}  (hT : (((s.1 18) ≤ b1 → ExC l E w (d + 1) MX2_isCalled 5 [some (.ref (w.1 2)), some (.int b1)] [] s f Q) ∧ (¬ (s.1 18) ≤ b1 → (EvC l E w d MX2_look [.ref (w.1 2), .int b1] s f (fun o s26 f27 => KP o (fun r => ∃ v28 : Int32, r = some (.int v28) ∧ ((v28 = 10 → ExC l E w (d + 1) MX2_isCalled 5 [some (.ref (w.1 2)), some (.int b1)] [] s26 f27 Q) ∧ (¬ v28 = 10 → ExC l E w (d + 1) MX2_isCalled 53 [some (.ref (w.1 2)), some (.int (b1 + 1))] [] s26 f27 Q))) (fun k => Q (.inr k) s26 f27)))))) : ExC l E w (d + 1) MX2_isCalled 53 [some (.ref (w.1 2)), some (.int b1)] [] s f Q := by
  intro f0 h hW hF
  refine x_iload_n dX2_isCalled_53 rfl rfl ?_
  refine x_aload_n dX2_isCalled_54 rfl rfl rfl ?_
  refine c_getI (v := (s.1 18)) dX2_isCalled_55 f_TallySlate_Scanner_34 (by decide) (by decide) rfl hW rfl ?_
  refine x_icmp_ge (tgt := 5) dX2_isCalled_58 rfl (fun c => ?_) (fun c => ?_)
  · replace hT := hT.1 c
    exact hT f0 h hW hF
  · replace hT := hT.2 c
    refine x_aload_n dX2_isCalled_61 rfl rfl rfl ?_
    refine x_iload_n dX2_isCalled_62 rfl rfl ?_
    obtain ⟨-, -, cc, hcc, -⟩ := hW.ob 2 (by decide)
    refine c_invV (vs := [.int b1]) dX2_isCalled_63 oX2_look q615 q613 hcc qs2 (Or.inl rfl) rfl rfl (Nat.le_of_ble_eq_true rfl) rfl hW hF hT ?_ ?_
    · intro _ s26 f27 hT h hW hF
      obtain ⟨v28, rfl, hT⟩ := hT
      refine x_bipush (v := 10) dX2_isCalled_66 rfl ?_
      refine x_icmp_eq (tgt := 5) dX2_isCalled_68 rfl (fun c => ?_) (fun c => ?_)
      · replace hT := hT.1 c
        exact hT f0 h hW hF
      · replace hT := hT.2 c
        refine x_iinc (lo' := [some (.ref (w.1 2)), some (.int (b1 + 1))]) dX2_isCalled_71 rfl (show _ = (b1 + 1) from rfl) rfl ?_
        refine x_goto (tgt := 53) dX2_isCalled_74 rfl ?_
        exact hT f0 h hW hF
    · intro k s26 f27 hT h a hW hx hF
      exact c_out (rfl) hW hx hF hT
theorem vX20_init_0 {l : Launch} {E : EN} {w : CO} {d : Nat} {s : CS} {f : RH} {Q : KO → CS → RH → Prop} {x0 : Nat} {x1 : Int32}  (hT : (EvC l E w d MX16_init [.ref x0] s f (fun o s1 f2 => KP o (fun r => r = none ∧ (rmF E f2 1 4 ∧ ∀ (a3 : Nat) (f4 : RH), a3 = f2.1 → f4 = fnew f2 17 → (EvC l E w d MX19_init [.ref a3] s1 f4 (fun o s5 f6 => KP o (fun r => r = none ∧ (oc f6 x0 18 ∧ f6.2.2.2 ≤ x0 ∧ ∀ f7 : RH, f7 = fset f6 x0 173 (.ref a3) → (oc f7 x0 18 ∧ f7.2.2.2 ≤ x0 ∧ ∀ f8 : RH, f8 = fset f7 x0 172 (.int x1) → Q (.inl none) s5 f8))) (fun k => Q (.inr k) s5 f6))))) (fun k => Q (.inr k) s1 f2)))) : ExC l E w (d + 1) MX20_init 0 [some (.ref x0), some (.int x1)] [] s f Q := by
  intro f0 h hW hF
  refine x_aload_n dX20_init_0 rfl rfl rfl ?_
  refine c_invI (b := x0) (vs := []) dX20_init_1 oX16_init rfl rfl rfl q917 (Or.inr ⟨_, q1016⟩) rfl rfl (Nat.le_of_ble_eq_true rfl) rfl hW hF hT ?_ ?_
  · intro _ s1 f2 hT h hW hF
    obtain ⟨rfl, hT⟩ := hT
    refine x_aload_n dX20_init_4 rfl rfl rfl ?_
    obtain ⟨hr, hT⟩ := hT
    refine c_newG (k := 17) dX20_init_5 (by decide) q1017 q192 hr hW hF ?_
    intro a3 f4 ea3 ef4 h hW hF
    replace hT := hT a3 f4 ea3 ef4
    refine x_dup dX20_init_8 rfl ?_
    refine c_invI (b := a3) (vs := []) dX20_init_9 oX19_init rfl rfl rfl q953 (Or.inr ⟨_, q1018⟩) rfl rfl (Nat.le_of_ble_eq_true rfl) rfl hW hF hT ?_ ?_
    · intro _ s5 f6 hT h hW hF
      obtain ⟨rfl, hT⟩ := hT
      obtain ⟨hc, hz, hT⟩ := hT
      refine c_fputG dX20_init_12 f_TallySlate_BuiltIn_10 hc (by decide) (by decide) hz (Or.inr ⟨rfl, rfl⟩) rfl rfl hW hF ?_
      intro f7 ef7 h hW hF
      replace hT := hT f7 ef7
      refine x_aload_n dX20_init_15 rfl rfl rfl ?_
      refine x_iload_n dX20_init_16 rfl rfl ?_
      obtain ⟨hc, hz, hT⟩ := hT
      refine c_fputG dX20_init_17 f_TallySlate_BuiltIn_16 hc (by decide) (by decide) hz (Or.inr ⟨rfl, rfl⟩) rfl rfl hW hF ?_
      intro f8 ef8 h hW hF
      replace hT := hT f8 ef8
      exact x_vret dX20_init_20 rfl ⟨_, _, hW, hF, Or.inl ⟨_, rfl, hT⟩⟩
    · intro k s5 f6 hT h a hW hx hF
      exact c_out (rfl) hW hx hF hT
  · intro k s1 f2 hT h a hW hx hF
    exact c_out (rfl) hW hx hF hT
theorem eX20_init {l : Launch} {E : EN} {w : CO} {d : Nat} {s : CS} {f : RH} {Q : KO → CS → RH → Prop} {x0 : Nat} {x1 : Int32}  (hst : l.stackTraces = false) (hT : (EvC l E w d MX16_init [.ref x0] s f (fun o s1 f2 => KP o (fun r => r = none ∧ (rmF E f2 1 4 ∧ ∀ (a3 : Nat) (f4 : RH), a3 = f2.1 → f4 = fnew f2 17 → (EvC l E w d MX19_init [.ref a3] s1 f4 (fun o s5 f6 => KP o (fun r => r = none ∧ (oc f6 x0 18 ∧ f6.2.2.2 ≤ x0 ∧ ∀ f7 : RH, f7 = fset f6 x0 173 (.ref a3) → (oc f7 x0 18 ∧ f7.2.2.2 ≤ x0 ∧ ∀ f8 : RH, f8 = fset f7 x0 172 (.int x1) → Q (.inl none) s5 f8))) (fun k => Q (.inr k) s5 f6))))) (fun k => Q (.inr k) s1 f2)))) : EvC l E w (d + 1) MX20_init [.ref x0, .int x1] s f Q :=
  EvC.of hst (by decide) (Nat.le_of_ble_eq_true rfl) (vX20_init_0  hT)
theorem vX20_work_0 {l : Launch} {E : EN} {w : CO} {d : Nat} {s : CS} {f : RH} {Q : KO → CS → RH → Prop} {x0 : Nat}  (hT : ExC l E w (d + 1) MX20_work 2 [some (.ref x0), some (.ref (w.1 3)), some (.int 0)] [] s f Q) : ExC l E w (d + 1) MX20_work 0 [some (.ref x0), some (.ref (w.1 3)), none] [] s f Q := by
  intro f0 h hW hF
  refine x_iconst (v := 0) dX20_work_0 rfl ?_
  refine x_istore_n (lo' := [some (.ref x0), some (.ref (w.1 3)), some (.int 0)]) dX20_work_1 rfl (Nat.le_of_ble_eq_true rfl) rfl ?_
  exact hT f0 h hW hF
theorem eX20_work {l : Launch} {E : EN} {w : CO} {d : Nat} {s : CS} {f : RH} {Q : KO → CS → RH → Prop} {x0 : Nat}  (hst : l.stackTraces = false) (hT : ExC l E w (d + 1) MX20_work 2 [some (.ref x0), some (.ref (w.1 3)), some (.int 0)] [] s f Q) : EvC l E w (d + 1) MX20_work [.ref x0, .ref (w.1 3)] s f Q :=
  EvC.of hst (by decide) (Nat.le_of_ble_eq_true rfl) (vX20_work_0  hT)
set_option maxHeartbeats 16000000 in
theorem vX20_work_2 {l : Launch} {E : EN} {w : CO} {d : Nat} {s : CS} {f : RH} {Q : KO → CS → RH → Prop} {b0 : Nat} {b2 : Int32}  (hT : (oc f b0 18 ∧ (∃ a1 : Nat, vl f b0 173 = .ref a1 ∧ (oc f a1 17 ∧ (∃ v2 : Int32, vl f a1 171 = .int v2 ∧ ((v2 ≤ b2 → (∃ k3 : Nat, oc f b0 k3 ∧ 165 ∈ CF k3 ∧ ¬ k3 = 30 ∧ (∃ v4 : Int32, vl f b0 165 = .int v4 ∧ (EvC l E w d MX3_step [.ref (w.1 3), .int v4] s f (fun o s5 f6 => KP o (fun r => r = none ∧ (oc f6 b0 18 ∧ (∃ v7 : Int32, vl f6 b0 172 = .int v7 ∧ (oc f6 b0 18 ∧ (∃ a8 : Nat, vl f6 b0 173 = .ref a8 ∧ (oc f6 a8 17 ∧ (∃ v9 : Int32, vl f6 a8 171 = .int v9 ∧ (∃ k10 : Nat, oc f6 b0 k10 ∧ 165 ∈ CF k10 ∧ ¬ k10 = 30 ∧ (∃ v11 : Int32, vl f6 b0 165 = .int v11 ∧ (EvC l E w d MX3_builtIn [.ref (w.1 3), .int v7, .int v9, .int v11] s5 f6 (fun o s12 f13 => KP o (fun r => r = none ∧ Q (.inl none) s12 f13) (fun k => Q (.inr k) s12 f13)))))))))))) (fun k => Q (.inr k) s5 f6)))))) ∧ (¬ v2 ≤ b2 → (oc f b0 18 ∧ (∃ a14 : Nat, vl f b0 173 = .ref a14 ∧ (oc f a14 17 ∧ (∃ a15 : Nat, vl f a14 168 = .ref a15 ∧ (∃ t16 : Nat, 4 ≤ t16 ∧ (tg f a15 = some (.inr t16) ∧ inB b2 (ln f a15) ∧ (∃ a17 : Nat, vl f a15 b2.toNatClampNeg = .ref a17 ∧ (∃ P21 : KO → CS → RH → Prop, (∀ o s18 f19, P21 o s18 f19 → KP o (fun r => r = none ∧ ExC l E w (d + 1) MX20_work 2 [some (.ref b0), some (.ref (w.1 3)), some (.int (b2 + 1))] [] s18 f19 Q) (fun k => Q (.inr k) s18 f19)) ∧ ∃ k20 : Nat, oc f a17 k20 ∧ ((k20 = 15 ∧ EvC l E w d MX17_work [.ref a17, .ref (w.1 3)] s f P21) ∨ (k20 = 16 ∧ EvC l E w d MX18_work [.ref a17, .ref (w.1 3)] s f P21) ∨ (k20 = 18 ∧ EvC l E w d MX20_work [.ref a17, .ref (w.1 3)] s f P21) ∨ (k20 = 19 ∧ EvC l E w d MX21_work [.ref a17, .ref (w.1 3)] s f P21) ∨ (k20 = 20 ∧ EvC l E w d MX22_work [.ref a17, .ref (w.1 3)] s f P21) ∨ (k20 = 21 ∧ EvC l E w d MX23_work [.ref a17, .ref (w.1 3)] s f P21) ∨ (k20 = 22 ∧ EvC l E w d MX24_work [.ref a17, .ref (w.1 3)] s f P21) ∨ (k20 = 23 ∧ EvC l E w d MX25_work [.ref a17, .ref (w.1 3)] s f P21))))))))))))))))) : ExC l E w (d + 1) MX20_work 2 [some (.ref b0), some (.ref (w.1 3)), some (.int b2)] [] s f Q := by
  intro f0 h hW hF
  refine x_iload_n dX20_work_2 rfl rfl ?_
  refine x_aload_n dX20_work_3 rfl rfl rfl ?_
  obtain ⟨hc, hT⟩ := hT
  obtain ⟨a1, ev, hT⟩ := hT
  refine c_fgetG dX20_work_4 f_TallySlate_BuiltIn_10 hc (by decide) (by decide) hW ev ?_
  obtain ⟨hc, hT⟩ := hT
  obtain ⟨v2, ev, hT⟩ := hT
  refine c_fgetG dX20_work_7 f_TallySlate_BuiltIn_20 hc (by decide) (by decide) hW ev ?_
  refine x_icmp_ge (tgt := 32) dX20_work_10 rfl (fun c => ?_) (fun c => ?_)
  · replace hT := hT.1 c
    refine x_aload_n dX20_work_32 rfl rfl rfl ?_
    refine x_aload_n dX20_work_33 rfl rfl rfl ?_
    obtain ⟨k3, hc, hj, h30, hT⟩ := hT
    obtain ⟨v4, ev, hT⟩ := hT
    refine c_fgetG dX20_work_34 f_TallySlate_BuiltIn_31 hc hj (fun z => absurd z h30) hW ev ?_
    obtain ⟨-, -, cc, hcc, -⟩ := hW.ob 3 (by decide)
    refine c_invV (vs := [.int v4]) dX20_work_37 oX3_step q1332 q1687 hcc q1333 (Or.inl rfl) rfl rfl (Nat.le_of_ble_eq_true rfl) rfl hW hF hT ?_ ?_
    · intro _ s5 f6 hT h hW hF
      obtain ⟨rfl, hT⟩ := hT
      refine x_aload_n dX20_work_40 rfl rfl rfl ?_
      refine x_aload_n dX20_work_41 rfl rfl rfl ?_
      obtain ⟨hc, hT⟩ := hT
      obtain ⟨v7, ev, hT⟩ := hT
      refine c_fgetG dX20_work_42 f_TallySlate_BuiltIn_16 hc (by decide) (by decide) hW ev ?_
      refine x_aload_n dX20_work_45 rfl rfl rfl ?_
      obtain ⟨hc, hT⟩ := hT
      obtain ⟨a8, ev, hT⟩ := hT
      refine c_fgetG dX20_work_46 f_TallySlate_BuiltIn_10 hc (by decide) (by decide) hW ev ?_
      obtain ⟨hc, hT⟩ := hT
      obtain ⟨v9, ev, hT⟩ := hT
      refine c_fgetG dX20_work_49 f_TallySlate_BuiltIn_20 hc (by decide) (by decide) hW ev ?_
      refine x_aload_n dX20_work_52 rfl rfl rfl ?_
      obtain ⟨k10, hc, hj, h30, hT⟩ := hT
      obtain ⟨v11, ev, hT⟩ := hT
      refine c_fgetG dX20_work_53 f_TallySlate_BuiltIn_31 hc hj (fun z => absurd z h30) hW ev ?_
      obtain ⟨-, -, cc, hcc, -⟩ := hW.ob 3 (by decide)
      refine c_invV (vs := [.int v7, .int v9, .int v11]) dX20_work_56 oX3_builtIn q1689 q1688 hcc q1690 (Or.inl rfl) rfl rfl (Nat.le_of_ble_eq_true rfl) rfl hW hF hT ?_ ?_
      · intro _ s12 f13 hT h hW hF
        obtain ⟨rfl, hT⟩ := hT
        exact x_vret dX20_work_59 rfl ⟨_, _, hW, hF, Or.inl ⟨_, rfl, hT⟩⟩
      · intro k s12 f13 hT h a hW hx hF
        exact c_out (rfl) hW hx hF hT
    · intro k s5 f6 hT h a hW hx hF
      exact c_out (rfl) hW hx hF hT
  · replace hT := hT.2 c
    refine x_aload_n dX20_work_13 rfl rfl rfl ?_
    obtain ⟨hc, hT⟩ := hT
    obtain ⟨a14, ev, hT⟩ := hT
    refine c_fgetG dX20_work_14 f_TallySlate_BuiltIn_10 hc (by decide) (by decide) hW ev ?_
    obtain ⟨hc, hT⟩ := hT
    obtain ⟨a15, ev, hT⟩ := hT
    refine c_fgetG dX20_work_17 f_TallySlate_BuiltIn_23 hc (by decide) (by decide) hW ev ?_
    refine x_iload_n dX20_work_20 rfl rfl ?_
    obtain ⟨t16, ht2, hc, hT⟩ := hT
    obtain ⟨hb, hT⟩ := hT
    obtain ⟨a17, ev, hT⟩ := hT
    refine c_faald dX20_work_21 hc ht2 hb hW ev ?_
    refine x_aload_n dX20_work_22 rfl rfl rfl ?_
    obtain ⟨P21, hP, k20, hc, hT⟩ := hT
    have kr : ∀ r s18 f19, P21 (.inl r) s18 f19 → ∀ h, CW E w s18 f19 h → Frz f0 f19 → Ex l E (d + 1) MX20_work (23 + 3) [some (.ref b0), some (.ref (w.1 3)), some (.int b2)] (r.toList ++ []) h (PoC E w f0 Q) := by
      intro r s18 f19 h0 h hW hF
      have hT := hP _ _ _ h0
      clear h0
      obtain ⟨rfl, hT⟩ := hT
      refine x_iinc (lo' := [some (.ref b0), some (.ref (w.1 3)), some (.int (b2 + 1))]) dX20_work_26 rfl (show _ = (b2 + 1) from rfl) rfl ?_
      refine x_goto (tgt := 2) dX20_work_29 rfl ?_
      exact hT f0 h hW hF
    have kt : ∀ k s18 f19, P21 (.inr k) s18 f19 → ∀ h a, CW E w s18 f19 h → xA w h k a → Frz f0 f19 → ExT l E (d + 1) MX20_work 23 [some (.ref b0), some (.ref (w.1 3)), some (.int b2)] [] a h (PoC E w f0 Q) := by
      intro k s18 f19 h0 h a hW hx hF
      have hT := hP _ _ _ h0
      clear h0
      exact c_out (rfl) hW hx hF hT
    obtain ⟨cc, hcc⟩ := hW.ocell hc
    rcases hT with ⟨rfl, hT⟩ | ⟨rfl, hT⟩ | ⟨rfl, hT⟩ | ⟨rfl, hT⟩ | ⟨rfl, hT⟩ | ⟨rfl, hT⟩ | ⟨rfl, hT⟩ | ⟨rfl, hT⟩
    · exact c_invV (vs := [.ref (w.1 3)]) dX20_work_23 oX17_work q1367 q1347 hcc q1931 (Or.inr hy_Node_work) rfl rfl (Nat.le_of_ble_eq_true rfl) rfl hW hF hT kr kt
    · exact c_invV (vs := [.ref (w.1 3)]) dX20_work_23 oX18_work q1354 q1347 hcc q1929 (Or.inr hy_Node_work) rfl rfl (Nat.le_of_ble_eq_true rfl) rfl hW hF hT kr kt
    · exact c_invV (vs := [.ref (w.1 3)]) dX20_work_23 oX20_work q1345 q1347 hcc q1344 (Or.inr hy_Node_work) rfl rfl (Nat.le_of_ble_eq_true rfl) rfl hW hF hT kr kt
    · exact c_invV (vs := [.ref (w.1 3)]) dX20_work_23 oX21_work q1348 q1347 hcc q1927 (Or.inr hy_Node_work) rfl rfl (Nat.le_of_ble_eq_true rfl) rfl hW hF hT kr kt
    · exact c_invV (vs := [.ref (w.1 3)]) dX20_work_23 oX22_work q1357 q1347 hcc q1930 (Or.inr hy_Node_work) rfl rfl (Nat.le_of_ble_eq_true rfl) rfl hW hF hT kr kt
    · exact c_invV (vs := [.ref (w.1 3)]) dX20_work_23 oX23_work q1370 q1347 hcc q1932 (Or.inr hy_Node_work) rfl rfl (Nat.le_of_ble_eq_true rfl) rfl hW hF hT kr kt
    · exact c_invV (vs := [.ref (w.1 3)]) dX20_work_23 oX24_work q1373 q1347 hcc q1933 (Or.inr hy_Node_work) rfl rfl (Nat.le_of_ble_eq_true rfl) rfl hW hF hT kr kt
    · exact c_invV (vs := [.ref (w.1 3)]) dX20_work_23 oX25_work q1351 q1347 hcc q1928 (Or.inr hy_Node_work) rfl rfl (Nat.le_of_ble_eq_true rfl) rfl hW hF hT kr kt
theorem vX21_init_0 {l : Launch} {E : EN} {w : CO} {d : Nat} {s : CS} {f : RH} {Q : KO → CS → RH → Prop} {x0 : Nat} {x1 : Int32}  (hT : (EvC l E w d MX16_init [.ref x0] s f (fun o s1 f2 => KP o (fun r => r = none ∧ (rmF E f2 1 4 ∧ ∀ (a3 : Nat) (f4 : RH), a3 = f2.1 → f4 = fnew f2 17 → (EvC l E w d MX19_init [.ref a3] s1 f4 (fun o s5 f6 => KP o (fun r => r = none ∧ (oc f6 x0 19 ∧ f6.2.2.2 ≤ x0 ∧ ∀ f7 : RH, f7 = fset f6 x0 179 (.ref a3) → (oc f7 x0 19 ∧ f7.2.2.2 ≤ x0 ∧ ∀ f8 : RH, f8 = fset f7 x0 174 (.int x1) → Q (.inl none) s5 f8))) (fun k => Q (.inr k) s5 f6))))) (fun k => Q (.inr k) s1 f2)))) : ExC l E w (d + 1) MX21_init 0 [some (.ref x0), some (.int x1)] [] s f Q := by
  intro f0 h hW hF
  refine x_aload_n dX21_init_0 rfl rfl rfl ?_
  refine c_invI (b := x0) (vs := []) dX21_init_1 oX16_init rfl rfl rfl q917 (Or.inr ⟨_, q1038⟩) rfl rfl (Nat.le_of_ble_eq_true rfl) rfl hW hF hT ?_ ?_
  · intro _ s1 f2 hT h hW hF
    obtain ⟨rfl, hT⟩ := hT
    refine x_aload_n dX21_init_4 rfl rfl rfl ?_
    obtain ⟨hr, hT⟩ := hT
    refine c_newG (k := 17) dX21_init_5 (by decide) q1039 q192 hr hW hF ?_
    intro a3 f4 ea3 ef4 h hW hF
    replace hT := hT a3 f4 ea3 ef4
    refine x_dup dX21_init_8 rfl ?_
    refine c_invI (b := a3) (vs := []) dX21_init_9 oX19_init rfl rfl rfl q953 (Or.inr ⟨_, q1040⟩) rfl rfl (Nat.le_of_ble_eq_true rfl) rfl hW hF hT ?_ ?_
    · intro _ s5 f6 hT h hW hF
      obtain ⟨rfl, hT⟩ := hT
      obtain ⟨hc, hz, hT⟩ := hT
      refine c_fputG dX21_init_12 f_TallySlate_Call_12 hc (by decide) (by decide) hz (Or.inr ⟨rfl, rfl⟩) rfl rfl hW hF ?_
      intro f7 ef7 h hW hF
      replace hT := hT f7 ef7
      refine x_aload_n dX21_init_15 rfl rfl rfl ?_
      refine x_iload_n dX21_init_16 rfl rfl ?_
      obtain ⟨hc, hz, hT⟩ := hT
      refine c_fputG dX21_init_17 f_TallySlate_Call_18 hc (by decide) (by decide) hz (Or.inr ⟨rfl, rfl⟩) rfl rfl hW hF ?_
      intro f8 ef8 h hW hF
      replace hT := hT f8 ef8
      exact x_vret dX21_init_20 rfl ⟨_, _, hW, hF, Or.inl ⟨_, rfl, hT⟩⟩
    · intro k s5 f6 hT h a hW hx hF
      exact c_out (rfl) hW hx hF hT
  · intro k s1 f2 hT h a hW hx hF
    exact c_out (rfl) hW hx hF hT
theorem eX21_init {l : Launch} {E : EN} {w : CO} {d : Nat} {s : CS} {f : RH} {Q : KO → CS → RH → Prop} {x0 : Nat} {x1 : Int32}  (hst : l.stackTraces = false) (hT : (EvC l E w d MX16_init [.ref x0] s f (fun o s1 f2 => KP o (fun r => r = none ∧ (rmF E f2 1 4 ∧ ∀ (a3 : Nat) (f4 : RH), a3 = f2.1 → f4 = fnew f2 17 → (EvC l E w d MX19_init [.ref a3] s1 f4 (fun o s5 f6 => KP o (fun r => r = none ∧ (oc f6 x0 19 ∧ f6.2.2.2 ≤ x0 ∧ ∀ f7 : RH, f7 = fset f6 x0 179 (.ref a3) → (oc f7 x0 19 ∧ f7.2.2.2 ≤ x0 ∧ ∀ f8 : RH, f8 = fset f7 x0 174 (.int x1) → Q (.inl none) s5 f8))) (fun k => Q (.inr k) s5 f6))))) (fun k => Q (.inr k) s1 f2)))) : EvC l E w (d + 1) MX21_init [.ref x0, .int x1] s f Q :=
  EvC.of hst (by decide) (Nat.le_of_ble_eq_true rfl) (vX21_init_0  hT)
theorem vX21_work_0 {l : Launch} {E : EN} {w : CO} {d : Nat} {s : CS} {f : RH} {Q : KO → CS → RH → Prop} {x0 : Nat}  (hT : ExC l E w (d + 1) MX21_work 2 [some (.ref x0), some (.ref (w.1 3)), some (.int 0)] [] s f Q) : ExC l E w (d + 1) MX21_work 0 [some (.ref x0), some (.ref (w.1 3)), none] [] s f Q := by
  intro f0 h hW hF
  refine x_iconst (v := 0) dX21_work_0 rfl ?_
  refine x_istore_n (lo' := [some (.ref x0), some (.ref (w.1 3)), some (.int 0)]) dX21_work_1 rfl (Nat.le_of_ble_eq_true rfl) rfl ?_
  exact hT f0 h hW hF
theorem eX21_work {l : Launch} {E : EN} {w : CO} {d : Nat} {s : CS} {f : RH} {Q : KO → CS → RH → Prop} {x0 : Nat}  (hst : l.stackTraces = false) (hT : ExC l E w (d + 1) MX21_work 2 [some (.ref x0), some (.ref (w.1 3)), some (.int 0)] [] s f Q) : EvC l E w (d + 1) MX21_work [.ref x0, .ref (w.1 3)] s f Q :=
  EvC.of hst (by decide) (Nat.le_of_ble_eq_true rfl) (vX21_work_0  hT)
set_option maxHeartbeats 16000000 in
theorem vX21_work_2 {l : Launch} {E : EN} {w : CO} {d : Nat} {s : CS} {f : RH} {Q : KO → CS → RH → Prop} {b0 : Nat} {b2 : Int32}  (hT : (oc f b0 19 ∧ (∃ a1 : Nat, vl f b0 179 = .ref a1 ∧ (oc f a1 17 ∧ (∃ v2 : Int32, vl f a1 171 = .int v2 ∧ ((v2 ≤ b2 → (∃ k3 : Nat, oc f b0 k3 ∧ 165 ∈ CF k3 ∧ ¬ k3 = 30 ∧ (∃ v4 : Int32, vl f b0 165 = .int v4 ∧ (EvC l E w d MX3_step [.ref (w.1 3), .int v4] s f (fun o s5 f6 => KP o (fun r => r = none ∧ (oc f6 b0 19 ∧ (∃ v7 : Int32, vl f6 b0 174 = .int v7 ∧ ((¬ v7 = 0 → (oc f6 b0 19 ∧ (∃ v8 : Int32, vl f6 b0 174 = .int v8 ∧ ((¬ v8 = 28 → (oc f6 b0 19 ∧ (∃ v9 : Value, vl f6 b0 178 = v9 ∧ isR v9 = true ∧ (∃ k10 : Nat, oc f6 b0 k10 ∧ 165 ∈ CF k10 ∧ ¬ k10 = 30 ∧ (∃ v11 : Int32, vl f6 b0 165 = .int v11 ∧ (EvC l E w d MX3_fold [.ref (w.1 3), v9, .int v11] s5 f6 (fun o s12 f13 => KP o (fun r => r = none ∧ Q (.inl none) s12 f13) (fun k => Q (.inr k) s12 f13)))))))) ∧ (v8 = 28 → (oc f6 b0 19 ∧ (∃ v14 : Value, vl f6 b0 178 = v14 ∧ isR v14 = true ∧ (∃ k15 : Nat, oc f6 b0 k15 ∧ 165 ∈ CF k15 ∧ ¬ k15 = 30 ∧ (∃ v16 : Int32, vl f6 b0 165 = .int v16 ∧ (EvC l E w d MX3_each [.ref (w.1 3), v14, .int v16] s5 f6 (fun o s17 f18 => KP o (fun r => r = none ∧ Q (.inl none) s17 f18) (fun k => Q (.inr k) s17 f18)))))))))))) ∧ (v7 = 0 → (oc f6 b0 19 ∧ (∃ v19 : Value, vl f6 b0 178 = v19 ∧ isR v19 = true ∧ (∃ k20 : Nat, oc f6 b0 k20 ∧ 165 ∈ CF k20 ∧ ¬ k20 = 30 ∧ (∃ v21 : Int32, vl f6 b0 165 = .int v21 ∧ (EvC l E w d MX3_call [.ref (w.1 3), v19, .int v21] s5 f6 (fun o s22 f23 => KP o (fun r => r = none ∧ Q (.inl none) s22 f23) (fun k => Q (.inr k) s22 f23)))))))))))) (fun k => Q (.inr k) s5 f6)))))) ∧ (¬ v2 ≤ b2 → (oc f b0 19 ∧ (∃ a24 : Nat, vl f b0 179 = .ref a24 ∧ (oc f a24 17 ∧ (∃ a25 : Nat, vl f a24 168 = .ref a25 ∧ (∃ t26 : Nat, 4 ≤ t26 ∧ (tg f a25 = some (.inr t26) ∧ inB b2 (ln f a25) ∧ (∃ a27 : Nat, vl f a25 b2.toNatClampNeg = .ref a27 ∧ (∃ P31 : KO → CS → RH → Prop, (∀ o s28 f29, P31 o s28 f29 → KP o (fun r => r = none ∧ ExC l E w (d + 1) MX21_work 2 [some (.ref b0), some (.ref (w.1 3)), some (.int (b2 + 1))] [] s28 f29 Q) (fun k => Q (.inr k) s28 f29)) ∧ ∃ k30 : Nat, oc f a27 k30 ∧ ((k30 = 15 ∧ EvC l E w d MX17_work [.ref a27, .ref (w.1 3)] s f P31) ∨ (k30 = 16 ∧ EvC l E w d MX18_work [.ref a27, .ref (w.1 3)] s f P31) ∨ (k30 = 18 ∧ EvC l E w d MX20_work [.ref a27, .ref (w.1 3)] s f P31) ∨ (k30 = 19 ∧ EvC l E w d MX21_work [.ref a27, .ref (w.1 3)] s f P31) ∨ (k30 = 20 ∧ EvC l E w d MX22_work [.ref a27, .ref (w.1 3)] s f P31) ∨ (k30 = 21 ∧ EvC l E w d MX23_work [.ref a27, .ref (w.1 3)] s f P31) ∨ (k30 = 22 ∧ EvC l E w d MX24_work [.ref a27, .ref (w.1 3)] s f P31) ∨ (k30 = 23 ∧ EvC l E w d MX25_work [.ref a27, .ref (w.1 3)] s f P31))))))))))))))))) : ExC l E w (d + 1) MX21_work 2 [some (.ref b0), some (.ref (w.1 3)), some (.int b2)] [] s f Q := by
  intro f0 h hW hF
  refine x_iload_n dX21_work_2 rfl rfl ?_
  refine x_aload_n dX21_work_3 rfl rfl rfl ?_
  obtain ⟨hc, hT⟩ := hT
  obtain ⟨a1, ev, hT⟩ := hT
  refine c_fgetG dX21_work_4 f_TallySlate_Call_12 hc (by decide) (by decide) hW ev ?_
  obtain ⟨hc, hT⟩ := hT
  obtain ⟨v2, ev, hT⟩ := hT
  refine c_fgetG dX21_work_7 f_TallySlate_Call_22 hc (by decide) (by decide) hW ev ?_
  refine x_icmp_ge (tgt := 32) dX21_work_10 rfl (fun c => ?_) (fun c => ?_)
  · replace hT := hT.1 c
    refine x_aload_n dX21_work_32 rfl rfl rfl ?_
    refine x_aload_n dX21_work_33 rfl rfl rfl ?_
    obtain ⟨k3, hc, hj, h30, hT⟩ := hT
    obtain ⟨v4, ev, hT⟩ := hT
    refine c_fgetG dX21_work_34 f_TallySlate_Call_33 hc hj (fun z => absurd z h30) hW ev ?_
    obtain ⟨-, -, cc, hcc, -⟩ := hW.ob 3 (by decide)
    refine c_invV (vs := [.int v4]) dX21_work_37 oX3_step q1332 q1643 hcc q1333 (Or.inl rfl) rfl rfl (Nat.le_of_ble_eq_true rfl) rfl hW hF hT ?_ ?_
    · intro _ s5 f6 hT h hW hF
      obtain ⟨rfl, hT⟩ := hT
      refine x_aload_n dX21_work_40 rfl rfl rfl ?_
      obtain ⟨hc, hT⟩ := hT
      obtain ⟨v7, ev, hT⟩ := hT
      refine c_fgetG dX21_work_41 f_TallySlate_Call_18 hc (by decide) (by decide) hW ev ?_
      refine x_if_ne (tgt := 62) dX21_work_44 rfl (fun c => ?_) (fun c => ?_)
      · replace hT := hT.1 c
        refine x_aload_n dX21_work_62 rfl rfl rfl ?_
        obtain ⟨hc, hT⟩ := hT
        obtain ⟨v8, ev, hT⟩ := hT
        refine c_fgetG dX21_work_63 f_TallySlate_Call_18 hc (by decide) (by decide) hW ev ?_
        refine x_bipush (v := 28) dX21_work_66 rfl ?_
        refine x_icmp_ne (tgt := 86) dX21_work_68 rfl (fun c => ?_) (fun c => ?_)
        · replace hT := hT.1 c
          refine x_aload_n dX21_work_86 rfl rfl rfl ?_
          refine x_aload_n dX21_work_87 rfl rfl rfl ?_
          obtain ⟨hc, hT⟩ := hT
          obtain ⟨v9, ev, iv9, hT⟩ := hT
          refine c_fgetG dX21_work_88 f_TallySlate_Call_42 hc (by decide) (by decide) hW ev ?_
          refine x_aload_n dX21_work_91 rfl rfl rfl ?_
          obtain ⟨k10, hc, hj, h30, hT⟩ := hT
          obtain ⟨v11, ev, hT⟩ := hT
          refine c_fgetG dX21_work_92 f_TallySlate_Call_33 hc hj (fun z => absurd z h30) hW ev ?_
          obtain ⟨-, -, cc, hcc, -⟩ := hW.ob 3 (by decide)
          refine c_invV (vs := [v9, .int v11]) dX21_work_95 oX3_fold q1680 q1679 hcc q1681 (Or.inl rfl) rfl rfl (Nat.le_of_ble_eq_true rfl) rfl hW hF hT ?_ ?_
          · intro _ s12 f13 hT h hW hF
            obtain ⟨rfl, hT⟩ := hT
            exact x_vret dX21_work_98 rfl ⟨_, _, hW, hF, Or.inl ⟨_, rfl, hT⟩⟩
          · intro k s12 f13 hT h a hW hx hF
            exact c_out (rfl) hW hx hF hT
        · replace hT := hT.2 c
          refine x_aload_n dX21_work_71 rfl rfl rfl ?_
          refine x_aload_n dX21_work_72 rfl rfl rfl ?_
          obtain ⟨hc, hT⟩ := hT
          obtain ⟨v14, ev, iv14, hT⟩ := hT
          refine c_fgetG dX21_work_73 f_TallySlate_Call_42 hc (by decide) (by decide) hW ev ?_
          refine x_aload_n dX21_work_76 rfl rfl rfl ?_
          obtain ⟨k15, hc, hj, h30, hT⟩ := hT
          obtain ⟨v16, ev, hT⟩ := hT
          refine c_fgetG dX21_work_77 f_TallySlate_Call_33 hc hj (fun z => absurd z h30) hW ev ?_
          obtain ⟨-, -, cc, hcc, -⟩ := hW.ob 3 (by decide)
          refine c_invV (vs := [v14, .int v16]) dX21_work_80 oX3_each q1646 q1645 hcc q1647 (Or.inl rfl) rfl rfl (Nat.le_of_ble_eq_true rfl) rfl hW hF hT ?_ ?_
          · intro _ s17 f18 hT h hW hF
            obtain ⟨rfl, hT⟩ := hT
            refine x_goto (tgt := 98) dX21_work_83 rfl ?_
            exact x_vret dX21_work_98 rfl ⟨_, _, hW, hF, Or.inl ⟨_, rfl, hT⟩⟩
          · intro k s17 f18 hT h a hW hx hF
            exact c_out (rfl) hW hx hF hT
      · replace hT := hT.2 c
        refine x_aload_n dX21_work_47 rfl rfl rfl ?_
        refine x_aload_n dX21_work_48 rfl rfl rfl ?_
        obtain ⟨hc, hT⟩ := hT
        obtain ⟨v19, ev, iv19, hT⟩ := hT
        refine c_fgetG dX21_work_49 f_TallySlate_Call_42 hc (by decide) (by decide) hW ev ?_
        refine x_aload_n dX21_work_52 rfl rfl rfl ?_
        obtain ⟨k20, hc, hj, h30, hT⟩ := hT
        obtain ⟨v21, ev, hT⟩ := hT
        refine c_fgetG dX21_work_53 f_TallySlate_Call_33 hc hj (fun z => absurd z h30) hW ev ?_
        obtain ⟨-, -, cc, hcc, -⟩ := hW.ob 3 (by decide)
        refine c_invV (vs := [v19, .int v21]) dX21_work_56 oX3_call q1319 q1644 hcc q1320 (Or.inl rfl) rfl rfl (Nat.le_of_ble_eq_true rfl) rfl hW hF hT ?_ ?_
        · intro _ s22 f23 hT h hW hF
          obtain ⟨rfl, hT⟩ := hT
          refine x_goto (tgt := 98) dX21_work_59 rfl ?_
          exact x_vret dX21_work_98 rfl ⟨_, _, hW, hF, Or.inl ⟨_, rfl, hT⟩⟩
        · intro k s22 f23 hT h a hW hx hF
          exact c_out (rfl) hW hx hF hT
    · intro k s5 f6 hT h a hW hx hF
      exact c_out (rfl) hW hx hF hT
  · replace hT := hT.2 c
    refine x_aload_n dX21_work_13 rfl rfl rfl ?_
    obtain ⟨hc, hT⟩ := hT
    obtain ⟨a24, ev, hT⟩ := hT
    refine c_fgetG dX21_work_14 f_TallySlate_Call_12 hc (by decide) (by decide) hW ev ?_
    obtain ⟨hc, hT⟩ := hT
    obtain ⟨a25, ev, hT⟩ := hT
    refine c_fgetG dX21_work_17 f_TallySlate_Call_25 hc (by decide) (by decide) hW ev ?_
    refine x_iload_n dX21_work_20 rfl rfl ?_
    obtain ⟨t26, ht2, hc, hT⟩ := hT
    obtain ⟨hb, hT⟩ := hT
    obtain ⟨a27, ev, hT⟩ := hT
    refine c_faald dX21_work_21 hc ht2 hb hW ev ?_
    refine x_aload_n dX21_work_22 rfl rfl rfl ?_
    obtain ⟨P31, hP, k30, hc, hT⟩ := hT
    have kr : ∀ r s28 f29, P31 (.inl r) s28 f29 → ∀ h, CW E w s28 f29 h → Frz f0 f29 → Ex l E (d + 1) MX21_work (23 + 3) [some (.ref b0), some (.ref (w.1 3)), some (.int b2)] (r.toList ++ []) h (PoC E w f0 Q) := by
      intro r s28 f29 h0 h hW hF
      have hT := hP _ _ _ h0
      clear h0
      obtain ⟨rfl, hT⟩ := hT
      refine x_iinc (lo' := [some (.ref b0), some (.ref (w.1 3)), some (.int (b2 + 1))]) dX21_work_26 rfl (show _ = (b2 + 1) from rfl) rfl ?_
      refine x_goto (tgt := 2) dX21_work_29 rfl ?_
      exact hT f0 h hW hF
    have kt : ∀ k s28 f29, P31 (.inr k) s28 f29 → ∀ h a, CW E w s28 f29 h → xA w h k a → Frz f0 f29 → ExT l E (d + 1) MX21_work 23 [some (.ref b0), some (.ref (w.1 3)), some (.int b2)] [] a h (PoC E w f0 Q) := by
      intro k s28 f29 h0 h a hW hx hF
      have hT := hP _ _ _ h0
      clear h0
      exact c_out (rfl) hW hx hF hT
    obtain ⟨cc, hcc⟩ := hW.ocell hc
    rcases hT with ⟨rfl, hT⟩ | ⟨rfl, hT⟩ | ⟨rfl, hT⟩ | ⟨rfl, hT⟩ | ⟨rfl, hT⟩ | ⟨rfl, hT⟩ | ⟨rfl, hT⟩ | ⟨rfl, hT⟩
    · exact c_invV (vs := [.ref (w.1 3)]) dX21_work_23 oX17_work q1367 q1350 hcc q1931 (Or.inr hy_Node_work) rfl rfl (Nat.le_of_ble_eq_true rfl) rfl hW hF hT kr kt
    · exact c_invV (vs := [.ref (w.1 3)]) dX21_work_23 oX18_work q1354 q1350 hcc q1929 (Or.inr hy_Node_work) rfl rfl (Nat.le_of_ble_eq_true rfl) rfl hW hF hT kr kt
    · exact c_invV (vs := [.ref (w.1 3)]) dX21_work_23 oX20_work q1345 q1350 hcc q1344 (Or.inr hy_Node_work) rfl rfl (Nat.le_of_ble_eq_true rfl) rfl hW hF hT kr kt
    · exact c_invV (vs := [.ref (w.1 3)]) dX21_work_23 oX21_work q1348 q1350 hcc q1927 (Or.inr hy_Node_work) rfl rfl (Nat.le_of_ble_eq_true rfl) rfl hW hF hT kr kt
    · exact c_invV (vs := [.ref (w.1 3)]) dX21_work_23 oX22_work q1357 q1350 hcc q1930 (Or.inr hy_Node_work) rfl rfl (Nat.le_of_ble_eq_true rfl) rfl hW hF hT kr kt
    · exact c_invV (vs := [.ref (w.1 3)]) dX21_work_23 oX23_work q1370 q1350 hcc q1932 (Or.inr hy_Node_work) rfl rfl (Nat.le_of_ble_eq_true rfl) rfl hW hF hT kr kt
    · exact c_invV (vs := [.ref (w.1 3)]) dX21_work_23 oX24_work q1373 q1350 hcc q1933 (Or.inr hy_Node_work) rfl rfl (Nat.le_of_ble_eq_true rfl) rfl hW hF hT kr kt
    · exact c_invV (vs := [.ref (w.1 3)]) dX21_work_23 oX25_work q1351 q1350 hcc q1928 (Or.inr hy_Node_work) rfl rfl (Nat.le_of_ble_eq_true rfl) rfl hW hF hT kr kt
theorem vX22_init_0 {l : Launch} {E : EN} {w : CO} {d : Nat} {s : CS} {f : RH} {Q : KO → CS → RH → Prop} {x0 : Nat} {x1 : Int32}  (hT : (EvC l E w d MX16_init [.ref x0] s f (fun o s1 f2 => KP o (fun r => r = none ∧ (oc f2 x0 20 ∧ f2.2.2.2 ≤ x0 ∧ ∀ f3 : RH, f3 = fset f2 x0 180 (.int x1) → Q (.inl none) s1 f3)) (fun k => Q (.inr k) s1 f2)))) : ExC l E w (d + 1) MX22_init 0 [some (.ref x0), some (.int x1)] [] s f Q := by
  intro f0 h hW hF
  refine x_aload_n dX22_init_0 rfl rfl rfl ?_
  refine c_invI (b := x0) (vs := []) dX22_init_1 oX16_init rfl rfl rfl q917 (Or.inr ⟨_, q1077⟩) rfl rfl (Nat.le_of_ble_eq_true rfl) rfl hW hF hT ?_ ?_
  · intro _ s1 f2 hT h hW hF
    obtain ⟨rfl, hT⟩ := hT
    refine x_aload_n dX22_init_4 rfl rfl rfl ?_
    refine x_iload_n dX22_init_5 rfl rfl ?_
    obtain ⟨hc, hz, hT⟩ := hT
    refine c_fputG dX22_init_6 f_TallySlate_Name_7 hc (by decide) (by decide) hz (Or.inr ⟨rfl, rfl⟩) rfl rfl hW hF ?_
    intro f3 ef3 h hW hF
    replace hT := hT f3 ef3
    exact x_vret dX22_init_9 rfl ⟨_, _, hW, hF, Or.inl ⟨_, rfl, hT⟩⟩
  · intro k s1 f2 hT h a hW hx hF
    exact c_out (rfl) hW hx hF hT
theorem eX22_init {l : Launch} {E : EN} {w : CO} {d : Nat} {s : CS} {f : RH} {Q : KO → CS → RH → Prop} {x0 : Nat} {x1 : Int32}  (hst : l.stackTraces = false) (hT : (EvC l E w d MX16_init [.ref x0] s f (fun o s1 f2 => KP o (fun r => r = none ∧ (oc f2 x0 20 ∧ f2.2.2.2 ≤ x0 ∧ ∀ f3 : RH, f3 = fset f2 x0 180 (.int x1) → Q (.inl none) s1 f3)) (fun k => Q (.inr k) s1 f2)))) : EvC l E w (d + 1) MX22_init [.ref x0, .int x1] s f Q :=
  EvC.of hst (by decide) (Nat.le_of_ble_eq_true rfl) (vX22_init_0  hT)
theorem vX22_work_0 {l : Launch} {E : EN} {w : CO} {d : Nat} {s : CS} {f : RH} {Q : KO → CS → RH → Prop} {x0 : Nat}  (hT : (oc f x0 20 ∧ (∃ v1 : Int32, vl f x0 180 = .int v1 ∧ (∃ k2 : Nat, oc f x0 k2 ∧ 165 ∈ CF k2 ∧ ¬ k2 = 30 ∧ (∃ v3 : Int32, vl f x0 165 = .int v3 ∧ (EvC l E w d MX3_value [.ref (w.1 3), .int v1, .int v3] s f (fun o s4 f5 => KP o (fun r => r = none ∧ Q (.inl none) s4 f5) (fun k => Q (.inr k) s4 f5)))))))) : ExC l E w (d + 1) MX22_work 0 [some (.ref x0), some (.ref (w.1 3))] [] s f Q := by
  intro f0 h hW hF
  refine x_aload_n dX22_work_0 rfl rfl rfl ?_
  refine x_aload_n dX22_work_1 rfl rfl rfl ?_
  obtain ⟨hc, hT⟩ := hT
  obtain ⟨v1, ev, hT⟩ := hT
  refine c_fgetG dX22_work_2 f_TallySlate_Name_7 hc (by decide) (by decide) hW ev ?_
  refine x_aload_n dX22_work_5 rfl rfl rfl ?_
  obtain ⟨k2, hc, hj, h30, hT⟩ := hT
  obtain ⟨v3, ev, hT⟩ := hT
  refine c_fgetG dX22_work_6 f_TallySlate_Name_13 hc hj (fun z => absurd z h30) hW ev ?_
  obtain ⟨-, -, cc, hcc, -⟩ := hW.ob 3 (by decide)
  refine c_invV (vs := [.int v1, .int v3]) dX22_work_9 oX3_value q1360 q1359 hcc q1361 (Or.inl rfl) rfl rfl (Nat.le_of_ble_eq_true rfl) rfl hW hF hT ?_ ?_
  · intro _ s4 f5 hT h hW hF
    obtain ⟨rfl, hT⟩ := hT
    exact x_vret dX22_work_12 rfl ⟨_, _, hW, hF, Or.inl ⟨_, rfl, hT⟩⟩
  · intro k s4 f5 hT h a hW hx hF
    exact c_out (rfl) hW hx hF hT
theorem eX22_work {l : Launch} {E : EN} {w : CO} {d : Nat} {s : CS} {f : RH} {Q : KO → CS → RH → Prop} {x0 : Nat}  (hst : l.stackTraces = false) (hT : (oc f x0 20 ∧ (∃ v1 : Int32, vl f x0 180 = .int v1 ∧ (∃ k2 : Nat, oc f x0 k2 ∧ 165 ∈ CF k2 ∧ ¬ k2 = 30 ∧ (∃ v3 : Int32, vl f x0 165 = .int v3 ∧ (EvC l E w d MX3_value [.ref (w.1 3), .int v1, .int v3] s f (fun o s4 f5 => KP o (fun r => r = none ∧ Q (.inl none) s4 f5) (fun k => Q (.inr k) s4 f5)))))))) : EvC l E w (d + 1) MX22_work [.ref x0, .ref (w.1 3)] s f Q :=
  EvC.of hst (by decide) (Nat.le_of_ble_eq_true rfl) (vX22_work_0  hT)
theorem vX23_init_0 {l : Launch} {E : EN} {w : CO} {d : Nat} {s : CS} {f : RH} {Q : KO → CS → RH → Prop} {x0 : Nat}  (hT : (EvC l E w d MX16_init [.ref x0] s f (fun o s1 f2 => KP o (fun r => r = none ∧ (rmF E f2 1 4 ∧ ∀ (a3 : Nat) (f4 : RH), a3 = f2.1 → f4 = fnew f2 17 → (EvC l E w d MX19_init [.ref a3] s1 f4 (fun o s5 f6 => KP o (fun r => r = none ∧ (oc f6 x0 21 ∧ f6.2.2.2 ≤ x0 ∧ ∀ f7 : RH, f7 = fset f6 x0 181 (.ref a3) → Q (.inl none) s5 f7)) (fun k => Q (.inr k) s5 f6))))) (fun k => Q (.inr k) s1 f2)))) : ExC l E w (d + 1) MX23_init 0 [some (.ref x0)] [] s f Q := by
  intro f0 h hW hF
  refine x_aload_n dX23_init_0 rfl rfl rfl ?_
  refine c_invI (b := x0) (vs := []) dX23_init_1 oX16_init rfl rfl rfl q917 (Or.inr ⟨_, q1088⟩) rfl rfl (Nat.le_of_ble_eq_true rfl) rfl hW hF hT ?_ ?_
  · intro _ s1 f2 hT h hW hF
    obtain ⟨rfl, hT⟩ := hT
    refine x_aload_n dX23_init_4 rfl rfl rfl ?_
    obtain ⟨hr, hT⟩ := hT
    refine c_newG (k := 17) dX23_init_5 (by decide) q1089 q192 hr hW hF ?_
    intro a3 f4 ea3 ef4 h hW hF
    replace hT := hT a3 f4 ea3 ef4
    refine x_dup dX23_init_8 rfl ?_
    refine c_invI (b := a3) (vs := []) dX23_init_9 oX19_init rfl rfl rfl q953 (Or.inr ⟨_, q1090⟩) rfl rfl (Nat.le_of_ble_eq_true rfl) rfl hW hF hT ?_ ?_
    · intro _ s5 f6 hT h hW hF
      obtain ⟨rfl, hT⟩ := hT
      obtain ⟨hc, hz, hT⟩ := hT
      refine c_fputG dX23_init_12 f_TallySlate_Places_10 hc (by decide) (by decide) hz (Or.inr ⟨rfl, rfl⟩) rfl rfl hW hF ?_
      intro f7 ef7 h hW hF
      replace hT := hT f7 ef7
      exact x_vret dX23_init_15 rfl ⟨_, _, hW, hF, Or.inl ⟨_, rfl, hT⟩⟩
    · intro k s5 f6 hT h a hW hx hF
      exact c_out (rfl) hW hx hF hT
  · intro k s1 f2 hT h a hW hx hF
    exact c_out (rfl) hW hx hF hT
theorem eX23_init {l : Launch} {E : EN} {w : CO} {d : Nat} {s : CS} {f : RH} {Q : KO → CS → RH → Prop} {x0 : Nat}  (hst : l.stackTraces = false) (hT : (EvC l E w d MX16_init [.ref x0] s f (fun o s1 f2 => KP o (fun r => r = none ∧ (rmF E f2 1 4 ∧ ∀ (a3 : Nat) (f4 : RH), a3 = f2.1 → f4 = fnew f2 17 → (EvC l E w d MX19_init [.ref a3] s1 f4 (fun o s5 f6 => KP o (fun r => r = none ∧ (oc f6 x0 21 ∧ f6.2.2.2 ≤ x0 ∧ ∀ f7 : RH, f7 = fset f6 x0 181 (.ref a3) → Q (.inl none) s5 f7)) (fun k => Q (.inr k) s5 f6))))) (fun k => Q (.inr k) s1 f2)))) : EvC l E w (d + 1) MX23_init [.ref x0] s f Q :=
  EvC.of hst (by decide) (Nat.le_of_ble_eq_true rfl) (vX23_init_0  hT)
theorem vX23_work_0 {l : Launch} {E : EN} {w : CO} {d : Nat} {s : CS} {f : RH} {Q : KO → CS → RH → Prop} {x0 : Nat}  (hT : (oc f x0 21 ∧ (∃ a1 : Nat, vl f x0 181 = .ref a1 ∧ (oc f a1 17 ∧ (∃ a2 : Nat, vl f a1 168 = .ref a2 ∧ (∃ t3 : Nat, 4 ≤ t3 ∧ (tg f a2 = some (.inr t3) ∧ inB 0 (ln f a2) ∧ (∃ a4 : Nat, vl f a2 (0 : Int32).toNatClampNeg = .ref a4 ∧ (∃ P8 : KO → CS → RH → Prop, (∀ o s5 f6, P8 o s5 f6 → KP o (fun r => r = none ∧ ExC l E w (d + 1) MX23_work 15 [some (.ref x0), some (.ref (w.1 3)), some (.int 1)] [] s5 f6 Q) (fun k => Q (.inr k) s5 f6)) ∧ ∃ k7 : Nat, oc f a4 k7 ∧ ((k7 = 15 ∧ EvC l E w d MX17_work [.ref a4, .ref (w.1 3)] s f P8) ∨ (k7 = 16 ∧ EvC l E w d MX18_work [.ref a4, .ref (w.1 3)] s f P8) ∨ (k7 = 18 ∧ EvC l E w d MX20_work [.ref a4, .ref (w.1 3)] s f P8) ∨ (k7 = 19 ∧ EvC l E w d MX21_work [.ref a4, .ref (w.1 3)] s f P8) ∨ (k7 = 20 ∧ EvC l E w d MX22_work [.ref a4, .ref (w.1 3)] s f P8) ∨ (k7 = 21 ∧ EvC l E w d MX23_work [.ref a4, .ref (w.1 3)] s f P8) ∨ (k7 = 22 ∧ EvC l E w d MX24_work [.ref a4, .ref (w.1 3)] s f P8) ∨ (k7 = 23 ∧ EvC l E w d MX25_work [.ref a4, .ref (w.1 3)] s f P8))))))))))) : ExC l E w (d + 1) MX23_work 0 [some (.ref x0), some (.ref (w.1 3)), none] [] s f Q := by
  intro f0 h hW hF
  refine x_aload_n dX23_work_0 rfl rfl rfl ?_
  obtain ⟨hc, hT⟩ := hT
  obtain ⟨a1, ev, hT⟩ := hT
  refine c_fgetG dX23_work_1 f_TallySlate_Places_10 hc (by decide) (by decide) hW ev ?_
  obtain ⟨hc, hT⟩ := hT
  obtain ⟨a2, ev, hT⟩ := hT
  refine c_fgetG dX23_work_4 f_TallySlate_Places_16 hc (by decide) (by decide) hW ev ?_
  refine x_iconst (v := 0) dX23_work_7 rfl ?_
  obtain ⟨t3, ht2, hc, hT⟩ := hT
  obtain ⟨hb, hT⟩ := hT
  obtain ⟨a4, ev, hT⟩ := hT
  refine c_faald dX23_work_8 hc ht2 hb hW ev ?_
  refine x_aload_n dX23_work_9 rfl rfl rfl ?_
  obtain ⟨P8, hP, k7, hc, hT⟩ := hT
  have kr : ∀ r s5 f6, P8 (.inl r) s5 f6 → ∀ h, CW E w s5 f6 h → Frz f0 f6 → Ex l E (d + 1) MX23_work (10 + 3) [some (.ref x0), some (.ref (w.1 3)), none] (r.toList ++ []) h (PoC E w f0 Q) := by
    intro r s5 f6 h0 h hW hF
    have hT := hP _ _ _ h0
    clear h0
    obtain ⟨rfl, hT⟩ := hT
    refine x_iconst (v := 1) dX23_work_13 rfl ?_
    refine x_istore_n (lo' := [some (.ref x0), some (.ref (w.1 3)), some (.int 1)]) dX23_work_14 rfl (Nat.le_of_ble_eq_true rfl) rfl ?_
    exact hT f0 h hW hF
  have kt : ∀ k s5 f6, P8 (.inr k) s5 f6 → ∀ h a, CW E w s5 f6 h → xA w h k a → Frz f0 f6 → ExT l E (d + 1) MX23_work 10 [some (.ref x0), some (.ref (w.1 3)), none] [] a h (PoC E w f0 Q) := by
    intro k s5 f6 h0 h a hW hx hF
    have hT := hP _ _ _ h0
    clear h0
    exact c_out (rfl) hW hx hF hT
  obtain ⟨cc, hcc⟩ := hW.ocell hc
  rcases hT with ⟨rfl, hT⟩ | ⟨rfl, hT⟩ | ⟨rfl, hT⟩ | ⟨rfl, hT⟩ | ⟨rfl, hT⟩ | ⟨rfl, hT⟩ | ⟨rfl, hT⟩ | ⟨rfl, hT⟩
  · exact c_invV (vs := [.ref (w.1 3)]) dX23_work_10 oX17_work q1367 q1372 hcc q1931 (Or.inr hy_Node_work) rfl rfl (Nat.le_of_ble_eq_true rfl) rfl hW hF hT kr kt
  · exact c_invV (vs := [.ref (w.1 3)]) dX23_work_10 oX18_work q1354 q1372 hcc q1929 (Or.inr hy_Node_work) rfl rfl (Nat.le_of_ble_eq_true rfl) rfl hW hF hT kr kt
  · exact c_invV (vs := [.ref (w.1 3)]) dX23_work_10 oX20_work q1345 q1372 hcc q1344 (Or.inr hy_Node_work) rfl rfl (Nat.le_of_ble_eq_true rfl) rfl hW hF hT kr kt
  · exact c_invV (vs := [.ref (w.1 3)]) dX23_work_10 oX21_work q1348 q1372 hcc q1927 (Or.inr hy_Node_work) rfl rfl (Nat.le_of_ble_eq_true rfl) rfl hW hF hT kr kt
  · exact c_invV (vs := [.ref (w.1 3)]) dX23_work_10 oX22_work q1357 q1372 hcc q1930 (Or.inr hy_Node_work) rfl rfl (Nat.le_of_ble_eq_true rfl) rfl hW hF hT kr kt
  · exact c_invV (vs := [.ref (w.1 3)]) dX23_work_10 oX23_work q1370 q1372 hcc q1932 (Or.inr hy_Node_work) rfl rfl (Nat.le_of_ble_eq_true rfl) rfl hW hF hT kr kt
  · exact c_invV (vs := [.ref (w.1 3)]) dX23_work_10 oX24_work q1373 q1372 hcc q1933 (Or.inr hy_Node_work) rfl rfl (Nat.le_of_ble_eq_true rfl) rfl hW hF hT kr kt
  · exact c_invV (vs := [.ref (w.1 3)]) dX23_work_10 oX25_work q1351 q1372 hcc q1928 (Or.inr hy_Node_work) rfl rfl (Nat.le_of_ble_eq_true rfl) rfl hW hF hT kr kt
theorem eX23_work {l : Launch} {E : EN} {w : CO} {d : Nat} {s : CS} {f : RH} {Q : KO → CS → RH → Prop} {x0 : Nat}  (hst : l.stackTraces = false) (hT : (oc f x0 21 ∧ (∃ a1 : Nat, vl f x0 181 = .ref a1 ∧ (oc f a1 17 ∧ (∃ a2 : Nat, vl f a1 168 = .ref a2 ∧ (∃ t3 : Nat, 4 ≤ t3 ∧ (tg f a2 = some (.inr t3) ∧ inB 0 (ln f a2) ∧ (∃ a4 : Nat, vl f a2 (0 : Int32).toNatClampNeg = .ref a4 ∧ (∃ P8 : KO → CS → RH → Prop, (∀ o s5 f6, P8 o s5 f6 → KP o (fun r => r = none ∧ ExC l E w (d + 1) MX23_work 15 [some (.ref x0), some (.ref (w.1 3)), some (.int 1)] [] s5 f6 Q) (fun k => Q (.inr k) s5 f6)) ∧ ∃ k7 : Nat, oc f a4 k7 ∧ ((k7 = 15 ∧ EvC l E w d MX17_work [.ref a4, .ref (w.1 3)] s f P8) ∨ (k7 = 16 ∧ EvC l E w d MX18_work [.ref a4, .ref (w.1 3)] s f P8) ∨ (k7 = 18 ∧ EvC l E w d MX20_work [.ref a4, .ref (w.1 3)] s f P8) ∨ (k7 = 19 ∧ EvC l E w d MX21_work [.ref a4, .ref (w.1 3)] s f P8) ∨ (k7 = 20 ∧ EvC l E w d MX22_work [.ref a4, .ref (w.1 3)] s f P8) ∨ (k7 = 21 ∧ EvC l E w d MX23_work [.ref a4, .ref (w.1 3)] s f P8) ∨ (k7 = 22 ∧ EvC l E w d MX24_work [.ref a4, .ref (w.1 3)] s f P8) ∨ (k7 = 23 ∧ EvC l E w d MX25_work [.ref a4, .ref (w.1 3)] s f P8))))))))))) : EvC l E w (d + 1) MX23_work [.ref x0, .ref (w.1 3)] s f Q :=
  EvC.of hst (by decide) (Nat.le_of_ble_eq_true rfl) (vX23_work_0  hT)
set_option maxHeartbeats 16000000 in
theorem vX23_work_15 {l : Launch} {E : EN} {w : CO} {d : Nat} {s : CS} {f : RH} {Q : KO → CS → RH → Prop} {b0 : Nat} {b2 : Int32}  (hT : (oc f b0 21 ∧ (∃ a9 : Nat, vl f b0 181 = .ref a9 ∧ (oc f a9 17 ∧ (∃ v10 : Int32, vl f a9 171 = .int v10 ∧ ((v10 ≤ b2 → Q (.inl none) s f) ∧ (¬ v10 ≤ b2 → (oc f b0 21 ∧ (∃ a11 : Nat, vl f b0 181 = .ref a11 ∧ (oc f a11 17 ∧ (∃ a12 : Nat, vl f a11 168 = .ref a12 ∧ (∃ t13 : Nat, 4 ≤ t13 ∧ (tg f a12 = some (.inr t13) ∧ inB b2 (ln f a12) ∧ (∃ a14 : Nat, vl f a12 b2.toNatClampNeg = .ref a14 ∧ (∃ P28 : KO → CS → RH → Prop, (∀ o s15 f16, P28 o s15 f16 → KP o (fun r => r = none ∧ (oc f16 b0 21 ∧ (∃ a17 : Nat, vl f16 b0 181 = .ref a17 ∧ (oc f16 a17 17 ∧ (∃ a18 : Nat, vl f16 a17 170 = .ref a18 ∧ (tg f16 a18 = some (.inr 0) ∧ inB b2 (ln f16 a18) ∧ (∃ v19 : Int32, vl f16 a18 b2.toNatClampNeg = .int v19 ∧ (EvC l E w d MX3_step [.ref (w.1 3), .int v19] s15 f16 (fun o s20 f21 => KP o (fun r => r = none ∧ (oc f21 b0 21 ∧ (∃ a22 : Nat, vl f21 b0 181 = .ref a22 ∧ (oc f21 a22 17 ∧ (∃ a23 : Nat, vl f21 a22 170 = .ref a23 ∧ (tg f21 a23 = some (.inr 0) ∧ inB b2 (ln f21 a23) ∧ (∃ v24 : Int32, vl f21 a23 b2.toNatClampNeg = .int v24 ∧ (EvC l E w d MX3_at [.ref (w.1 3), .int v24] s20 f21 (fun o s25 f26 => KP o (fun r => r = none ∧ ExC l E w (d + 1) MX23_work 15 [some (.ref b0), some (.ref (w.1 3)), some (.int (b2 + 1))] [] s25 f26 Q) (fun k => Q (.inr k) s25 f26)))))))))) (fun k => Q (.inr k) s20 f21)))))))))) (fun k => Q (.inr k) s15 f16)) ∧ ∃ k27 : Nat, oc f a14 k27 ∧ ((k27 = 15 ∧ EvC l E w d MX17_work [.ref a14, .ref (w.1 3)] s f P28) ∨ (k27 = 16 ∧ EvC l E w d MX18_work [.ref a14, .ref (w.1 3)] s f P28) ∨ (k27 = 18 ∧ EvC l E w d MX20_work [.ref a14, .ref (w.1 3)] s f P28) ∨ (k27 = 19 ∧ EvC l E w d MX21_work [.ref a14, .ref (w.1 3)] s f P28) ∨ (k27 = 20 ∧ EvC l E w d MX22_work [.ref a14, .ref (w.1 3)] s f P28) ∨ (k27 = 21 ∧ EvC l E w d MX23_work [.ref a14, .ref (w.1 3)] s f P28) ∨ (k27 = 22 ∧ EvC l E w d MX24_work [.ref a14, .ref (w.1 3)] s f P28) ∨ (k27 = 23 ∧ EvC l E w d MX25_work [.ref a14, .ref (w.1 3)] s f P28))))))))))))))))) : ExC l E w (d + 1) MX23_work 15 [some (.ref b0), some (.ref (w.1 3)), some (.int b2)] [] s f Q := by
  intro f0 h hW hF
  refine x_iload_n dX23_work_15 rfl rfl ?_
  refine x_aload_n dX23_work_16 rfl rfl rfl ?_
  obtain ⟨hc, hT⟩ := hT
  obtain ⟨a9, ev, hT⟩ := hT
  refine c_fgetG dX23_work_17 f_TallySlate_Places_10 hc (by decide) (by decide) hW ev ?_
  obtain ⟨hc, hT⟩ := hT
  obtain ⟨v10, ev, hT⟩ := hT
  refine c_fgetG dX23_work_20 f_TallySlate_Places_24 hc (by decide) (by decide) hW ev ?_
  refine x_icmp_ge (tgt := 71) dX23_work_23 rfl (fun c => ?_) (fun c => ?_)
  · replace hT := hT.1 c
    exact x_vret dX23_work_71 rfl ⟨_, _, hW, hF, Or.inl ⟨_, rfl, hT⟩⟩
  · replace hT := hT.2 c
    refine x_aload_n dX23_work_26 rfl rfl rfl ?_
    obtain ⟨hc, hT⟩ := hT
    obtain ⟨a11, ev, hT⟩ := hT
    refine c_fgetG dX23_work_27 f_TallySlate_Places_10 hc (by decide) (by decide) hW ev ?_
    obtain ⟨hc, hT⟩ := hT
    obtain ⟨a12, ev, hT⟩ := hT
    refine c_fgetG dX23_work_30 f_TallySlate_Places_16 hc (by decide) (by decide) hW ev ?_
    refine x_iload_n dX23_work_33 rfl rfl ?_
    obtain ⟨t13, ht2, hc, hT⟩ := hT
    obtain ⟨hb, hT⟩ := hT
    obtain ⟨a14, ev, hT⟩ := hT
    refine c_faald dX23_work_34 hc ht2 hb hW ev ?_
    refine x_aload_n dX23_work_35 rfl rfl rfl ?_
    obtain ⟨P28, hP, k27, hc, hT⟩ := hT
    have kr : ∀ r s15 f16, P28 (.inl r) s15 f16 → ∀ h, CW E w s15 f16 h → Frz f0 f16 → Ex l E (d + 1) MX23_work (36 + 3) [some (.ref b0), some (.ref (w.1 3)), some (.int b2)] (r.toList ++ []) h (PoC E w f0 Q) := by
      intro r s15 f16 h0 h hW hF
      have hT := hP _ _ _ h0
      clear h0
      obtain ⟨rfl, hT⟩ := hT
      refine x_aload_n dX23_work_39 rfl rfl rfl ?_
      refine x_aload_n dX23_work_40 rfl rfl rfl ?_
      obtain ⟨hc, hT⟩ := hT
      obtain ⟨a17, ev, hT⟩ := hT
      refine c_fgetG dX23_work_41 f_TallySlate_Places_10 hc (by decide) (by decide) hW ev ?_
      obtain ⟨hc, hT⟩ := hT
      obtain ⟨a18, ev, hT⟩ := hT
      refine c_fgetG dX23_work_44 f_TallySlate_Places_28 hc (by decide) (by decide) hW ev ?_
      refine x_iload_n dX23_work_47 rfl rfl ?_
      obtain ⟨hc, hT⟩ := hT
      obtain ⟨hb, hT⟩ := hT
      obtain ⟨v19, ev, hT⟩ := hT
      refine c_fiald dX23_work_48 hc hb hW ev ?_
      obtain ⟨-, -, cc, hcc, -⟩ := hW.ob 3 (by decide)
      refine c_invV (vs := [.int v19]) dX23_work_49 oX3_step q1332 q1483 hcc q1333 (Or.inl rfl) rfl rfl (Nat.le_of_ble_eq_true rfl) rfl hW hF hT ?_ ?_
      · intro _ s20 f21 hT h hW hF
        obtain ⟨rfl, hT⟩ := hT
        refine x_aload_n dX23_work_52 rfl rfl rfl ?_
        refine x_aload_n dX23_work_53 rfl rfl rfl ?_
        obtain ⟨hc, hT⟩ := hT
        obtain ⟨a22, ev, hT⟩ := hT
        refine c_fgetG dX23_work_54 f_TallySlate_Places_10 hc (by decide) (by decide) hW ev ?_
        obtain ⟨hc, hT⟩ := hT
        obtain ⟨a23, ev, hT⟩ := hT
        refine c_fgetG dX23_work_57 f_TallySlate_Places_28 hc (by decide) (by decide) hW ev ?_
        refine x_iload_n dX23_work_60 rfl rfl ?_
        obtain ⟨hc, hT⟩ := hT
        obtain ⟨hb, hT⟩ := hT
        obtain ⟨v24, ev, hT⟩ := hT
        refine c_fiald dX23_work_61 hc hb hW ev ?_
        obtain ⟨-, -, cc, hcc, -⟩ := hW.ob 3 (by decide)
        refine c_invV (vs := [.int v24]) dX23_work_62 oX3_at q1485 q1484 hcc q1486 (Or.inl rfl) rfl rfl (Nat.le_of_ble_eq_true rfl) rfl hW hF hT ?_ ?_
        · intro _ s25 f26 hT h hW hF
          obtain ⟨rfl, hT⟩ := hT
          refine x_iinc (lo' := [some (.ref b0), some (.ref (w.1 3)), some (.int (b2 + 1))]) dX23_work_65 rfl (show _ = (b2 + 1) from rfl) rfl ?_
          refine x_goto (tgt := 15) dX23_work_68 rfl ?_
          exact hT f0 h hW hF
        · intro k s25 f26 hT h a hW hx hF
          exact c_out (rfl) hW hx hF hT
      · intro k s20 f21 hT h a hW hx hF
        exact c_out (rfl) hW hx hF hT
    have kt : ∀ k s15 f16, P28 (.inr k) s15 f16 → ∀ h a, CW E w s15 f16 h → xA w h k a → Frz f0 f16 → ExT l E (d + 1) MX23_work 36 [some (.ref b0), some (.ref (w.1 3)), some (.int b2)] [] a h (PoC E w f0 Q) := by
      intro k s15 f16 h0 h a hW hx hF
      have hT := hP _ _ _ h0
      clear h0
      exact c_out (rfl) hW hx hF hT
    obtain ⟨cc, hcc⟩ := hW.ocell hc
    rcases hT with ⟨rfl, hT⟩ | ⟨rfl, hT⟩ | ⟨rfl, hT⟩ | ⟨rfl, hT⟩ | ⟨rfl, hT⟩ | ⟨rfl, hT⟩ | ⟨rfl, hT⟩ | ⟨rfl, hT⟩
    · exact c_invV (vs := [.ref (w.1 3)]) dX23_work_36 oX17_work q1367 q1372 hcc q1931 (Or.inr hy_Node_work) rfl rfl (Nat.le_of_ble_eq_true rfl) rfl hW hF hT kr kt
    · exact c_invV (vs := [.ref (w.1 3)]) dX23_work_36 oX18_work q1354 q1372 hcc q1929 (Or.inr hy_Node_work) rfl rfl (Nat.le_of_ble_eq_true rfl) rfl hW hF hT kr kt
    · exact c_invV (vs := [.ref (w.1 3)]) dX23_work_36 oX20_work q1345 q1372 hcc q1344 (Or.inr hy_Node_work) rfl rfl (Nat.le_of_ble_eq_true rfl) rfl hW hF hT kr kt
    · exact c_invV (vs := [.ref (w.1 3)]) dX23_work_36 oX21_work q1348 q1372 hcc q1927 (Or.inr hy_Node_work) rfl rfl (Nat.le_of_ble_eq_true rfl) rfl hW hF hT kr kt
    · exact c_invV (vs := [.ref (w.1 3)]) dX23_work_36 oX22_work q1357 q1372 hcc q1930 (Or.inr hy_Node_work) rfl rfl (Nat.le_of_ble_eq_true rfl) rfl hW hF hT kr kt
    · exact c_invV (vs := [.ref (w.1 3)]) dX23_work_36 oX23_work q1370 q1372 hcc q1932 (Or.inr hy_Node_work) rfl rfl (Nat.le_of_ble_eq_true rfl) rfl hW hF hT kr kt
    · exact c_invV (vs := [.ref (w.1 3)]) dX23_work_36 oX24_work q1373 q1372 hcc q1933 (Or.inr hy_Node_work) rfl rfl (Nat.le_of_ble_eq_true rfl) rfl hW hF hT kr kt
    · exact c_invV (vs := [.ref (w.1 3)]) dX23_work_36 oX25_work q1351 q1372 hcc q1928 (Or.inr hy_Node_work) rfl rfl (Nat.le_of_ble_eq_true rfl) rfl hW hF hT kr kt
theorem vX24_init_0 {l : Launch} {E : EN} {w : CO} {d : Nat} {s : CS} {f : RH} {Q : KO → CS → RH → Prop} {x0 : Nat} {x1 : Nat} {x2 : Int32}  (hT : (EvC l E w d MX16_init [.ref x0] s f (fun o s1 f2 => KP o (fun r => r = none ∧ (oc f2 x0 22 ∧ f2.2.2.2 ≤ x0 ∧ ∀ f3 : RH, f3 = fset f2 x0 182 (.ref x1) → (narrow .boolean (.int x2) = .int x2 ∧ fits .boolean (.int x2) = true ∧ oc f3 x0 22 ∧ f3.2.2.2 ≤ x0 ∧ ∀ f4 : RH, f4 = fset f3 x0 183 (.int x2) → Q (.inl none) s1 f4))) (fun k => Q (.inr k) s1 f2)))) : ExC l E w (d + 1) MX24_init 0 [some (.ref x0), some (.ref x1), some (.int x2)] [] s f Q := by
  intro f0 h hW hF
  refine x_aload_n dX24_init_0 rfl rfl rfl ?_
  refine c_invI (b := x0) (vs := []) dX24_init_1 oX16_init rfl rfl rfl q917 (Or.inr ⟨_, q1102⟩) rfl rfl (Nat.le_of_ble_eq_true rfl) rfl hW hF hT ?_ ?_
  · intro _ s1 f2 hT h hW hF
    obtain ⟨rfl, hT⟩ := hT
    refine x_aload_n dX24_init_4 rfl rfl rfl ?_
    refine x_aload_n dX24_init_5 rfl rfl rfl ?_
    obtain ⟨hc, hz, hT⟩ := hT
    refine c_fputG dX24_init_6 f_TallySlate_Prefix_7 hc (by decide) (by decide) hz (Or.inr ⟨rfl, rfl⟩) rfl rfl hW hF ?_
    intro f3 ef3 h hW hF
    replace hT := hT f3 ef3
    refine x_aload_n dX24_init_9 rfl rfl rfl ?_
    refine x_iload_n dX24_init_10 rfl rfl ?_
    obtain ⟨hnz, hfz, hT⟩ := hT
    obtain ⟨hc, hz, hT⟩ := hT
    refine c_fputG dX24_init_11 f_TallySlate_Prefix_13 hc (by decide) (by decide) hz (Or.inr ⟨rfl, rfl⟩) hnz hfz hW hF ?_
    intro f4 ef4 h hW hF
    replace hT := hT f4 ef4
    exact x_vret dX24_init_14 rfl ⟨_, _, hW, hF, Or.inl ⟨_, rfl, hT⟩⟩
  · intro k s1 f2 hT h a hW hx hF
    exact c_out (rfl) hW hx hF hT
theorem eX24_init {l : Launch} {E : EN} {w : CO} {d : Nat} {s : CS} {f : RH} {Q : KO → CS → RH → Prop} {x0 : Nat} {x1 : Nat} {x2 : Int32}  (hst : l.stackTraces = false) (hT : (EvC l E w d MX16_init [.ref x0] s f (fun o s1 f2 => KP o (fun r => r = none ∧ (oc f2 x0 22 ∧ f2.2.2.2 ≤ x0 ∧ ∀ f3 : RH, f3 = fset f2 x0 182 (.ref x1) → (narrow .boolean (.int x2) = .int x2 ∧ fits .boolean (.int x2) = true ∧ oc f3 x0 22 ∧ f3.2.2.2 ≤ x0 ∧ ∀ f4 : RH, f4 = fset f3 x0 183 (.int x2) → Q (.inl none) s1 f4))) (fun k => Q (.inr k) s1 f2)))) : EvC l E w (d + 1) MX24_init [.ref x0, .ref x1, .int x2] s f Q :=
  EvC.of hst (by decide) (Nat.le_of_ble_eq_true rfl) (vX24_init_0  hT)
theorem vX24_work_0 {l : Launch} {E : EN} {w : CO} {d : Nat} {s : CS} {f : RH} {Q : KO → CS → RH → Prop} {x0 : Nat}  (hT : (oc f x0 22 ∧ (∃ a1 : Nat, vl f x0 182 = .ref a1 ∧ (∃ P14 : KO → CS → RH → Prop, (∀ o s2 f3, P14 o s2 f3 → KP o (fun r => r = none ∧ (∃ k4 : Nat, oc f3 x0 k4 ∧ 165 ∈ CF k4 ∧ ¬ k4 = 30 ∧ (∃ v5 : Int32, vl f3 x0 165 = .int v5 ∧ (EvC l E w d MX3_step [.ref (w.1 3), .int v5] s2 f3 (fun o s6 f7 => KP o (fun r => r = none ∧ (oc f7 x0 22 ∧ (∃ v8 : Int32, vl f7 x0 183 = .int v8 ∧ (∃ k9 : Nat, oc f7 x0 k9 ∧ 165 ∈ CF k9 ∧ ¬ k9 = 30 ∧ (∃ v10 : Int32, vl f7 x0 165 = .int v10 ∧ (EvC l E w d MX5_one [.ref (w.1 5), .int v8, .int v10] s6 f7 (fun o s11 f12 => KP o (fun r => r = none ∧ Q (.inl none) s11 f12) (fun k => Q (.inr k) s11 f12)))))))) (fun k => Q (.inr k) s6 f7)))))) (fun k => Q (.inr k) s2 f3)) ∧ ∃ k13 : Nat, oc f a1 k13 ∧ ((k13 = 15 ∧ EvC l E w d MX17_work [.ref a1, .ref (w.1 3)] s f P14) ∨ (k13 = 16 ∧ EvC l E w d MX18_work [.ref a1, .ref (w.1 3)] s f P14) ∨ (k13 = 18 ∧ EvC l E w d MX20_work [.ref a1, .ref (w.1 3)] s f P14) ∨ (k13 = 19 ∧ EvC l E w d MX21_work [.ref a1, .ref (w.1 3)] s f P14) ∨ (k13 = 20 ∧ EvC l E w d MX22_work [.ref a1, .ref (w.1 3)] s f P14) ∨ (k13 = 21 ∧ EvC l E w d MX23_work [.ref a1, .ref (w.1 3)] s f P14) ∨ (k13 = 22 ∧ EvC l E w d MX24_work [.ref a1, .ref (w.1 3)] s f P14) ∨ (k13 = 23 ∧ EvC l E w d MX25_work [.ref a1, .ref (w.1 3)] s f P14)))))) : ExC l E w (d + 1) MX24_work 0 [some (.ref x0), some (.ref (w.1 3))] [] s f Q := by
  intro f0 h hW hF
  refine x_aload_n dX24_work_0 rfl rfl rfl ?_
  obtain ⟨hc, hT⟩ := hT
  obtain ⟨a1, ev, hT⟩ := hT
  refine c_fgetG dX24_work_1 f_TallySlate_Prefix_7 hc (by decide) (by decide) hW ev ?_
  refine x_aload_n dX24_work_4 rfl rfl rfl ?_
  obtain ⟨P14, hP, k13, hc, hT⟩ := hT
  have kr : ∀ r s2 f3, P14 (.inl r) s2 f3 → ∀ h, CW E w s2 f3 h → Frz f0 f3 → Ex l E (d + 1) MX24_work (5 + 3) [some (.ref x0), some (.ref (w.1 3))] (r.toList ++ []) h (PoC E w f0 Q) := by
    intro r s2 f3 h0 h hW hF
    have hT := hP _ _ _ h0
    clear h0
    obtain ⟨rfl, hT⟩ := hT
    refine x_aload_n dX24_work_8 rfl rfl rfl ?_
    refine x_aload_n dX24_work_9 rfl rfl rfl ?_
    obtain ⟨k4, hc, hj, h30, hT⟩ := hT
    obtain ⟨v5, ev, hT⟩ := hT
    refine c_fgetG dX24_work_10 f_TallySlate_Prefix_21 hc hj (fun z => absurd z h30) hW ev ?_
    obtain ⟨-, -, cc, hcc, -⟩ := hW.ob 3 (by decide)
    refine c_invV (vs := [.int v5]) dX24_work_13 oX3_step q1332 q1376 hcc q1333 (Or.inl rfl) rfl rfl (Nat.le_of_ble_eq_true rfl) rfl hW hF hT ?_ ?_
    · intro _ s6 f7 hT h hW hF
      obtain ⟨rfl, hT⟩ := hT
      refine x_aload_n dX24_work_16 rfl rfl rfl ?_
      refine c_getO dX24_work_17 f_TallySlate_Prefix_31 (by decide) (by decide) rfl hW ?_
      refine x_aload_n dX24_work_20 rfl rfl rfl ?_
      obtain ⟨hc, hT⟩ := hT
      obtain ⟨v8, ev, hT⟩ := hT
      refine c_fgetG dX24_work_21 f_TallySlate_Prefix_13 hc (by decide) (by decide) hW ev ?_
      refine x_aload_n dX24_work_24 rfl rfl rfl ?_
      obtain ⟨k9, hc, hj, h30, hT⟩ := hT
      obtain ⟨v10, ev, hT⟩ := hT
      refine c_fgetG dX24_work_25 f_TallySlate_Prefix_21 hc hj (fun z => absurd z h30) hW ev ?_
      obtain ⟨-, -, cc, hcc, -⟩ := hW.ob 5 (by decide)
      refine c_invV (vs := [.int v8, .int v10]) dX24_work_28 oX5_one q1378 q1377 hcc q1379 (Or.inl rfl) rfl rfl (Nat.le_of_ble_eq_true rfl) rfl hW hF hT ?_ ?_
      · intro _ s11 f12 hT h hW hF
        obtain ⟨rfl, hT⟩ := hT
        exact x_vret dX24_work_31 rfl ⟨_, _, hW, hF, Or.inl ⟨_, rfl, hT⟩⟩
      · intro k s11 f12 hT h a hW hx hF
        exact c_out (rfl) hW hx hF hT
    · intro k s6 f7 hT h a hW hx hF
      exact c_out (rfl) hW hx hF hT
  have kt : ∀ k s2 f3, P14 (.inr k) s2 f3 → ∀ h a, CW E w s2 f3 h → xA w h k a → Frz f0 f3 → ExT l E (d + 1) MX24_work 5 [some (.ref x0), some (.ref (w.1 3))] [] a h (PoC E w f0 Q) := by
    intro k s2 f3 h0 h a hW hx hF
    have hT := hP _ _ _ h0
    clear h0
    exact c_out (rfl) hW hx hF hT
  obtain ⟨cc, hcc⟩ := hW.ocell hc
  rcases hT with ⟨rfl, hT⟩ | ⟨rfl, hT⟩ | ⟨rfl, hT⟩ | ⟨rfl, hT⟩ | ⟨rfl, hT⟩ | ⟨rfl, hT⟩ | ⟨rfl, hT⟩ | ⟨rfl, hT⟩
  · exact c_invV (vs := [.ref (w.1 3)]) dX24_work_5 oX17_work q1367 q1375 hcc q1931 (Or.inr hy_Node_work) rfl rfl (Nat.le_of_ble_eq_true rfl) rfl hW hF hT kr kt
  · exact c_invV (vs := [.ref (w.1 3)]) dX24_work_5 oX18_work q1354 q1375 hcc q1929 (Or.inr hy_Node_work) rfl rfl (Nat.le_of_ble_eq_true rfl) rfl hW hF hT kr kt
  · exact c_invV (vs := [.ref (w.1 3)]) dX24_work_5 oX20_work q1345 q1375 hcc q1344 (Or.inr hy_Node_work) rfl rfl (Nat.le_of_ble_eq_true rfl) rfl hW hF hT kr kt
  · exact c_invV (vs := [.ref (w.1 3)]) dX24_work_5 oX21_work q1348 q1375 hcc q1927 (Or.inr hy_Node_work) rfl rfl (Nat.le_of_ble_eq_true rfl) rfl hW hF hT kr kt
  · exact c_invV (vs := [.ref (w.1 3)]) dX24_work_5 oX22_work q1357 q1375 hcc q1930 (Or.inr hy_Node_work) rfl rfl (Nat.le_of_ble_eq_true rfl) rfl hW hF hT kr kt
  · exact c_invV (vs := [.ref (w.1 3)]) dX24_work_5 oX23_work q1370 q1375 hcc q1932 (Or.inr hy_Node_work) rfl rfl (Nat.le_of_ble_eq_true rfl) rfl hW hF hT kr kt
  · exact c_invV (vs := [.ref (w.1 3)]) dX24_work_5 oX24_work q1373 q1375 hcc q1933 (Or.inr hy_Node_work) rfl rfl (Nat.le_of_ble_eq_true rfl) rfl hW hF hT kr kt
  · exact c_invV (vs := [.ref (w.1 3)]) dX24_work_5 oX25_work q1351 q1375 hcc q1928 (Or.inr hy_Node_work) rfl rfl (Nat.le_of_ble_eq_true rfl) rfl hW hF hT kr kt
theorem eX24_work {l : Launch} {E : EN} {w : CO} {d : Nat} {s : CS} {f : RH} {Q : KO → CS → RH → Prop} {x0 : Nat}  (hst : l.stackTraces = false) (hT : (oc f x0 22 ∧ (∃ a1 : Nat, vl f x0 182 = .ref a1 ∧ (∃ P14 : KO → CS → RH → Prop, (∀ o s2 f3, P14 o s2 f3 → KP o (fun r => r = none ∧ (∃ k4 : Nat, oc f3 x0 k4 ∧ 165 ∈ CF k4 ∧ ¬ k4 = 30 ∧ (∃ v5 : Int32, vl f3 x0 165 = .int v5 ∧ (EvC l E w d MX3_step [.ref (w.1 3), .int v5] s2 f3 (fun o s6 f7 => KP o (fun r => r = none ∧ (oc f7 x0 22 ∧ (∃ v8 : Int32, vl f7 x0 183 = .int v8 ∧ (∃ k9 : Nat, oc f7 x0 k9 ∧ 165 ∈ CF k9 ∧ ¬ k9 = 30 ∧ (∃ v10 : Int32, vl f7 x0 165 = .int v10 ∧ (EvC l E w d MX5_one [.ref (w.1 5), .int v8, .int v10] s6 f7 (fun o s11 f12 => KP o (fun r => r = none ∧ Q (.inl none) s11 f12) (fun k => Q (.inr k) s11 f12)))))))) (fun k => Q (.inr k) s6 f7)))))) (fun k => Q (.inr k) s2 f3)) ∧ ∃ k13 : Nat, oc f a1 k13 ∧ ((k13 = 15 ∧ EvC l E w d MX17_work [.ref a1, .ref (w.1 3)] s f P14) ∨ (k13 = 16 ∧ EvC l E w d MX18_work [.ref a1, .ref (w.1 3)] s f P14) ∨ (k13 = 18 ∧ EvC l E w d MX20_work [.ref a1, .ref (w.1 3)] s f P14) ∨ (k13 = 19 ∧ EvC l E w d MX21_work [.ref a1, .ref (w.1 3)] s f P14) ∨ (k13 = 20 ∧ EvC l E w d MX22_work [.ref a1, .ref (w.1 3)] s f P14) ∨ (k13 = 21 ∧ EvC l E w d MX23_work [.ref a1, .ref (w.1 3)] s f P14) ∨ (k13 = 22 ∧ EvC l E w d MX24_work [.ref a1, .ref (w.1 3)] s f P14) ∨ (k13 = 23 ∧ EvC l E w d MX25_work [.ref a1, .ref (w.1 3)] s f P14)))))) : EvC l E w (d + 1) MX24_work [.ref x0, .ref (w.1 3)] s f Q :=
  EvC.of hst (by decide) (Nat.le_of_ble_eq_true rfl) (vX24_work_0  hT)
theorem vX25_init_0 {l : Launch} {E : EN} {w : CO} {d : Nat} {s : CS} {f : RH} {Q : KO → CS → RH → Prop} {x0 : Nat}  (hT : (EvC l E w d MX16_init [.ref x0] s f (fun o s1 f2 => KP o (fun r => r = none ∧ (rmF E f2 1 4 ∧ ∀ (a3 : Nat) (f4 : RH), a3 = f2.1 → f4 = fnew f2 17 → (EvC l E w d MX19_init [.ref a3] s1 f4 (fun o s5 f6 => KP o (fun r => r = none ∧ (oc f6 x0 23 ∧ f6.2.2.2 ≤ x0 ∧ ∀ f7 : RH, f7 = fset f6 x0 184 (.ref a3) → Q (.inl none) s5 f7)) (fun k => Q (.inr k) s5 f6))))) (fun k => Q (.inr k) s1 f2)))) : ExC l E w (d + 1) MX25_init 0 [some (.ref x0)] [] s f Q := by
  intro f0 h hW hF
  refine x_aload_n dX25_init_0 rfl rfl rfl ?_
  refine c_invI (b := x0) (vs := []) dX25_init_1 oX16_init rfl rfl rfl q917 (Or.inr ⟨_, q1120⟩) rfl rfl (Nat.le_of_ble_eq_true rfl) rfl hW hF hT ?_ ?_
  · intro _ s1 f2 hT h hW hF
    obtain ⟨rfl, hT⟩ := hT
    refine x_aload_n dX25_init_4 rfl rfl rfl ?_
    obtain ⟨hr, hT⟩ := hT
    refine c_newG (k := 17) dX25_init_5 (by decide) q1121 q192 hr hW hF ?_
    intro a3 f4 ea3 ef4 h hW hF
    replace hT := hT a3 f4 ea3 ef4
    refine x_dup dX25_init_8 rfl ?_
    refine c_invI (b := a3) (vs := []) dX25_init_9 oX19_init rfl rfl rfl q953 (Or.inr ⟨_, q1122⟩) rfl rfl (Nat.le_of_ble_eq_true rfl) rfl hW hF hT ?_ ?_
    · intro _ s5 f6 hT h hW hF
      obtain ⟨rfl, hT⟩ := hT
      obtain ⟨hc, hz, hT⟩ := hT
      refine c_fputG dX25_init_12 f_TallySlate_Chain_10 hc (by decide) (by decide) hz (Or.inr ⟨rfl, rfl⟩) rfl rfl hW hF ?_
      intro f7 ef7 h hW hF
      replace hT := hT f7 ef7
      exact x_vret dX25_init_15 rfl ⟨_, _, hW, hF, Or.inl ⟨_, rfl, hT⟩⟩
    · intro k s5 f6 hT h a hW hx hF
      exact c_out (rfl) hW hx hF hT
  · intro k s1 f2 hT h a hW hx hF
    exact c_out (rfl) hW hx hF hT
theorem eX25_init {l : Launch} {E : EN} {w : CO} {d : Nat} {s : CS} {f : RH} {Q : KO → CS → RH → Prop} {x0 : Nat}  (hst : l.stackTraces = false) (hT : (EvC l E w d MX16_init [.ref x0] s f (fun o s1 f2 => KP o (fun r => r = none ∧ (rmF E f2 1 4 ∧ ∀ (a3 : Nat) (f4 : RH), a3 = f2.1 → f4 = fnew f2 17 → (EvC l E w d MX19_init [.ref a3] s1 f4 (fun o s5 f6 => KP o (fun r => r = none ∧ (oc f6 x0 23 ∧ f6.2.2.2 ≤ x0 ∧ ∀ f7 : RH, f7 = fset f6 x0 184 (.ref a3) → Q (.inl none) s5 f7)) (fun k => Q (.inr k) s5 f6))))) (fun k => Q (.inr k) s1 f2)))) : EvC l E w (d + 1) MX25_init [.ref x0] s f Q :=
  EvC.of hst (by decide) (Nat.le_of_ble_eq_true rfl) (vX25_init_0  hT)
theorem vX25_work_0 {l : Launch} {E : EN} {w : CO} {d : Nat} {s : CS} {f : RH} {Q : KO → CS → RH → Prop} {x0 : Nat}  (hT : (oc f x0 23 ∧ (∃ a1 : Nat, vl f x0 184 = .ref a1 ∧ (oc f a1 17 ∧ (∃ a2 : Nat, vl f a1 168 = .ref a2 ∧ (∃ t3 : Nat, 4 ≤ t3 ∧ (tg f a2 = some (.inr t3) ∧ inB 0 (ln f a2) ∧ (∃ a4 : Nat, vl f a2 (0 : Int32).toNatClampNeg = .ref a4 ∧ (∃ P8 : KO → CS → RH → Prop, (∀ o s5 f6, P8 o s5 f6 → KP o (fun r => r = none ∧ ExC l E w (d + 1) MX25_work 15 [some (.ref x0), some (.ref (w.1 3)), some (.int 1)] [] s5 f6 Q) (fun k => Q (.inr k) s5 f6)) ∧ ∃ k7 : Nat, oc f a4 k7 ∧ ((k7 = 15 ∧ EvC l E w d MX17_work [.ref a4, .ref (w.1 3)] s f P8) ∨ (k7 = 16 ∧ EvC l E w d MX18_work [.ref a4, .ref (w.1 3)] s f P8) ∨ (k7 = 18 ∧ EvC l E w d MX20_work [.ref a4, .ref (w.1 3)] s f P8) ∨ (k7 = 19 ∧ EvC l E w d MX21_work [.ref a4, .ref (w.1 3)] s f P8) ∨ (k7 = 20 ∧ EvC l E w d MX22_work [.ref a4, .ref (w.1 3)] s f P8) ∨ (k7 = 21 ∧ EvC l E w d MX23_work [.ref a4, .ref (w.1 3)] s f P8) ∨ (k7 = 22 ∧ EvC l E w d MX24_work [.ref a4, .ref (w.1 3)] s f P8) ∨ (k7 = 23 ∧ EvC l E w d MX25_work [.ref a4, .ref (w.1 3)] s f P8))))))))))) : ExC l E w (d + 1) MX25_work 0 [some (.ref x0), some (.ref (w.1 3)), none] [] s f Q := by
  intro f0 h hW hF
  refine x_aload_n dX25_work_0 rfl rfl rfl ?_
  obtain ⟨hc, hT⟩ := hT
  obtain ⟨a1, ev, hT⟩ := hT
  refine c_fgetG dX25_work_1 f_TallySlate_Chain_10 hc (by decide) (by decide) hW ev ?_
  obtain ⟨hc, hT⟩ := hT
  obtain ⟨a2, ev, hT⟩ := hT
  refine c_fgetG dX25_work_4 f_TallySlate_Chain_16 hc (by decide) (by decide) hW ev ?_
  refine x_iconst (v := 0) dX25_work_7 rfl ?_
  obtain ⟨t3, ht2, hc, hT⟩ := hT
  obtain ⟨hb, hT⟩ := hT
  obtain ⟨a4, ev, hT⟩ := hT
  refine c_faald dX25_work_8 hc ht2 hb hW ev ?_
  refine x_aload_n dX25_work_9 rfl rfl rfl ?_
  obtain ⟨P8, hP, k7, hc, hT⟩ := hT
  have kr : ∀ r s5 f6, P8 (.inl r) s5 f6 → ∀ h, CW E w s5 f6 h → Frz f0 f6 → Ex l E (d + 1) MX25_work (10 + 3) [some (.ref x0), some (.ref (w.1 3)), none] (r.toList ++ []) h (PoC E w f0 Q) := by
    intro r s5 f6 h0 h hW hF
    have hT := hP _ _ _ h0
    clear h0
    obtain ⟨rfl, hT⟩ := hT
    refine x_iconst (v := 1) dX25_work_13 rfl ?_
    refine x_istore_n (lo' := [some (.ref x0), some (.ref (w.1 3)), some (.int 1)]) dX25_work_14 rfl (Nat.le_of_ble_eq_true rfl) rfl ?_
    exact hT f0 h hW hF
  have kt : ∀ k s5 f6, P8 (.inr k) s5 f6 → ∀ h a, CW E w s5 f6 h → xA w h k a → Frz f0 f6 → ExT l E (d + 1) MX25_work 10 [some (.ref x0), some (.ref (w.1 3)), none] [] a h (PoC E w f0 Q) := by
    intro k s5 f6 h0 h a hW hx hF
    have hT := hP _ _ _ h0
    clear h0
    exact c_out (rfl) hW hx hF hT
  obtain ⟨cc, hcc⟩ := hW.ocell hc
  rcases hT with ⟨rfl, hT⟩ | ⟨rfl, hT⟩ | ⟨rfl, hT⟩ | ⟨rfl, hT⟩ | ⟨rfl, hT⟩ | ⟨rfl, hT⟩ | ⟨rfl, hT⟩ | ⟨rfl, hT⟩
  · exact c_invV (vs := [.ref (w.1 3)]) dX25_work_10 oX17_work q1367 q1353 hcc q1931 (Or.inr hy_Node_work) rfl rfl (Nat.le_of_ble_eq_true rfl) rfl hW hF hT kr kt
  · exact c_invV (vs := [.ref (w.1 3)]) dX25_work_10 oX18_work q1354 q1353 hcc q1929 (Or.inr hy_Node_work) rfl rfl (Nat.le_of_ble_eq_true rfl) rfl hW hF hT kr kt
  · exact c_invV (vs := [.ref (w.1 3)]) dX25_work_10 oX20_work q1345 q1353 hcc q1344 (Or.inr hy_Node_work) rfl rfl (Nat.le_of_ble_eq_true rfl) rfl hW hF hT kr kt
  · exact c_invV (vs := [.ref (w.1 3)]) dX25_work_10 oX21_work q1348 q1353 hcc q1927 (Or.inr hy_Node_work) rfl rfl (Nat.le_of_ble_eq_true rfl) rfl hW hF hT kr kt
  · exact c_invV (vs := [.ref (w.1 3)]) dX25_work_10 oX22_work q1357 q1353 hcc q1930 (Or.inr hy_Node_work) rfl rfl (Nat.le_of_ble_eq_true rfl) rfl hW hF hT kr kt
  · exact c_invV (vs := [.ref (w.1 3)]) dX25_work_10 oX23_work q1370 q1353 hcc q1932 (Or.inr hy_Node_work) rfl rfl (Nat.le_of_ble_eq_true rfl) rfl hW hF hT kr kt
  · exact c_invV (vs := [.ref (w.1 3)]) dX25_work_10 oX24_work q1373 q1353 hcc q1933 (Or.inr hy_Node_work) rfl rfl (Nat.le_of_ble_eq_true rfl) rfl hW hF hT kr kt
  · exact c_invV (vs := [.ref (w.1 3)]) dX25_work_10 oX25_work q1351 q1353 hcc q1928 (Or.inr hy_Node_work) rfl rfl (Nat.le_of_ble_eq_true rfl) rfl hW hF hT kr kt
theorem eX25_work {l : Launch} {E : EN} {w : CO} {d : Nat} {s : CS} {f : RH} {Q : KO → CS → RH → Prop} {x0 : Nat}  (hst : l.stackTraces = false) (hT : (oc f x0 23 ∧ (∃ a1 : Nat, vl f x0 184 = .ref a1 ∧ (oc f a1 17 ∧ (∃ a2 : Nat, vl f a1 168 = .ref a2 ∧ (∃ t3 : Nat, 4 ≤ t3 ∧ (tg f a2 = some (.inr t3) ∧ inB 0 (ln f a2) ∧ (∃ a4 : Nat, vl f a2 (0 : Int32).toNatClampNeg = .ref a4 ∧ (∃ P8 : KO → CS → RH → Prop, (∀ o s5 f6, P8 o s5 f6 → KP o (fun r => r = none ∧ ExC l E w (d + 1) MX25_work 15 [some (.ref x0), some (.ref (w.1 3)), some (.int 1)] [] s5 f6 Q) (fun k => Q (.inr k) s5 f6)) ∧ ∃ k7 : Nat, oc f a4 k7 ∧ ((k7 = 15 ∧ EvC l E w d MX17_work [.ref a4, .ref (w.1 3)] s f P8) ∨ (k7 = 16 ∧ EvC l E w d MX18_work [.ref a4, .ref (w.1 3)] s f P8) ∨ (k7 = 18 ∧ EvC l E w d MX20_work [.ref a4, .ref (w.1 3)] s f P8) ∨ (k7 = 19 ∧ EvC l E w d MX21_work [.ref a4, .ref (w.1 3)] s f P8) ∨ (k7 = 20 ∧ EvC l E w d MX22_work [.ref a4, .ref (w.1 3)] s f P8) ∨ (k7 = 21 ∧ EvC l E w d MX23_work [.ref a4, .ref (w.1 3)] s f P8) ∨ (k7 = 22 ∧ EvC l E w d MX24_work [.ref a4, .ref (w.1 3)] s f P8) ∨ (k7 = 23 ∧ EvC l E w d MX25_work [.ref a4, .ref (w.1 3)] s f P8))))))))))) : EvC l E w (d + 1) MX25_work [.ref x0, .ref (w.1 3)] s f Q :=
  EvC.of hst (by decide) (Nat.le_of_ble_eq_true rfl) (vX25_work_0  hT)
set_option maxHeartbeats 16000000 in
theorem vX25_work_15 {l : Launch} {E : EN} {w : CO} {d : Nat} {s : CS} {f : RH} {Q : KO → CS → RH → Prop} {b0 : Nat} {b2 : Int32}  (hT : (oc f b0 23 ∧ (∃ a9 : Nat, vl f b0 184 = .ref a9 ∧ (oc f a9 17 ∧ (∃ v10 : Int32, vl f a9 171 = .int v10 ∧ ((v10 ≤ b2 → Q (.inl none) s f) ∧ (¬ v10 ≤ b2 → (oc f b0 23 ∧ (∃ a11 : Nat, vl f b0 184 = .ref a11 ∧ (oc f a11 17 ∧ (∃ a12 : Nat, vl f a11 168 = .ref a12 ∧ (∃ t13 : Nat, 4 ≤ t13 ∧ (tg f a12 = some (.inr t13) ∧ inB b2 (ln f a12) ∧ (∃ a14 : Nat, vl f a12 b2.toNatClampNeg = .ref a14 ∧ (∃ P31 : KO → CS → RH → Prop, (∀ o s15 f16, P31 o s15 f16 → KP o (fun r => r = none ∧ (oc f16 b0 23 ∧ (∃ a17 : Nat, vl f16 b0 184 = .ref a17 ∧ (oc f16 a17 17 ∧ (∃ a18 : Nat, vl f16 a17 170 = .ref a18 ∧ (tg f16 a18 = some (.inr 0) ∧ inB b2 (ln f16 a18) ∧ (∃ v19 : Int32, vl f16 a18 b2.toNatClampNeg = .int v19 ∧ (EvC l E w d MX3_step [.ref (w.1 3), .int v19] s15 f16 (fun o s20 f21 => KP o (fun r => r = none ∧ (oc f21 b0 23 ∧ (∃ a22 : Nat, vl f21 b0 184 = .ref a22 ∧ (oc f21 a22 17 ∧ (∃ a23 : Nat, vl f21 a22 169 = .ref a23 ∧ (tg f21 a23 = some (.inr 0) ∧ inB b2 (ln f21 a23) ∧ (∃ v24 : Int32, vl f21 a23 b2.toNatClampNeg = .int v24 ∧ (oc f21 b0 23 ∧ (∃ a25 : Nat, vl f21 b0 184 = .ref a25 ∧ (oc f21 a25 17 ∧ (∃ a26 : Nat, vl f21 a25 170 = .ref a26 ∧ (tg f21 a26 = some (.inr 0) ∧ inB b2 (ln f21 a26) ∧ (∃ v27 : Int32, vl f21 a26 b2.toNatClampNeg = .int v27 ∧ (EvC l E w d MX5_two [.ref (w.1 5), .int v24, .int v27] s20 f21 (fun o s28 f29 => KP o (fun r => r = none ∧ ExC l E w (d + 1) MX25_work 15 [some (.ref b0), some (.ref (w.1 3)), some (.int (b2 + 1))] [] s28 f29 Q) (fun k => Q (.inr k) s28 f29)))))))))))))))) (fun k => Q (.inr k) s20 f21)))))))))) (fun k => Q (.inr k) s15 f16)) ∧ ∃ k30 : Nat, oc f a14 k30 ∧ ((k30 = 15 ∧ EvC l E w d MX17_work [.ref a14, .ref (w.1 3)] s f P31) ∨ (k30 = 16 ∧ EvC l E w d MX18_work [.ref a14, .ref (w.1 3)] s f P31) ∨ (k30 = 18 ∧ EvC l E w d MX20_work [.ref a14, .ref (w.1 3)] s f P31) ∨ (k30 = 19 ∧ EvC l E w d MX21_work [.ref a14, .ref (w.1 3)] s f P31) ∨ (k30 = 20 ∧ EvC l E w d MX22_work [.ref a14, .ref (w.1 3)] s f P31) ∨ (k30 = 21 ∧ EvC l E w d MX23_work [.ref a14, .ref (w.1 3)] s f P31) ∨ (k30 = 22 ∧ EvC l E w d MX24_work [.ref a14, .ref (w.1 3)] s f P31) ∨ (k30 = 23 ∧ EvC l E w d MX25_work [.ref a14, .ref (w.1 3)] s f P31))))))))))))))))) : ExC l E w (d + 1) MX25_work 15 [some (.ref b0), some (.ref (w.1 3)), some (.int b2)] [] s f Q := by
  intro f0 h hW hF
  refine x_iload_n dX25_work_15 rfl rfl ?_
  refine x_aload_n dX25_work_16 rfl rfl rfl ?_
  obtain ⟨hc, hT⟩ := hT
  obtain ⟨a9, ev, hT⟩ := hT
  refine c_fgetG dX25_work_17 f_TallySlate_Chain_10 hc (by decide) (by decide) hW ev ?_
  obtain ⟨hc, hT⟩ := hT
  obtain ⟨v10, ev, hT⟩ := hT
  refine c_fgetG dX25_work_20 f_TallySlate_Chain_24 hc (by decide) (by decide) hW ev ?_
  refine x_icmp_ge (tgt := 83) dX25_work_23 rfl (fun c => ?_) (fun c => ?_)
  · replace hT := hT.1 c
    exact x_vret dX25_work_83 rfl ⟨_, _, hW, hF, Or.inl ⟨_, rfl, hT⟩⟩
  · replace hT := hT.2 c
    refine x_aload_n dX25_work_26 rfl rfl rfl ?_
    obtain ⟨hc, hT⟩ := hT
    obtain ⟨a11, ev, hT⟩ := hT
    refine c_fgetG dX25_work_27 f_TallySlate_Chain_10 hc (by decide) (by decide) hW ev ?_
    obtain ⟨hc, hT⟩ := hT
    obtain ⟨a12, ev, hT⟩ := hT
    refine c_fgetG dX25_work_30 f_TallySlate_Chain_16 hc (by decide) (by decide) hW ev ?_
    refine x_iload_n dX25_work_33 rfl rfl ?_
    obtain ⟨t13, ht2, hc, hT⟩ := hT
    obtain ⟨hb, hT⟩ := hT
    obtain ⟨a14, ev, hT⟩ := hT
    refine c_faald dX25_work_34 hc ht2 hb hW ev ?_
    refine x_aload_n dX25_work_35 rfl rfl rfl ?_
    obtain ⟨P31, hP, k30, hc, hT⟩ := hT
    have kr : ∀ r s15 f16, P31 (.inl r) s15 f16 → ∀ h, CW E w s15 f16 h → Frz f0 f16 → Ex l E (d + 1) MX25_work (36 + 3) [some (.ref b0), some (.ref (w.1 3)), some (.int b2)] (r.toList ++ []) h (PoC E w f0 Q) := by
      intro r s15 f16 h0 h hW hF
      have hT := hP _ _ _ h0
      clear h0
      obtain ⟨rfl, hT⟩ := hT
      refine x_aload_n dX25_work_39 rfl rfl rfl ?_
      refine x_aload_n dX25_work_40 rfl rfl rfl ?_
      obtain ⟨hc, hT⟩ := hT
      obtain ⟨a17, ev, hT⟩ := hT
      refine c_fgetG dX25_work_41 f_TallySlate_Chain_10 hc (by decide) (by decide) hW ev ?_
      obtain ⟨hc, hT⟩ := hT
      obtain ⟨a18, ev, hT⟩ := hT
      refine c_fgetG dX25_work_44 f_TallySlate_Chain_28 hc (by decide) (by decide) hW ev ?_
      refine x_iload_n dX25_work_47 rfl rfl ?_
      obtain ⟨hc, hT⟩ := hT
      obtain ⟨hb, hT⟩ := hT
      obtain ⟨v19, ev, hT⟩ := hT
      refine c_fiald dX25_work_48 hc hb hW ev ?_
      obtain ⟨-, -, cc, hcc, -⟩ := hW.ob 3 (by decide)
      refine c_invV (vs := [.int v19]) dX25_work_49 oX3_step q1332 q1621 hcc q1333 (Or.inl rfl) rfl rfl (Nat.le_of_ble_eq_true rfl) rfl hW hF hT ?_ ?_
      · intro _ s20 f21 hT h hW hF
        obtain ⟨rfl, hT⟩ := hT
        refine x_aload_n dX25_work_52 rfl rfl rfl ?_
        refine c_getO dX25_work_53 f_TallySlate_Chain_38 (by decide) (by decide) rfl hW ?_
        refine x_aload_n dX25_work_56 rfl rfl rfl ?_
        obtain ⟨hc, hT⟩ := hT
        obtain ⟨a22, ev, hT⟩ := hT
        refine c_fgetG dX25_work_57 f_TallySlate_Chain_10 hc (by decide) (by decide) hW ev ?_
        obtain ⟨hc, hT⟩ := hT
        obtain ⟨a23, ev, hT⟩ := hT
        refine c_fgetG dX25_work_60 f_TallySlate_Chain_42 hc (by decide) (by decide) hW ev ?_
        refine x_iload_n dX25_work_63 rfl rfl ?_
        obtain ⟨hc, hT⟩ := hT
        obtain ⟨hb, hT⟩ := hT
        obtain ⟨v24, ev, hT⟩ := hT
        refine c_fiald dX25_work_64 hc hb hW ev ?_
        refine x_aload_n dX25_work_65 rfl rfl rfl ?_
        obtain ⟨hc, hT⟩ := hT
        obtain ⟨a25, ev, hT⟩ := hT
        refine c_fgetG dX25_work_66 f_TallySlate_Chain_10 hc (by decide) (by decide) hW ev ?_
        obtain ⟨hc, hT⟩ := hT
        obtain ⟨a26, ev, hT⟩ := hT
        refine c_fgetG dX25_work_69 f_TallySlate_Chain_28 hc (by decide) (by decide) hW ev ?_
        refine x_iload_n dX25_work_72 rfl rfl ?_
        obtain ⟨hc, hT⟩ := hT
        obtain ⟨hb, hT⟩ := hT
        obtain ⟨v27, ev, hT⟩ := hT
        refine c_fiald dX25_work_73 hc hb hW ev ?_
        obtain ⟨-, -, cc, hcc, -⟩ := hW.ob 5 (by decide)
        refine c_invV (vs := [.int v24, .int v27]) dX25_work_74 oX5_two q1623 q1622 hcc q1624 (Or.inl rfl) rfl rfl (Nat.le_of_ble_eq_true rfl) rfl hW hF hT ?_ ?_
        · intro _ s28 f29 hT h hW hF
          obtain ⟨rfl, hT⟩ := hT
          refine x_iinc (lo' := [some (.ref b0), some (.ref (w.1 3)), some (.int (b2 + 1))]) dX25_work_77 rfl (show _ = (b2 + 1) from rfl) rfl ?_
          refine x_goto (tgt := 15) dX25_work_80 rfl ?_
          exact hT f0 h hW hF
        · intro k s28 f29 hT h a hW hx hF
          exact c_out (rfl) hW hx hF hT
      · intro k s20 f21 hT h a hW hx hF
        exact c_out (rfl) hW hx hF hT
    have kt : ∀ k s15 f16, P31 (.inr k) s15 f16 → ∀ h a, CW E w s15 f16 h → xA w h k a → Frz f0 f16 → ExT l E (d + 1) MX25_work 36 [some (.ref b0), some (.ref (w.1 3)), some (.int b2)] [] a h (PoC E w f0 Q) := by
      intro k s15 f16 h0 h a hW hx hF
      have hT := hP _ _ _ h0
      clear h0
      exact c_out (rfl) hW hx hF hT
    obtain ⟨cc, hcc⟩ := hW.ocell hc
    rcases hT with ⟨rfl, hT⟩ | ⟨rfl, hT⟩ | ⟨rfl, hT⟩ | ⟨rfl, hT⟩ | ⟨rfl, hT⟩ | ⟨rfl, hT⟩ | ⟨rfl, hT⟩ | ⟨rfl, hT⟩
    · exact c_invV (vs := [.ref (w.1 3)]) dX25_work_36 oX17_work q1367 q1353 hcc q1931 (Or.inr hy_Node_work) rfl rfl (Nat.le_of_ble_eq_true rfl) rfl hW hF hT kr kt
    · exact c_invV (vs := [.ref (w.1 3)]) dX25_work_36 oX18_work q1354 q1353 hcc q1929 (Or.inr hy_Node_work) rfl rfl (Nat.le_of_ble_eq_true rfl) rfl hW hF hT kr kt
    · exact c_invV (vs := [.ref (w.1 3)]) dX25_work_36 oX20_work q1345 q1353 hcc q1344 (Or.inr hy_Node_work) rfl rfl (Nat.le_of_ble_eq_true rfl) rfl hW hF hT kr kt
    · exact c_invV (vs := [.ref (w.1 3)]) dX25_work_36 oX21_work q1348 q1353 hcc q1927 (Or.inr hy_Node_work) rfl rfl (Nat.le_of_ble_eq_true rfl) rfl hW hF hT kr kt
    · exact c_invV (vs := [.ref (w.1 3)]) dX25_work_36 oX22_work q1357 q1353 hcc q1930 (Or.inr hy_Node_work) rfl rfl (Nat.le_of_ble_eq_true rfl) rfl hW hF hT kr kt
    · exact c_invV (vs := [.ref (w.1 3)]) dX25_work_36 oX23_work q1370 q1353 hcc q1932 (Or.inr hy_Node_work) rfl rfl (Nat.le_of_ble_eq_true rfl) rfl hW hF hT kr kt
    · exact c_invV (vs := [.ref (w.1 3)]) dX25_work_36 oX24_work q1373 q1353 hcc q1933 (Or.inr hy_Node_work) rfl rfl (Nat.le_of_ble_eq_true rfl) rfl hW hF hT kr kt
    · exact c_invV (vs := [.ref (w.1 3)]) dX25_work_36 oX25_work q1351 q1353 hcc q1928 (Or.inr hy_Node_work) rfl rfl (Nat.le_of_ble_eq_true rfl) rfl hW hF hT kr kt
theorem vX26_init_0 {l : Launch} {E : EN} {w : CO} {d : Nat} {s : CS} {f : RH} {Q : KO → CS → RH → Prop} {x0 : Nat}  (hT : (EvC l E w d MX14_init [.ref x0] s f (fun o s1 f2 => KP o (fun r => r = none ∧ Q (.inl none) s1 f2) (fun k => Q (.inr k) s1 f2)))) : ExC l E w (d + 1) MX26_init 0 [some (.ref x0)] [] s f Q := by
  intro f0 h hW hF
  refine x_aload_n dX26_init_0 rfl rfl rfl ?_
  refine c_invI (b := x0) (vs := []) dX26_init_1 oX14_init rfl rfl rfl q863 (Or.inr ⟨_, q1140⟩) rfl rfl (Nat.le_of_ble_eq_true rfl) rfl hW hF hT ?_ ?_
  · intro _ s1 f2 hT h hW hF
    obtain ⟨rfl, hT⟩ := hT
    exact x_vret dX26_init_4 rfl ⟨_, _, hW, hF, Or.inl ⟨_, rfl, hT⟩⟩
  · intro k s1 f2 hT h a hW hx hF
    exact c_out (rfl) hW hx hF hT
theorem eX26_init {l : Launch} {E : EN} {w : CO} {d : Nat} {s : CS} {f : RH} {Q : KO → CS → RH → Prop} {x0 : Nat}  (hst : l.stackTraces = false) (hT : (EvC l E w d MX14_init [.ref x0] s f (fun o s1 f2 => KP o (fun r => r = none ∧ Q (.inl none) s1 f2) (fun k => Q (.inr k) s1 f2)))) : EvC l E w (d + 1) MX26_init [.ref x0] s f Q :=
  EvC.of hst (by decide) (Nat.le_of_ble_eq_true rfl) (vX26_init_0  hT)
theorem vX26_act_0 {l : Launch} {E : EN} {w : CO} {d : Nat} {s : CS} {f : RH} {Q : KO → CS → RH → Prop} {x0 : Nat}  (hT : ExC l E w (d + 1) MX26_act 2 [some (.ref x0), some (.ref (w.1 3)), some (.int 1)] [] s f Q) : ExC l E w (d + 1) MX26_act 0 [some (.ref x0), some (.ref (w.1 3)), none] [] s f Q := by
  intro f0 h hW hF
  refine x_iconst (v := 1) dX26_act_0 rfl ?_
  refine x_istore_n (lo' := [some (.ref x0), some (.ref (w.1 3)), some (.int 1)]) dX26_act_1 rfl (Nat.le_of_ble_eq_true rfl) rfl ?_
  exact hT f0 h hW hF
theorem eX26_act {l : Launch} {E : EN} {w : CO} {d : Nat} {s : CS} {f : RH} {Q : KO → CS → RH → Prop} {x0 : Nat}  (hst : l.stackTraces = false) (hT : ExC l E w (d + 1) MX26_act 2 [some (.ref x0), some (.ref (w.1 3)), some (.int 1)] [] s f Q) : EvC l E w (d + 1) MX26_act [.ref x0, .ref (w.1 3)] s f Q :=
  EvC.of hst (by decide) (Nat.le_of_ble_eq_true rfl) (vX26_act_0  hT)
set_option maxHeartbeats 16000000 in
theorem vX26_act_2 {l : Launch} {E : EN} {w : CO} {d : Nat} {s : CS} {f : RH} {Q : KO → CS → RH → Prop} {b0 : Nat} {b2 : Int32}  (hT : ((b2 = 0 → Q (.inl (some (.int 0))) s f) ∧ (¬ b2 = 0 → (∃ k1 : Nat, oc f b0 k1 ∧ 161 ∈ CF k1 ∧ ¬ k1 = 30 ∧ (∃ v2 : Int32, vl f b0 161 = .int v2 ∧ (EvC l E w d MX3_step [.ref (w.1 3), .int v2] s f (fun o s3 f4 => KP o (fun r => r = none ∧ (oc f4 b0 24 ∧ (∃ a5 : Nat, vl f4 b0 185 = .ref a5 ∧ (∃ P19 : KO → CS → RH → Prop, (∀ o s6 f7, P19 o s6 f7 → KP o (fun r => r = none ∧ (∃ k8 : Nat, oc f7 b0 k8 ∧ 161 ∈ CF k8 ∧ ¬ k8 = 30 ∧ (∃ v9 : Int32, vl f7 b0 161 = .int v9 ∧ (EvC l E w d MX3_isTrue [.ref (w.1 3), .int v9] s6 f7 (fun o s10 f11 => KP o (fun r => ∃ v12 : Int32, r = some (.int v12) ∧ ((v12 = 0 → ExC l E w (d + 1) MX26_act 2 [some (.ref b0), some (.ref (w.1 3)), some (.int v12)] [] s10 f11 Q) ∧ (¬ v12 = 0 → (oc f11 b0 24 ∧ (∃ a13 : Nat, vl f11 b0 186 = .ref a13 ∧ (oc f11 a13 13 ∧ EvC l E w d MX13_act [.ref a13, .ref (w.1 3)] s10 f11 (fun o s14 f15 => KP o (fun r => ∃ v16 : Int32, r = some (.int v16) ∧ ((v16 = 0 → ExC l E w (d + 1) MX26_act 2 [some (.ref b0), some (.ref (w.1 3)), some (.int v12)] [] s14 f15 Q) ∧ (¬ v16 = 0 → Q (.inl (some (.int 1))) s14 f15))) (fun k => Q (.inr k) s14 f15)))))))) (fun k => Q (.inr k) s10 f11)))))) (fun k => Q (.inr k) s6 f7)) ∧ ∃ k18 : Nat, oc f4 a5 k18 ∧ ((k18 = 15 ∧ EvC l E w d MX17_work [.ref a5, .ref (w.1 3)] s3 f4 P19) ∨ (k18 = 16 ∧ EvC l E w d MX18_work [.ref a5, .ref (w.1 3)] s3 f4 P19) ∨ (k18 = 18 ∧ EvC l E w d MX20_work [.ref a5, .ref (w.1 3)] s3 f4 P19) ∨ (k18 = 19 ∧ EvC l E w d MX21_work [.ref a5, .ref (w.1 3)] s3 f4 P19) ∨ (k18 = 20 ∧ EvC l E w d MX22_work [.ref a5, .ref (w.1 3)] s3 f4 P19) ∨ (k18 = 21 ∧ EvC l E w d MX23_work [.ref a5, .ref (w.1 3)] s3 f4 P19) ∨ (k18 = 22 ∧ EvC l E w d MX24_work [.ref a5, .ref (w.1 3)] s3 f4 P19) ∨ (k18 = 23 ∧ EvC l E w d MX25_work [.ref a5, .ref (w.1 3)] s3 f4 P19)))))) (fun k => Q (.inr k) s3 f4)))))))) : ExC l E w (d + 1) MX26_act 2 [some (.ref b0), some (.ref (w.1 3)), some (.int b2)] [] s f Q := by
  intro f0 h hW hF
  refine x_iload_n dX26_act_2 rfl rfl ?_
  refine x_if_eq (tgt := 48) dX26_act_3 rfl (fun c => ?_) (fun c => ?_)
  · replace hT := hT.1 c
    refine x_iconst (v := 0) dX26_act_48 rfl ?_
    exact x_iret dX26_act_49 rfl rfl ⟨_, _, hW, hF, Or.inl ⟨_, rfl, hT⟩⟩
  · replace hT := hT.2 c
    refine x_aload_n dX26_act_6 rfl rfl rfl ?_
    refine x_aload_n dX26_act_7 rfl rfl rfl ?_
    obtain ⟨k1, hc, hj, h30, hT⟩ := hT
    obtain ⟨v2, ev, hT⟩ := hT
    refine c_fgetG dX26_act_8 f_TallySlate_While_7 hc hj (fun z => absurd z h30) hW ev ?_
    obtain ⟨-, -, cc, hcc, -⟩ := hW.ob 3 (by decide)
    refine c_invV (vs := [.int v2]) dX26_act_11 oX3_step q1332 q2049 hcc q1333 (Or.inl rfl) rfl rfl (Nat.le_of_ble_eq_true rfl) rfl hW hF hT ?_ ?_
    · intro _ s3 f4 hT h hW hF
      obtain ⟨rfl, hT⟩ := hT
      refine x_aload_n dX26_act_14 rfl rfl rfl ?_
      obtain ⟨hc, hT⟩ := hT
      obtain ⟨a5, ev, hT⟩ := hT
      refine c_fgetG dX26_act_15 f_TallySlate_While_19 hc (by decide) (by decide) hW ev ?_
      refine x_aload_n dX26_act_18 rfl rfl rfl ?_
      obtain ⟨P19, hP, k18, hc, hT⟩ := hT
      have kr : ∀ r s6 f7, P19 (.inl r) s6 f7 → ∀ h, CW E w s6 f7 h → Frz f0 f7 → Ex l E (d + 1) MX26_act (19 + 3) [some (.ref b0), some (.ref (w.1 3)), some (.int b2)] (r.toList ++ []) h (PoC E w f0 Q) := by
        intro r s6 f7 h0 h hW hF
        have hT := hP _ _ _ h0
        clear h0
        obtain ⟨rfl, hT⟩ := hT
        refine x_aload_n dX26_act_22 rfl rfl rfl ?_
        refine x_aload_n dX26_act_23 rfl rfl rfl ?_
        obtain ⟨k8, hc, hj, h30, hT⟩ := hT
        obtain ⟨v9, ev, hT⟩ := hT
        refine c_fgetG dX26_act_24 f_TallySlate_While_7 hc hj (fun z => absurd z h30) hW ev ?_
        obtain ⟨-, -, cc, hcc, -⟩ := hW.ob 3 (by decide)
        refine c_invV (vs := [.int v9]) dX26_act_27 oX3_isTrue q1981 q2051 hcc q1982 (Or.inl rfl) rfl rfl (Nat.le_of_ble_eq_true rfl) rfl hW hF hT ?_ ?_
        · intro _ s10 f11 hT h hW hF
          obtain ⟨v12, rfl, hT⟩ := hT
          refine x_istore_n (lo' := [some (.ref b0), some (.ref (w.1 3)), some (.int v12)]) dX26_act_30 rfl (Nat.le_of_ble_eq_true rfl) rfl ?_
          refine x_iload_n dX26_act_31 rfl rfl ?_
          refine x_if_eq (tgt := 2) dX26_act_32 rfl (fun c => ?_) (fun c => ?_)
          · replace hT := hT.1 c
            exact hT f0 h hW hF
          · replace hT := hT.2 c
            refine x_aload_n dX26_act_35 rfl rfl rfl ?_
            obtain ⟨hc, hT⟩ := hT
            obtain ⟨a13, ev, hT⟩ := hT
            refine c_fgetG dX26_act_36 f_TallySlate_While_33 hc (by decide) (by decide) hW ev ?_
            refine x_aload_n dX26_act_39 rfl rfl rfl ?_
            obtain ⟨hc, hT⟩ := hT
            obtain ⟨cc, hcc⟩ := hW.ocell hc
            refine c_invV (vs := [.ref (w.1 3)]) dX26_act_40 oX13_act q1328 q2052 hcc q1329 (Or.inl rfl) rfl rfl (Nat.le_of_ble_eq_true rfl) rfl hW hF hT ?_ ?_
            · intro _ s14 f15 hT h hW hF
              obtain ⟨v16, rfl, hT⟩ := hT
              refine x_if_eq (tgt := 2) dX26_act_43 rfl (fun c => ?_) (fun c => ?_)
              · replace hT := hT.1 c
                exact hT f0 h hW hF
              · replace hT := hT.2 c
                refine x_iconst (v := 1) dX26_act_46 rfl ?_
                exact x_iret dX26_act_47 rfl rfl ⟨_, _, hW, hF, Or.inl ⟨_, rfl, hT⟩⟩
            · intro k s14 f15 hT h a hW hx hF
              exact c_out (rfl) hW hx hF hT
        · intro k s10 f11 hT h a hW hx hF
          exact c_out (rfl) hW hx hF hT
      have kt : ∀ k s6 f7, P19 (.inr k) s6 f7 → ∀ h a, CW E w s6 f7 h → xA w h k a → Frz f0 f7 → ExT l E (d + 1) MX26_act 19 [some (.ref b0), some (.ref (w.1 3)), some (.int b2)] [] a h (PoC E w f0 Q) := by
        intro k s6 f7 h0 h a hW hx hF
        have hT := hP _ _ _ h0
        clear h0
        exact c_out (rfl) hW hx hF hT
      obtain ⟨cc, hcc⟩ := hW.ocell hc
      rcases hT with ⟨rfl, hT⟩ | ⟨rfl, hT⟩ | ⟨rfl, hT⟩ | ⟨rfl, hT⟩ | ⟨rfl, hT⟩ | ⟨rfl, hT⟩ | ⟨rfl, hT⟩ | ⟨rfl, hT⟩
      · exact c_invV (vs := [.ref (w.1 3)]) dX26_act_19 oX17_work q1367 q2050 hcc q1931 (Or.inr hy_Node_work) rfl rfl (Nat.le_of_ble_eq_true rfl) rfl hW hF hT kr kt
      · exact c_invV (vs := [.ref (w.1 3)]) dX26_act_19 oX18_work q1354 q2050 hcc q1929 (Or.inr hy_Node_work) rfl rfl (Nat.le_of_ble_eq_true rfl) rfl hW hF hT kr kt
      · exact c_invV (vs := [.ref (w.1 3)]) dX26_act_19 oX20_work q1345 q2050 hcc q1344 (Or.inr hy_Node_work) rfl rfl (Nat.le_of_ble_eq_true rfl) rfl hW hF hT kr kt
      · exact c_invV (vs := [.ref (w.1 3)]) dX26_act_19 oX21_work q1348 q2050 hcc q1927 (Or.inr hy_Node_work) rfl rfl (Nat.le_of_ble_eq_true rfl) rfl hW hF hT kr kt
      · exact c_invV (vs := [.ref (w.1 3)]) dX26_act_19 oX22_work q1357 q2050 hcc q1930 (Or.inr hy_Node_work) rfl rfl (Nat.le_of_ble_eq_true rfl) rfl hW hF hT kr kt
      · exact c_invV (vs := [.ref (w.1 3)]) dX26_act_19 oX23_work q1370 q2050 hcc q1932 (Or.inr hy_Node_work) rfl rfl (Nat.le_of_ble_eq_true rfl) rfl hW hF hT kr kt
      · exact c_invV (vs := [.ref (w.1 3)]) dX26_act_19 oX24_work q1373 q2050 hcc q1933 (Or.inr hy_Node_work) rfl rfl (Nat.le_of_ble_eq_true rfl) rfl hW hF hT kr kt
      · exact c_invV (vs := [.ref (w.1 3)]) dX26_act_19 oX25_work q1351 q2050 hcc q1928 (Or.inr hy_Node_work) rfl rfl (Nat.le_of_ble_eq_true rfl) rfl hW hF hT kr kt
    · intro k s3 f4 hT h a hW hx hF
      exact c_out (rfl) hW hx hF hT
theorem vX27_init_0 {l : Launch} {E : EN} {w : CO} {d : Nat} {s : CS} {f : RH} {Q : KO → CS → RH → Prop} {x0 : Nat}  (hT : (EvC l E w d MX14_init [.ref x0] s f (fun o s1 f2 => KP o (fun r => r = none ∧ Q (.inl none) s1 f2) (fun k => Q (.inr k) s1 f2)))) : ExC l E w (d + 1) MX27_init 0 [some (.ref x0)] [] s f Q := by
  intro f0 h hW hF
  refine x_aload_n dX27_init_0 rfl rfl rfl ?_
  refine c_invI (b := x0) (vs := []) dX27_init_1 oX14_init rfl rfl rfl q863 (Or.inr ⟨_, q1161⟩) rfl rfl (Nat.le_of_ble_eq_true rfl) rfl hW hF hT ?_ ?_
  · intro _ s1 f2 hT h hW hF
    obtain ⟨rfl, hT⟩ := hT
    exact x_vret dX27_init_4 rfl ⟨_, _, hW, hF, Or.inl ⟨_, rfl, hT⟩⟩
  · intro k s1 f2 hT h a hW hx hF
    exact c_out (rfl) hW hx hF hT
theorem eX27_init {l : Launch} {E : EN} {w : CO} {d : Nat} {s : CS} {f : RH} {Q : KO → CS → RH → Prop} {x0 : Nat}  (hst : l.stackTraces = false) (hT : (EvC l E w d MX14_init [.ref x0] s f (fun o s1 f2 => KP o (fun r => r = none ∧ Q (.inl none) s1 f2) (fun k => Q (.inr k) s1 f2)))) : EvC l E w (d + 1) MX27_init [.ref x0] s f Q :=
  EvC.of hst (by decide) (Nat.le_of_ble_eq_true rfl) (vX27_init_0  hT)
theorem vX27_act_0 {l : Launch} {E : EN} {w : CO} {d : Nat} {s : CS} {f : RH} {Q : KO → CS → RH → Prop} {x0 : Nat}  (hT : (oc f x0 25 ∧ (∃ a1 : Nat, vl f x0 188 = .ref a1 ∧ (∃ P11 : KO → CS → RH → Prop, (∀ o s2 f3, P11 o s2 f3 → KP o (fun r => r = none ∧ (∃ k4 : Nat, oc f3 x0 k4 ∧ 161 ∈ CF k4 ∧ ¬ k4 = 30 ∧ (∃ v5 : Int32, vl f3 x0 161 = .int v5 ∧ (EvC l E w d MX3_rounds [.ref (w.1 3), .int v5] s2 f3 (fun o s6 f7 => KP o (fun r => ∃ v8 : Int32, r = some (.int v8) ∧ (∀ y9 : Int32, y9 = ((s6.1 26) - 1) → ExC l E w (d + 1) MX27_act 27 [some (.ref x0), some (.ref (w.1 3)), some (.int v8), some (.int y9), some (.int 0)] [] s6 f7 Q)) (fun k => Q (.inr k) s6 f7)))))) (fun k => Q (.inr k) s2 f3)) ∧ ∃ k10 : Nat, oc f a1 k10 ∧ ((k10 = 15 ∧ EvC l E w d MX17_work [.ref a1, .ref (w.1 3)] s f P11) ∨ (k10 = 16 ∧ EvC l E w d MX18_work [.ref a1, .ref (w.1 3)] s f P11) ∨ (k10 = 18 ∧ EvC l E w d MX20_work [.ref a1, .ref (w.1 3)] s f P11) ∨ (k10 = 19 ∧ EvC l E w d MX21_work [.ref a1, .ref (w.1 3)] s f P11) ∨ (k10 = 20 ∧ EvC l E w d MX22_work [.ref a1, .ref (w.1 3)] s f P11) ∨ (k10 = 21 ∧ EvC l E w d MX23_work [.ref a1, .ref (w.1 3)] s f P11) ∨ (k10 = 22 ∧ EvC l E w d MX24_work [.ref a1, .ref (w.1 3)] s f P11) ∨ (k10 = 23 ∧ EvC l E w d MX25_work [.ref a1, .ref (w.1 3)] s f P11)))))) : ExC l E w (d + 1) MX27_act 0 [some (.ref x0), some (.ref (w.1 3)), none, none, none] [] s f Q := by
  intro f0 h hW hF
  refine x_aload_n dX27_act_0 rfl rfl rfl ?_
  obtain ⟨hc, hT⟩ := hT
  obtain ⟨a1, ev, hT⟩ := hT
  refine c_fgetG dX27_act_1 f_TallySlate_For_7 hc (by decide) (by decide) hW ev ?_
  refine x_aload_n dX27_act_4 rfl rfl rfl ?_
  obtain ⟨P11, hP, k10, hc, hT⟩ := hT
  have kr : ∀ r s2 f3, P11 (.inl r) s2 f3 → ∀ h, CW E w s2 f3 h → Frz f0 f3 → Ex l E (d + 1) MX27_act (5 + 3) [some (.ref x0), some (.ref (w.1 3)), none, none, none] (r.toList ++ []) h (PoC E w f0 Q) := by
    intro r s2 f3 h0 h hW hF
    have hT := hP _ _ _ h0
    clear h0
    obtain ⟨rfl, hT⟩ := hT
    refine x_aload_n dX27_act_8 rfl rfl rfl ?_
    refine x_aload_n dX27_act_9 rfl rfl rfl ?_
    obtain ⟨k4, hc, hj, h30, hT⟩ := hT
    obtain ⟨v5, ev, hT⟩ := hT
    refine c_fgetG dX27_act_10 f_TallySlate_For_19 hc hj (fun z => absurd z h30) hW ev ?_
    obtain ⟨-, -, cc, hcc, -⟩ := hW.ob 3 (by decide)
    refine c_invV (vs := [.int v5]) dX27_act_13 oX3_rounds q1964 q1963 hcc q1965 (Or.inl rfl) rfl rfl (Nat.le_of_ble_eq_true rfl) rfl hW hF hT ?_ ?_
    · intro _ s6 f7 hT h hW hF
      obtain ⟨v8, rfl, hT⟩ := hT
      refine x_istore_n (lo' := [some (.ref x0), some (.ref (w.1 3)), some (.int v8), none, none]) dX27_act_16 rfl (Nat.le_of_ble_eq_true rfl) rfl ?_
      refine x_aload_n dX27_act_17 rfl rfl rfl ?_
      refine c_getI (v := (s6.1 26)) dX27_act_18 f_TallySlate_For_29 (by decide) (by decide) rfl hW rfl ?_
      refine x_iconst (v := 1) dX27_act_21 rfl ?_
      refine x_isub dX27_act_22 ?_
      obtain ⟨y9, ey9⟩ : ∃ z : Int32, z = ((s6.1 26) - 1) := ⟨_, rfl⟩
      replace hT := hT y9 ey9
      refine x_istore_n (lo' := [some (.ref x0), some (.ref (w.1 3)), some (.int v8), some (.int y9), none]) dX27_act_23 rfl (Nat.le_of_ble_eq_true rfl) (by rw [ey9]; exact rfl) ?_
      refine x_iconst (v := 0) dX27_act_24 rfl ?_
      refine x_istore (lo' := [some (.ref x0), some (.ref (w.1 3)), some (.int v8), some (.int y9), some (.int 0)]) dX27_act_25 (Nat.le_of_ble_eq_true rfl) rfl ?_
      exact hT f0 h hW hF
    · intro k s6 f7 hT h a hW hx hF
      exact c_out (rfl) hW hx hF hT
  have kt : ∀ k s2 f3, P11 (.inr k) s2 f3 → ∀ h a, CW E w s2 f3 h → xA w h k a → Frz f0 f3 → ExT l E (d + 1) MX27_act 5 [some (.ref x0), some (.ref (w.1 3)), none, none, none] [] a h (PoC E w f0 Q) := by
    intro k s2 f3 h0 h a hW hx hF
    have hT := hP _ _ _ h0
    clear h0
    exact c_out (rfl) hW hx hF hT
  obtain ⟨cc, hcc⟩ := hW.ocell hc
  rcases hT with ⟨rfl, hT⟩ | ⟨rfl, hT⟩ | ⟨rfl, hT⟩ | ⟨rfl, hT⟩ | ⟨rfl, hT⟩ | ⟨rfl, hT⟩ | ⟨rfl, hT⟩ | ⟨rfl, hT⟩
  · exact c_invV (vs := [.ref (w.1 3)]) dX27_act_5 oX17_work q1367 q1962 hcc q1931 (Or.inr hy_Node_work) rfl rfl (Nat.le_of_ble_eq_true rfl) rfl hW hF hT kr kt
  · exact c_invV (vs := [.ref (w.1 3)]) dX27_act_5 oX18_work q1354 q1962 hcc q1929 (Or.inr hy_Node_work) rfl rfl (Nat.le_of_ble_eq_true rfl) rfl hW hF hT kr kt
  · exact c_invV (vs := [.ref (w.1 3)]) dX27_act_5 oX20_work q1345 q1962 hcc q1344 (Or.inr hy_Node_work) rfl rfl (Nat.le_of_ble_eq_true rfl) rfl hW hF hT kr kt
  · exact c_invV (vs := [.ref (w.1 3)]) dX27_act_5 oX21_work q1348 q1962 hcc q1927 (Or.inr hy_Node_work) rfl rfl (Nat.le_of_ble_eq_true rfl) rfl hW hF hT kr kt
  · exact c_invV (vs := [.ref (w.1 3)]) dX27_act_5 oX22_work q1357 q1962 hcc q1930 (Or.inr hy_Node_work) rfl rfl (Nat.le_of_ble_eq_true rfl) rfl hW hF hT kr kt
  · exact c_invV (vs := [.ref (w.1 3)]) dX27_act_5 oX23_work q1370 q1962 hcc q1932 (Or.inr hy_Node_work) rfl rfl (Nat.le_of_ble_eq_true rfl) rfl hW hF hT kr kt
  · exact c_invV (vs := [.ref (w.1 3)]) dX27_act_5 oX24_work q1373 q1962 hcc q1933 (Or.inr hy_Node_work) rfl rfl (Nat.le_of_ble_eq_true rfl) rfl hW hF hT kr kt
  · exact c_invV (vs := [.ref (w.1 3)]) dX27_act_5 oX25_work q1351 q1962 hcc q1928 (Or.inr hy_Node_work) rfl rfl (Nat.le_of_ble_eq_true rfl) rfl hW hF hT kr kt
theorem eX27_act {l : Launch} {E : EN} {w : CO} {d : Nat} {s : CS} {f : RH} {Q : KO → CS → RH → Prop} {x0 : Nat}  (hst : l.stackTraces = false) (hT : (oc f x0 25 ∧ (∃ a1 : Nat, vl f x0 188 = .ref a1 ∧ (∃ P11 : KO → CS → RH → Prop, (∀ o s2 f3, P11 o s2 f3 → KP o (fun r => r = none ∧ (∃ k4 : Nat, oc f3 x0 k4 ∧ 161 ∈ CF k4 ∧ ¬ k4 = 30 ∧ (∃ v5 : Int32, vl f3 x0 161 = .int v5 ∧ (EvC l E w d MX3_rounds [.ref (w.1 3), .int v5] s2 f3 (fun o s6 f7 => KP o (fun r => ∃ v8 : Int32, r = some (.int v8) ∧ (∀ y9 : Int32, y9 = ((s6.1 26) - 1) → ExC l E w (d + 1) MX27_act 27 [some (.ref x0), some (.ref (w.1 3)), some (.int v8), some (.int y9), some (.int 0)] [] s6 f7 Q)) (fun k => Q (.inr k) s6 f7)))))) (fun k => Q (.inr k) s2 f3)) ∧ ∃ k10 : Nat, oc f a1 k10 ∧ ((k10 = 15 ∧ EvC l E w d MX17_work [.ref a1, .ref (w.1 3)] s f P11) ∨ (k10 = 16 ∧ EvC l E w d MX18_work [.ref a1, .ref (w.1 3)] s f P11) ∨ (k10 = 18 ∧ EvC l E w d MX20_work [.ref a1, .ref (w.1 3)] s f P11) ∨ (k10 = 19 ∧ EvC l E w d MX21_work [.ref a1, .ref (w.1 3)] s f P11) ∨ (k10 = 20 ∧ EvC l E w d MX22_work [.ref a1, .ref (w.1 3)] s f P11) ∨ (k10 = 21 ∧ EvC l E w d MX23_work [.ref a1, .ref (w.1 3)] s f P11) ∨ (k10 = 22 ∧ EvC l E w d MX24_work [.ref a1, .ref (w.1 3)] s f P11) ∨ (k10 = 23 ∧ EvC l E w d MX25_work [.ref a1, .ref (w.1 3)] s f P11)))))) : EvC l E w (d + 1) MX27_act [.ref x0, .ref (w.1 3)] s f Q :=
  EvC.of hst (by decide) (Nat.le_of_ble_eq_true rfl) (vX27_act_0  hT)
set_option maxHeartbeats 16000000 in
theorem vX27_act_27 {l : Launch} {E : EN} {w : CO} {d : Nat} {s : CS} {f : RH} {Q : KO → CS → RH → Prop} {b0 : Nat} {b2 : Int32} {b3 : Int32} {b4 : Int32}  (hT : ((b2 ≤ b4 → (∃ k12 : Nat, oc f b0 k12 ∧ 161 ∈ CF k12 ∧ ¬ k12 = 30 ∧ (∃ v13 : Int32, vl f b0 161 = .int v13 ∧ (EvC l E w d MX3_step [.ref (w.1 3), .int v13] s f (fun o s14 f15 => KP o (fun r => r = none ∧ (EvC l E w d MX3_drop [.ref (w.1 3)] s14 f15 (fun o s16 f17 => KP o (fun r => r = none ∧ Q (.inl (some (.int 0))) s16 f17) (fun k => Q (.inr k) s16 f17)))) (fun k => Q (.inr k) s14 f15)))))) ∧ (¬ b2 ≤ b4 → (∃ k18 : Nat, oc f b0 k18 ∧ 161 ∈ CF k18 ∧ ¬ k18 = 30 ∧ (∃ v19 : Int32, vl f b0 161 = .int v19 ∧ (EvC l E w d MX3_step [.ref (w.1 3), .int v19] s f (fun o s20 f21 => KP o (fun r => r = none ∧ (EvC l E w d MX3_item [.ref (w.1 3), .int b3, .int b4] s20 f21 (fun o s22 f23 => KP o (fun r => r = none ∧ (oc f23 b0 25 ∧ (∃ v24 : Int32, vl f23 b0 187 = .int v24 ∧ (EvC l E w d MX3_put [.ref (w.1 3), .int v24] s22 f23 (fun o s25 f26 => KP o (fun r => r = none ∧ (oc f26 b0 25 ∧ (∃ a27 : Nat, vl f26 b0 189 = .ref a27 ∧ (oc f26 a27 13 ∧ EvC l E w d MX13_act [.ref a27, .ref (w.1 3)] s25 f26 (fun o s28 f29 => KP o (fun r => ∃ v30 : Int32, r = some (.int v30) ∧ ((v30 = 0 → ExC l E w (d + 1) MX27_act 27 [some (.ref b0), some (.ref (w.1 3)), some (.int b2), some (.int b3), some (.int (b4 + 1))] [] s28 f29 Q) ∧ (¬ v30 = 0 → (EvC l E w d MX3_down [.ref (w.1 3), .int b3] s28 f29 (fun o s31 f32 => KP o (fun r => r = none ∧ Q (.inl (some (.int 1))) s31 f32) (fun k => Q (.inr k) s31 f32)))))) (fun k => Q (.inr k) s28 f29)))))) (fun k => Q (.inr k) s25 f26)))))) (fun k => Q (.inr k) s22 f23)))) (fun k => Q (.inr k) s20 f21)))))))) : ExC l E w (d + 1) MX27_act 27 [some (.ref b0), some (.ref (w.1 3)), some (.int b2), some (.int b3), some (.int b4)] [] s f Q := by
  intro f0 h hW hF
  refine x_iload dX27_act_27 rfl ?_
  refine x_iload_n dX27_act_29 rfl rfl ?_
  refine x_icmp_ge (tgt := 80) dX27_act_30 rfl (fun c => ?_) (fun c => ?_)
  · replace hT := hT.1 c
    refine x_aload_n dX27_act_80 rfl rfl rfl ?_
    refine x_aload_n dX27_act_81 rfl rfl rfl ?_
    obtain ⟨k12, hc, hj, h30, hT⟩ := hT
    obtain ⟨v13, ev, hT⟩ := hT
    refine c_fgetG dX27_act_82 f_TallySlate_For_19 hc hj (fun z => absurd z h30) hW ev ?_
    obtain ⟨-, -, cc, hcc, -⟩ := hW.ob 3 (by decide)
    refine c_invV (vs := [.int v13]) dX27_act_85 oX3_step q1332 q1967 hcc q1333 (Or.inl rfl) rfl rfl (Nat.le_of_ble_eq_true rfl) rfl hW hF hT ?_ ?_
    · intro _ s14 f15 hT h hW hF
      obtain ⟨rfl, hT⟩ := hT
      refine x_aload_n dX27_act_88 rfl rfl rfl ?_
      obtain ⟨-, -, cc, hcc, -⟩ := hW.ob 3 (by decide)
      refine c_invV (vs := []) dX27_act_89 oX3_drop q1973 q1972 hcc q1974 (Or.inl rfl) rfl rfl (Nat.le_of_ble_eq_true rfl) rfl hW hF hT ?_ ?_
      · intro _ s16 f17 hT h hW hF
        obtain ⟨rfl, hT⟩ := hT
        refine x_iconst (v := 0) dX27_act_92 rfl ?_
        exact x_iret dX27_act_93 rfl rfl ⟨_, _, hW, hF, Or.inl ⟨_, rfl, hT⟩⟩
      · intro k s16 f17 hT h a hW hx hF
        exact c_out (rfl) hW hx hF hT
    · intro k s14 f15 hT h a hW hx hF
      exact c_out (rfl) hW hx hF hT
  · replace hT := hT.2 c
    refine x_aload_n dX27_act_33 rfl rfl rfl ?_
    refine x_aload_n dX27_act_34 rfl rfl rfl ?_
    obtain ⟨k18, hc, hj, h30, hT⟩ := hT
    obtain ⟨v19, ev, hT⟩ := hT
    refine c_fgetG dX27_act_35 f_TallySlate_For_19 hc hj (fun z => absurd z h30) hW ev ?_
    obtain ⟨-, -, cc, hcc, -⟩ := hW.ob 3 (by decide)
    refine c_invV (vs := [.int v19]) dX27_act_38 oX3_step q1332 q1967 hcc q1333 (Or.inl rfl) rfl rfl (Nat.le_of_ble_eq_true rfl) rfl hW hF hT ?_ ?_
    · intro _ s20 f21 hT h hW hF
      obtain ⟨rfl, hT⟩ := hT
      refine x_aload_n dX27_act_41 rfl rfl rfl ?_
      refine x_iload_n dX27_act_42 rfl rfl ?_
      refine x_iload dX27_act_43 rfl ?_
      obtain ⟨-, -, cc, hcc, -⟩ := hW.ob 3 (by decide)
      refine c_invV (vs := [.int b3, .int b4]) dX27_act_45 oX3_item q1651 q1968 hcc q1652 (Or.inl rfl) rfl rfl (Nat.le_of_ble_eq_true rfl) rfl hW hF hT ?_ ?_
      · intro _ s22 f23 hT h hW hF
        obtain ⟨rfl, hT⟩ := hT
        refine x_aload_n dX27_act_48 rfl rfl rfl ?_
        refine x_aload_n dX27_act_49 rfl rfl rfl ?_
        obtain ⟨hc, hT⟩ := hT
        obtain ⟨v24, ev, hT⟩ := hT
        refine c_fgetG dX27_act_50 f_TallySlate_For_40 hc (by decide) (by decide) hW ev ?_
        obtain ⟨-, -, cc, hcc, -⟩ := hW.ob 3 (by decide)
        refine c_invV (vs := [.int v24]) dX27_act_53 oX3_put q1935 q1969 hcc q1936 (Or.inl rfl) rfl rfl (Nat.le_of_ble_eq_true rfl) rfl hW hF hT ?_ ?_
        · intro _ s25 f26 hT h hW hF
          obtain ⟨rfl, hT⟩ := hT
          refine x_aload_n dX27_act_56 rfl rfl rfl ?_
          obtain ⟨hc, hT⟩ := hT
          obtain ⟨a27, ev, hT⟩ := hT
          refine c_fgetG dX27_act_57 f_TallySlate_For_46 hc (by decide) (by decide) hW ev ?_
          refine x_aload_n dX27_act_60 rfl rfl rfl ?_
          obtain ⟨hc, hT⟩ := hT
          obtain ⟨cc, hcc⟩ := hW.ocell hc
          refine c_invV (vs := [.ref (w.1 3)]) dX27_act_61 oX13_act q1328 q1970 hcc q1329 (Or.inl rfl) rfl rfl (Nat.le_of_ble_eq_true rfl) rfl hW hF hT ?_ ?_
          · intro _ s28 f29 hT h hW hF
            obtain ⟨v30, rfl, hT⟩ := hT
            refine x_if_eq (tgt := 74) dX27_act_64 rfl (fun c => ?_) (fun c => ?_)
            · replace hT := hT.1 c
              refine x_iinc (lo' := [some (.ref b0), some (.ref (w.1 3)), some (.int b2), some (.int b3), some (.int (b4 + 1))]) dX27_act_74 rfl (show _ = (b4 + 1) from rfl) rfl ?_
              refine x_goto (tgt := 27) dX27_act_77 rfl ?_
              exact hT f0 h hW hF
            · replace hT := hT.2 c
              refine x_aload_n dX27_act_67 rfl rfl rfl ?_
              refine x_iload_n dX27_act_68 rfl rfl ?_
              obtain ⟨-, -, cc, hcc, -⟩ := hW.ob 3 (by decide)
              refine c_invV (vs := [.int b3]) dX27_act_69 oX3_down q1684 q1971 hcc q1685 (Or.inl rfl) rfl rfl (Nat.le_of_ble_eq_true rfl) rfl hW hF hT ?_ ?_
              · intro _ s31 f32 hT h hW hF
                obtain ⟨rfl, hT⟩ := hT
                refine x_iconst (v := 1) dX27_act_72 rfl ?_
                exact x_iret dX27_act_73 rfl rfl ⟨_, _, hW, hF, Or.inl ⟨_, rfl, hT⟩⟩
              · intro k s31 f32 hT h a hW hx hF
                exact c_out (rfl) hW hx hF hT
          · intro k s28 f29 hT h a hW hx hF
            exact c_out (rfl) hW hx hF hT
        · intro k s25 f26 hT h a hW hx hF
          exact c_out (rfl) hW hx hF hT
      · intro k s22 f23 hT h a hW hx hF
        exact c_out (rfl) hW hx hF hT
    · intro k s20 f21 hT h a hW hx hF
      exact c_out (rfl) hW hx hF hT
theorem vX28_init_0 {l : Launch} {E : EN} {w : CO} {d : Nat} {s : CS} {f : RH} {Q : KO → CS → RH → Prop} {x0 : Nat} {x1 : Int32}  (hT : (EvC l E w d MX14_init [.ref x0] s f (fun o s1 f2 => KP o (fun r => r = none ∧ (oc f2 x0 26 ∧ f2.2.2.2 ≤ x0 ∧ ∀ f3 : RH, f3 = fset f2 x0 190 (.int x1) → Q (.inl none) s1 f3)) (fun k => Q (.inr k) s1 f2)))) : ExC l E w (d + 1) MX28_init 0 [some (.ref x0), some (.int x1)] [] s f Q := by
  intro f0 h hW hF
  refine x_aload_n dX28_init_0 rfl rfl rfl ?_
  refine c_invI (b := x0) (vs := []) dX28_init_1 oX14_init rfl rfl rfl q863 (Or.inr ⟨_, q1191⟩) rfl rfl (Nat.le_of_ble_eq_true rfl) rfl hW hF hT ?_ ?_
  · intro _ s1 f2 hT h hW hF
    obtain ⟨rfl, hT⟩ := hT
    refine x_aload_n dX28_init_4 rfl rfl rfl ?_
    refine x_iload_n dX28_init_5 rfl rfl ?_
    obtain ⟨hc, hz, hT⟩ := hT
    refine c_fputG dX28_init_6 f_TallySlate_Plain_9 hc (by decide) (by decide) hz (Or.inr ⟨rfl, rfl⟩) rfl rfl hW hF ?_
    intro f3 ef3 h hW hF
    replace hT := hT f3 ef3
    exact x_vret dX28_init_9 rfl ⟨_, _, hW, hF, Or.inl ⟨_, rfl, hT⟩⟩
  · intro k s1 f2 hT h a hW hx hF
    exact c_out (rfl) hW hx hF hT
theorem eX28_init {l : Launch} {E : EN} {w : CO} {d : Nat} {s : CS} {f : RH} {Q : KO → CS → RH → Prop} {x0 : Nat} {x1 : Int32}  (hst : l.stackTraces = false) (hT : (EvC l E w d MX14_init [.ref x0] s f (fun o s1 f2 => KP o (fun r => r = none ∧ (oc f2 x0 26 ∧ f2.2.2.2 ≤ x0 ∧ ∀ f3 : RH, f3 = fset f2 x0 190 (.int x1) → Q (.inl none) s1 f3)) (fun k => Q (.inr k) s1 f2)))) : EvC l E w (d + 1) MX28_init [.ref x0, .int x1] s f Q :=
  EvC.of hst (by decide) (Nat.le_of_ble_eq_true rfl) (vX28_init_0  hT)
set_option maxHeartbeats 16000000 in
theorem vX28_act_0 {l : Launch} {E : EN} {w : CO} {d : Nat} {s : CS} {f : RH} {Q : KO → CS → RH → Prop} {x0 : Nat}  (hT : (oc f x0 26 ∧ (∃ a1 : Nat, vl f x0 191 = .ref a1 ∧ (∃ P16 : KO → CS → RH → Prop, (∀ o s2 f3, P16 o s2 f3 → KP o (fun r => r = none ∧ (oc f3 x0 26 ∧ (∃ v4 : Int32, vl f3 x0 190 = .int v4 ∧ ((¬ v4 = 2 → (oc f3 x0 26 ∧ (∃ v5 : Int32, vl f3 x0 190 = .int v5 ∧ ((¬ v5 = 1 → (oc f3 x0 26 ∧ (∃ v6 : Int32, vl f3 x0 190 = .int v6 ∧ ((¬ v6 = 3 → (EvC l E w d MX3_drop [.ref (w.1 3)] s2 f3 (fun o s7 f8 => KP o (fun r => r = none ∧ Q (.inl (some (.int 0))) s7 f8) (fun k => Q (.inr k) s7 f8)))) ∧ (v6 = 3 → (∃ k9 : Nat, oc f3 x0 k9 ∧ 161 ∈ CF k9 ∧ ¬ k9 = 30 ∧ (∃ v10 : Int32, vl f3 x0 161 = .int v10 ∧ (EvC l E w d MX3_raise [.ref (w.1 3), .int v10] s2 f3 (fun o s11 f12 => KP o (fun r => r = none ∧ Q (.inl (some (.int 0))) s11 f12) (fun k => Q (.inr k) s11 f12)))))))))) ∧ (v5 = 1 → (EvC l E w d MX3_say [.ref (w.1 3)] s2 f3 (fun o s13 f14 => KP o (fun r => r = none ∧ Q (.inl (some (.int 0))) s13 f14) (fun k => Q (.inr k) s13 f14)))))))) ∧ (v4 = 2 → Q (.inl (some (.int 1))) s2 f3))))) (fun k => Q (.inr k) s2 f3)) ∧ ∃ k15 : Nat, oc f a1 k15 ∧ ((k15 = 15 ∧ EvC l E w d MX17_work [.ref a1, .ref (w.1 3)] s f P16) ∨ (k15 = 16 ∧ EvC l E w d MX18_work [.ref a1, .ref (w.1 3)] s f P16) ∨ (k15 = 18 ∧ EvC l E w d MX20_work [.ref a1, .ref (w.1 3)] s f P16) ∨ (k15 = 19 ∧ EvC l E w d MX21_work [.ref a1, .ref (w.1 3)] s f P16) ∨ (k15 = 20 ∧ EvC l E w d MX22_work [.ref a1, .ref (w.1 3)] s f P16) ∨ (k15 = 21 ∧ EvC l E w d MX23_work [.ref a1, .ref (w.1 3)] s f P16) ∨ (k15 = 22 ∧ EvC l E w d MX24_work [.ref a1, .ref (w.1 3)] s f P16) ∨ (k15 = 23 ∧ EvC l E w d MX25_work [.ref a1, .ref (w.1 3)] s f P16)))))) : ExC l E w (d + 1) MX28_act 0 [some (.ref x0), some (.ref (w.1 3))] [] s f Q := by
  intro f0 h hW hF
  refine x_aload_n dX28_act_0 rfl rfl rfl ?_
  obtain ⟨hc, hT⟩ := hT
  obtain ⟨a1, ev, hT⟩ := hT
  refine c_fgetG dX28_act_1 f_TallySlate_Plain_15 hc (by decide) (by decide) hW ev ?_
  refine x_aload_n dX28_act_4 rfl rfl rfl ?_
  obtain ⟨P16, hP, k15, hc, hT⟩ := hT
  have kr : ∀ r s2 f3, P16 (.inl r) s2 f3 → ∀ h, CW E w s2 f3 h → Frz f0 f3 → Ex l E (d + 1) MX28_act (5 + 3) [some (.ref x0), some (.ref (w.1 3))] (r.toList ++ []) h (PoC E w f0 Q) := by
    intro r s2 f3 h0 h hW hF
    have hT := hP _ _ _ h0
    clear h0
    obtain ⟨rfl, hT⟩ := hT
    refine x_aload_n dX28_act_8 rfl rfl rfl ?_
    obtain ⟨hc, hT⟩ := hT
    obtain ⟨v4, ev, hT⟩ := hT
    refine c_fgetG dX28_act_9 f_TallySlate_Plain_9 hc (by decide) (by decide) hW ev ?_
    refine x_iconst (v := 2) dX28_act_12 rfl ?_
    refine x_icmp_ne (tgt := 18) dX28_act_13 rfl (fun c => ?_) (fun c => ?_)
    · replace hT := hT.1 c
      refine x_aload_n dX28_act_18 rfl rfl rfl ?_
      obtain ⟨hc, hT⟩ := hT
      obtain ⟨v5, ev, hT⟩ := hT
      refine c_fgetG dX28_act_19 f_TallySlate_Plain_9 hc (by decide) (by decide) hW ev ?_
      refine x_iconst (v := 1) dX28_act_22 rfl ?_
      refine x_icmp_ne (tgt := 33) dX28_act_23 rfl (fun c => ?_) (fun c => ?_)
      · replace hT := hT.1 c
        refine x_aload_n dX28_act_33 rfl rfl rfl ?_
        obtain ⟨hc, hT⟩ := hT
        obtain ⟨v6, ev, hT⟩ := hT
        refine c_fgetG dX28_act_34 f_TallySlate_Plain_9 hc (by decide) (by decide) hW ev ?_
        refine x_iconst (v := 3) dX28_act_37 rfl ?_
        refine x_icmp_ne (tgt := 52) dX28_act_38 rfl (fun c => ?_) (fun c => ?_)
        · replace hT := hT.1 c
          refine x_aload_n dX28_act_52 rfl rfl rfl ?_
          obtain ⟨-, -, cc, hcc, -⟩ := hW.ob 3 (by decide)
          refine c_invV (vs := []) dX28_act_53 oX3_drop q1973 q2035 hcc q1974 (Or.inl rfl) rfl rfl (Nat.le_of_ble_eq_true rfl) rfl hW hF hT ?_ ?_
          · intro _ s7 f8 hT h hW hF
            obtain ⟨rfl, hT⟩ := hT
            refine x_iconst (v := 0) dX28_act_56 rfl ?_
            exact x_iret dX28_act_57 rfl rfl ⟨_, _, hW, hF, Or.inl ⟨_, rfl, hT⟩⟩
          · intro k s7 f8 hT h a hW hx hF
            exact c_out (rfl) hW hx hF hT
        · replace hT := hT.2 c
          refine x_aload_n dX28_act_41 rfl rfl rfl ?_
          refine x_aload_n dX28_act_42 rfl rfl rfl ?_
          obtain ⟨k9, hc, hj, h30, hT⟩ := hT
          obtain ⟨v10, ev, hT⟩ := hT
          refine c_fgetG dX28_act_43 f_TallySlate_Plain_30 hc hj (fun z => absurd z h30) hW ev ?_
          obtain ⟨-, -, cc, hcc, -⟩ := hW.ob 3 (by decide)
          refine c_invV (vs := [.int v10]) dX28_act_46 oX3_raise q2032 q2031 hcc q2033 (Or.inl rfl) rfl rfl (Nat.le_of_ble_eq_true rfl) rfl hW hF hT ?_ ?_
          · intro _ s11 f12 hT h hW hF
            obtain ⟨rfl, hT⟩ := hT
            refine x_goto (tgt := 56) dX28_act_49 rfl ?_
            refine x_iconst (v := 0) dX28_act_56 rfl ?_
            exact x_iret dX28_act_57 rfl rfl ⟨_, _, hW, hF, Or.inl ⟨_, rfl, hT⟩⟩
          · intro k s11 f12 hT h a hW hx hF
            exact c_out (rfl) hW hx hF hT
      · replace hT := hT.2 c
        refine x_aload_n dX28_act_26 rfl rfl rfl ?_
        obtain ⟨-, -, cc, hcc, -⟩ := hW.ob 3 (by decide)
        refine c_invV (vs := []) dX28_act_27 oX3_say q1991 q1990 hcc q1992 (Or.inl rfl) rfl rfl (Nat.le_of_ble_eq_true rfl) rfl hW hF hT ?_ ?_
        · intro _ s13 f14 hT h hW hF
          obtain ⟨rfl, hT⟩ := hT
          refine x_goto (tgt := 56) dX28_act_30 rfl ?_
          refine x_iconst (v := 0) dX28_act_56 rfl ?_
          exact x_iret dX28_act_57 rfl rfl ⟨_, _, hW, hF, Or.inl ⟨_, rfl, hT⟩⟩
        · intro k s13 f14 hT h a hW hx hF
          exact c_out (rfl) hW hx hF hT
    · replace hT := hT.2 c
      refine x_iconst (v := 1) dX28_act_16 rfl ?_
      exact x_iret dX28_act_17 rfl rfl ⟨_, _, hW, hF, Or.inl ⟨_, rfl, hT⟩⟩
  have kt : ∀ k s2 f3, P16 (.inr k) s2 f3 → ∀ h a, CW E w s2 f3 h → xA w h k a → Frz f0 f3 → ExT l E (d + 1) MX28_act 5 [some (.ref x0), some (.ref (w.1 3))] [] a h (PoC E w f0 Q) := by
    intro k s2 f3 h0 h a hW hx hF
    have hT := hP _ _ _ h0
    clear h0
    exact c_out (rfl) hW hx hF hT
  obtain ⟨cc, hcc⟩ := hW.ocell hc
  rcases hT with ⟨rfl, hT⟩ | ⟨rfl, hT⟩ | ⟨rfl, hT⟩ | ⟨rfl, hT⟩ | ⟨rfl, hT⟩ | ⟨rfl, hT⟩ | ⟨rfl, hT⟩ | ⟨rfl, hT⟩
  · exact c_invV (vs := [.ref (w.1 3)]) dX28_act_5 oX17_work q1367 q1989 hcc q1931 (Or.inr hy_Node_work) rfl rfl (Nat.le_of_ble_eq_true rfl) rfl hW hF hT kr kt
  · exact c_invV (vs := [.ref (w.1 3)]) dX28_act_5 oX18_work q1354 q1989 hcc q1929 (Or.inr hy_Node_work) rfl rfl (Nat.le_of_ble_eq_true rfl) rfl hW hF hT kr kt
  · exact c_invV (vs := [.ref (w.1 3)]) dX28_act_5 oX20_work q1345 q1989 hcc q1344 (Or.inr hy_Node_work) rfl rfl (Nat.le_of_ble_eq_true rfl) rfl hW hF hT kr kt
  · exact c_invV (vs := [.ref (w.1 3)]) dX28_act_5 oX21_work q1348 q1989 hcc q1927 (Or.inr hy_Node_work) rfl rfl (Nat.le_of_ble_eq_true rfl) rfl hW hF hT kr kt
  · exact c_invV (vs := [.ref (w.1 3)]) dX28_act_5 oX22_work q1357 q1989 hcc q1930 (Or.inr hy_Node_work) rfl rfl (Nat.le_of_ble_eq_true rfl) rfl hW hF hT kr kt
  · exact c_invV (vs := [.ref (w.1 3)]) dX28_act_5 oX23_work q1370 q1989 hcc q1932 (Or.inr hy_Node_work) rfl rfl (Nat.le_of_ble_eq_true rfl) rfl hW hF hT kr kt
  · exact c_invV (vs := [.ref (w.1 3)]) dX28_act_5 oX24_work q1373 q1989 hcc q1933 (Or.inr hy_Node_work) rfl rfl (Nat.le_of_ble_eq_true rfl) rfl hW hF hT kr kt
  · exact c_invV (vs := [.ref (w.1 3)]) dX28_act_5 oX25_work q1351 q1989 hcc q1928 (Or.inr hy_Node_work) rfl rfl (Nat.le_of_ble_eq_true rfl) rfl hW hF hT kr kt
theorem eX28_act {l : Launch} {E : EN} {w : CO} {d : Nat} {s : CS} {f : RH} {Q : KO → CS → RH → Prop} {x0 : Nat}  (hst : l.stackTraces = false) (hT : (oc f x0 26 ∧ (∃ a1 : Nat, vl f x0 191 = .ref a1 ∧ (∃ P16 : KO → CS → RH → Prop, (∀ o s2 f3, P16 o s2 f3 → KP o (fun r => r = none ∧ (oc f3 x0 26 ∧ (∃ v4 : Int32, vl f3 x0 190 = .int v4 ∧ ((¬ v4 = 2 → (oc f3 x0 26 ∧ (∃ v5 : Int32, vl f3 x0 190 = .int v5 ∧ ((¬ v5 = 1 → (oc f3 x0 26 ∧ (∃ v6 : Int32, vl f3 x0 190 = .int v6 ∧ ((¬ v6 = 3 → (EvC l E w d MX3_drop [.ref (w.1 3)] s2 f3 (fun o s7 f8 => KP o (fun r => r = none ∧ Q (.inl (some (.int 0))) s7 f8) (fun k => Q (.inr k) s7 f8)))) ∧ (v6 = 3 → (∃ k9 : Nat, oc f3 x0 k9 ∧ 161 ∈ CF k9 ∧ ¬ k9 = 30 ∧ (∃ v10 : Int32, vl f3 x0 161 = .int v10 ∧ (EvC l E w d MX3_raise [.ref (w.1 3), .int v10] s2 f3 (fun o s11 f12 => KP o (fun r => r = none ∧ Q (.inl (some (.int 0))) s11 f12) (fun k => Q (.inr k) s11 f12)))))))))) ∧ (v5 = 1 → (EvC l E w d MX3_say [.ref (w.1 3)] s2 f3 (fun o s13 f14 => KP o (fun r => r = none ∧ Q (.inl (some (.int 0))) s13 f14) (fun k => Q (.inr k) s13 f14)))))))) ∧ (v4 = 2 → Q (.inl (some (.int 1))) s2 f3))))) (fun k => Q (.inr k) s2 f3)) ∧ ∃ k15 : Nat, oc f a1 k15 ∧ ((k15 = 15 ∧ EvC l E w d MX17_work [.ref a1, .ref (w.1 3)] s f P16) ∨ (k15 = 16 ∧ EvC l E w d MX18_work [.ref a1, .ref (w.1 3)] s f P16) ∨ (k15 = 18 ∧ EvC l E w d MX20_work [.ref a1, .ref (w.1 3)] s f P16) ∨ (k15 = 19 ∧ EvC l E w d MX21_work [.ref a1, .ref (w.1 3)] s f P16) ∨ (k15 = 20 ∧ EvC l E w d MX22_work [.ref a1, .ref (w.1 3)] s f P16) ∨ (k15 = 21 ∧ EvC l E w d MX23_work [.ref a1, .ref (w.1 3)] s f P16) ∨ (k15 = 22 ∧ EvC l E w d MX24_work [.ref a1, .ref (w.1 3)] s f P16) ∨ (k15 = 23 ∧ EvC l E w d MX25_work [.ref a1, .ref (w.1 3)] s f P16)))))) : EvC l E w (d + 1) MX28_act [.ref x0, .ref (w.1 3)] s f Q :=
  EvC.of hst (by decide) (Nat.le_of_ble_eq_true rfl) (vX28_act_0  hT)
theorem vX29_init_0 {l : Launch} {E : EN} {w : CO} {d : Nat} {s : CS} {f : RH} {Q : KO → CS → RH → Prop} {x0 : Nat}  (hT : (EvC l E w d MX14_init [.ref x0] s f (fun o s1 f2 => KP o (fun r => r = none ∧ Q (.inl none) s1 f2) (fun k => Q (.inr k) s1 f2)))) : ExC l E w (d + 1) MX29_init 0 [some (.ref x0)] [] s f Q := by
  intro f0 h hW hF
  refine x_aload_n dX29_init_0 rfl rfl rfl ?_
  refine c_invI (b := x0) (vs := []) dX29_init_1 oX14_init rfl rfl rfl q863 (Or.inr ⟨_, q1213⟩) rfl rfl (Nat.le_of_ble_eq_true rfl) rfl hW hF hT ?_ ?_
  · intro _ s1 f2 hT h hW hF
    obtain ⟨rfl, hT⟩ := hT
    exact x_vret dX29_init_4 rfl ⟨_, _, hW, hF, Or.inl ⟨_, rfl, hT⟩⟩
  · intro k s1 f2 hT h a hW hx hF
    exact c_out (rfl) hW hx hF hT
theorem eX29_init {l : Launch} {E : EN} {w : CO} {d : Nat} {s : CS} {f : RH} {Q : KO → CS → RH → Prop} {x0 : Nat}  (hst : l.stackTraces = false) (hT : (EvC l E w d MX14_init [.ref x0] s f (fun o s1 f2 => KP o (fun r => r = none ∧ Q (.inl none) s1 f2) (fun k => Q (.inr k) s1 f2)))) : EvC l E w (d + 1) MX29_init [.ref x0] s f Q :=
  EvC.of hst (by decide) (Nat.le_of_ble_eq_true rfl) (vX29_init_0  hT)
set_option maxHeartbeats 16000000 in
theorem vX29_act_0 {l : Launch} {E : EN} {w : CO} {d : Nat} {s : CS} {f : RH} {Q : KO → CS → RH → Prop} {x0 : Nat}  (hT : (∀ y1 : Int32, y1 = (s.1 26) → (∀ y2 : Int32, y2 = (s.1 36) → (oc f x0 27 ∧ (∃ a3 : Nat, vl f x0 194 = .ref a3 ∧ (oc f a3 13 ∧ EvC l E w d MX13_act [.ref a3, .ref (w.1 3)] s f (fun o s4 f5 => KP o (fun r => ∃ v6 : Int32, r = some (.int v6) ∧ (narrow .boolean (.int v6) = .int v6 ∧ Q (.inl (some (.int v6))) s4 f5)) (fun k => (k = 9 ∧ (oc f5 x0 27 ∧ (∃ v7 : Int32, vl f5 x0 193 = .int v7 ∧ (EvC l E w d MX3_taken [.ref (w.1 3), .ref (w.1 9), .int y1, .int y2, .int v7] s4 f5 (fun o s8 f9 => KP o (fun r => r = none ∧ (oc f9 x0 27 ∧ (∃ v10 : Int32, vl f9 x0 192 = .int v10 ∧ (EvC l E w d MX3_put [.ref (w.1 3), .int v10] s8 f9 (fun o s11 f12 => KP o (fun r => r = none ∧ (oc f12 x0 27 ∧ (∃ a13 : Nat, vl f12 x0 195 = .ref a13 ∧ (oc f12 a13 13 ∧ EvC l E w d MX13_act [.ref a13, .ref (w.1 3)] s11 f12 (fun o s14 f15 => KP o (fun r => ∃ v16 : Int32, r = some (.int v16) ∧ (narrow .boolean (.int v16) = .int v16 ∧ Q (.inl (some (.int v16))) s14 f15)) (fun k => Q (.inr k) s14 f15)))))) (fun k => Q (.inr k) s11 f12)))))) (fun k => Q (.inr k) s8 f9)))))))))))))) : ExC l E w (d + 1) MX29_act 0 [some (.ref x0), some (.ref (w.1 3)), none, none, none] [] s f Q := by
  intro f0 h hW hF
  refine x_aload_n dX29_act_0 rfl rfl rfl ?_
  refine c_getI (v := (s.1 26)) dX29_act_1 f_TallySlate_Try_7 (by decide) (by decide) rfl hW rfl ?_
  obtain ⟨y1, ey1⟩ : ∃ z : Int32, z = (s.1 26) := ⟨_, rfl⟩
  replace hT := hT y1 ey1
  refine x_istore_n (lo' := [some (.ref x0), some (.ref (w.1 3)), some (.int y1), none, none]) dX29_act_4 rfl (Nat.le_of_ble_eq_true rfl) (by rw [ey1]; exact rfl) ?_
  refine x_aload_n dX29_act_5 rfl rfl rfl ?_
  refine c_getI (v := (s.1 36)) dX29_act_6 f_TallySlate_Try_13 (by decide) (by decide) rfl hW rfl ?_
  obtain ⟨y2, ey2⟩ : ∃ z : Int32, z = (s.1 36) := ⟨_, rfl⟩
  replace hT := hT y2 ey2
  refine x_istore_n (lo' := [some (.ref x0), some (.ref (w.1 3)), some (.int y1), some (.int y2), none]) dX29_act_9 rfl (Nat.le_of_ble_eq_true rfl) (by rw [ey2]; exact rfl) ?_
  refine x_aload_n dX29_act_10 rfl rfl rfl ?_
  obtain ⟨hc, hT⟩ := hT
  obtain ⟨a3, ev, hT⟩ := hT
  refine c_fgetG dX29_act_11 f_TallySlate_Try_16 hc (by decide) (by decide) hW ev ?_
  refine x_aload_n dX29_act_14 rfl rfl rfl ?_
  obtain ⟨hc, hT⟩ := hT
  obtain ⟨cc, hcc⟩ := hW.ocell hc
  refine c_invV (vs := [.ref (w.1 3)]) dX29_act_15 oX13_act q1328 q2040 hcc q1329 (Or.inl rfl) rfl rfl (Nat.le_of_ble_eq_true rfl) rfl hW hF hT ?_ ?_
  · intro _ s4 f5 hT h hW hF
    obtain ⟨v6, rfl, hT⟩ := hT
    exact x_iret dX29_act_18 rfl hT.1 ⟨_, _, hW, hF, Or.inl ⟨_, rfl, hT.2⟩⟩
  · intro k s4 f5 hT h a hW hx hF
    obtain ⟨rfl, hT⟩ := hT
    obtain rfl : a = w.1 9 := xA.is9 hx
    refine c_catch (hsr_yes (by decide) (by decide) q2039 (Or.inl rfl)) hW hx ?_
    refine x_astore (lo' := [some (.ref x0), some (.ref (w.1 3)), some (.int y1), some (.int y2), some (.ref (w.1 9))]) dX29_act_19 (Nat.le_of_ble_eq_true rfl) rfl rfl ?_
    refine x_aload_n dX29_act_21 rfl rfl rfl ?_
    refine x_aload dX29_act_22 rfl rfl ?_
    refine x_iload_n dX29_act_24 rfl rfl ?_
    refine x_iload_n dX29_act_25 rfl rfl ?_
    refine x_aload_n dX29_act_26 rfl rfl rfl ?_
    obtain ⟨hc, hT⟩ := hT
    obtain ⟨v7, ev, hT⟩ := hT
    refine c_fgetG dX29_act_27 f_TallySlate_Try_30 hc (by decide) (by decide) hW ev ?_
    obtain ⟨-, -, cc, hcc, -⟩ := hW.ob 3 (by decide)
    refine c_invV (vs := [.ref (w.1 9), .int y1, .int y2, .int v7]) dX29_act_30 oX3_taken q2042 q2041 hcc q2043 (Or.inl rfl) rfl rfl (Nat.le_of_ble_eq_true rfl) rfl hW hF hT ?_ ?_
    · intro _ s8 f9 hT h hW hF
      obtain ⟨rfl, hT⟩ := hT
      refine x_aload_n dX29_act_33 rfl rfl rfl ?_
      refine x_aload_n dX29_act_34 rfl rfl rfl ?_
      obtain ⟨hc, hT⟩ := hT
      obtain ⟨v10, ev, hT⟩ := hT
      refine c_fgetG dX29_act_35 f_TallySlate_Try_37 hc (by decide) (by decide) hW ev ?_
      obtain ⟨-, -, cc, hcc, -⟩ := hW.ob 3 (by decide)
      refine c_invV (vs := [.int v10]) dX29_act_38 oX3_put q1935 q2045 hcc q1936 (Or.inl rfl) rfl rfl (Nat.le_of_ble_eq_true rfl) rfl hW hF hT ?_ ?_
      · intro _ s11 f12 hT h hW hF
        obtain ⟨rfl, hT⟩ := hT
        refine x_aload_n dX29_act_41 rfl rfl rfl ?_
        obtain ⟨hc, hT⟩ := hT
        obtain ⟨a13, ev, hT⟩ := hT
        refine c_fgetG dX29_act_42 f_TallySlate_Try_44 hc (by decide) (by decide) hW ev ?_
        refine x_aload_n dX29_act_45 rfl rfl rfl ?_
        obtain ⟨hc, hT⟩ := hT
        obtain ⟨cc, hcc⟩ := hW.ocell hc
        refine c_invV (vs := [.ref (w.1 3)]) dX29_act_46 oX13_act q1328 q2040 hcc q1329 (Or.inl rfl) rfl rfl (Nat.le_of_ble_eq_true rfl) rfl hW hF hT ?_ ?_
        · intro _ s14 f15 hT h hW hF
          obtain ⟨v16, rfl, hT⟩ := hT
          exact x_iret dX29_act_49 rfl hT.1 ⟨_, _, hW, hF, Or.inl ⟨_, rfl, hT.2⟩⟩
        · intro k s14 f15 hT h a hW hx hF
          exact c_out (hsr_skip (by decide) (rfl)) hW hx hF hT
      · intro k s11 f12 hT h a hW hx hF
        exact c_out (hsr_skip (by decide) (rfl)) hW hx hF hT
    · intro k s8 f9 hT h a hW hx hF
      exact c_out (hsr_skip (by decide) (rfl)) hW hx hF hT
theorem eX29_act {l : Launch} {E : EN} {w : CO} {d : Nat} {s : CS} {f : RH} {Q : KO → CS → RH → Prop} {x0 : Nat}  (hst : l.stackTraces = false) (hT : (∀ y1 : Int32, y1 = (s.1 26) → (∀ y2 : Int32, y2 = (s.1 36) → (oc f x0 27 ∧ (∃ a3 : Nat, vl f x0 194 = .ref a3 ∧ (oc f a3 13 ∧ EvC l E w d MX13_act [.ref a3, .ref (w.1 3)] s f (fun o s4 f5 => KP o (fun r => ∃ v6 : Int32, r = some (.int v6) ∧ (narrow .boolean (.int v6) = .int v6 ∧ Q (.inl (some (.int v6))) s4 f5)) (fun k => (k = 9 ∧ (oc f5 x0 27 ∧ (∃ v7 : Int32, vl f5 x0 193 = .int v7 ∧ (EvC l E w d MX3_taken [.ref (w.1 3), .ref (w.1 9), .int y1, .int y2, .int v7] s4 f5 (fun o s8 f9 => KP o (fun r => r = none ∧ (oc f9 x0 27 ∧ (∃ v10 : Int32, vl f9 x0 192 = .int v10 ∧ (EvC l E w d MX3_put [.ref (w.1 3), .int v10] s8 f9 (fun o s11 f12 => KP o (fun r => r = none ∧ (oc f12 x0 27 ∧ (∃ a13 : Nat, vl f12 x0 195 = .ref a13 ∧ (oc f12 a13 13 ∧ EvC l E w d MX13_act [.ref a13, .ref (w.1 3)] s11 f12 (fun o s14 f15 => KP o (fun r => ∃ v16 : Int32, r = some (.int v16) ∧ (narrow .boolean (.int v16) = .int v16 ∧ Q (.inl (some (.int v16))) s14 f15)) (fun k => Q (.inr k) s14 f15)))))) (fun k => Q (.inr k) s11 f12)))))) (fun k => Q (.inr k) s8 f9)))))))))))))) : EvC l E w (d + 1) MX29_act [.ref x0, .ref (w.1 3)] s f Q :=
  EvC.of hst (by decide) (Nat.le_of_ble_eq_true rfl) (vX29_act_0  hT)
theorem vX3_begin_0 {l : Launch} {E : EN} {w : CO} {d : Nat} {s : CS} {f : RH} {Q : KO → CS → RH → Prop} {x1 : Int32}  (hT : Q (.inl none) (uI (uI (uI (uI (uI (uI (uI (uI (uI (uI (uI s 26 0) 36 0) 37 0) 38 0) 39 x1) 40 0) 41 0) 53 0) 54 0) 55 (-1)) 56 0) f) : ExC l E w d MX3_begin 0 [some (.ref (w.1 3)), some (.int x1)] [] s f Q := by
  intro f0 h hW hF
  refine x_aload_n dX3_begin_0 rfl rfl rfl ?_
  refine x_iconst (v := 0) dX3_begin_1 rfl ?_
  refine c_putI dX3_begin_2 f_TallySlate_Machine_75 (by decide) (by decide) rfl rfl rfl rfl hW ?_
  intro h hW
  refine x_aload_n dX3_begin_5 rfl rfl rfl ?_
  refine x_iconst (v := 0) dX3_begin_6 rfl ?_
  refine c_putI dX3_begin_7 f_TallySlate_Machine_79 (by decide) (by decide) rfl rfl rfl rfl hW ?_
  intro h hW
  refine x_aload_n dX3_begin_10 rfl rfl rfl ?_
  refine x_iconst (v := 0) dX3_begin_11 rfl ?_
  refine c_putI dX3_begin_12 f_TallySlate_Machine_82 (by decide) (by decide) rfl rfl rfl rfl hW ?_
  intro h hW
  refine x_aload_n dX3_begin_15 rfl rfl rfl ?_
  refine x_iconst (v := 0) dX3_begin_16 rfl ?_
  refine c_putI dX3_begin_17 f_TallySlate_Machine_85 (by decide) (by decide) rfl rfl rfl rfl hW ?_
  intro h hW
  refine x_aload_n dX3_begin_20 rfl rfl rfl ?_
  refine x_iload_n dX3_begin_21 rfl rfl ?_
  refine c_putI dX3_begin_22 f_TallySlate_Machine_88 (by decide) (by decide) rfl rfl rfl rfl hW ?_
  intro h hW
  refine x_aload_n dX3_begin_25 rfl rfl rfl ?_
  refine x_iconst (v := 0) dX3_begin_26 rfl ?_
  refine c_putI dX3_begin_27 f_TallySlate_Machine_91 (by decide) (by decide) rfl rfl rfl rfl hW ?_
  intro h hW
  refine x_aload_n dX3_begin_30 rfl rfl rfl ?_
  refine x_iconst (v := 0) dX3_begin_31 rfl ?_
  refine c_putI dX3_begin_32 f_TallySlate_Machine_94 (by decide) (by decide) rfl rfl rfl rfl hW ?_
  intro h hW
  refine x_aload_n dX3_begin_35 rfl rfl rfl ?_
  refine c_getO dX3_begin_36 f_TallySlate_Machine_64 (by decide) (by decide) rfl hW ?_
  refine x_iconst (v := 0) dX3_begin_39 rfl ?_
  refine c_putI dX3_begin_40 f_TallySlate_Machine_97 (by decide) (by decide) rfl rfl rfl rfl hW ?_
  intro h hW
  refine x_aload_n dX3_begin_43 rfl rfl rfl ?_
  refine c_getO dX3_begin_44 f_TallySlate_Machine_71 (by decide) (by decide) rfl hW ?_
  refine x_iconst (v := 0) dX3_begin_47 rfl ?_
  refine c_putI dX3_begin_48 f_TallySlate_Machine_100 (by decide) (by decide) rfl rfl rfl rfl hW ?_
  intro h hW
  refine x_aload_n dX3_begin_51 rfl rfl rfl ?_
  refine c_getO dX3_begin_52 f_TallySlate_Machine_71 (by decide) (by decide) rfl hW ?_
  refine x_iconst (v := (-1)) dX3_begin_55 rfl ?_
  refine c_putI dX3_begin_56 f_TallySlate_Machine_103 (by decide) (by decide) rfl rfl rfl rfl hW ?_
  intro h hW
  refine x_aload_n dX3_begin_59 rfl rfl rfl ?_
  refine c_getO dX3_begin_60 f_TallySlate_Machine_71 (by decide) (by decide) rfl hW ?_
  refine x_iconst (v := 0) dX3_begin_63 rfl ?_
  refine c_putI dX3_begin_64 f_TallySlate_Machine_106 (by decide) (by decide) rfl rfl rfl rfl hW ?_
  intro h hW
  exact x_vret dX3_begin_67 rfl ⟨_, _, hW, hF, Or.inl ⟨_, rfl, hT⟩⟩
theorem eX3_begin {l : Launch} {E : EN} {w : CO} {d : Nat} {s : CS} {f : RH} {Q : KO → CS → RH → Prop} {x1 : Int32}  (hst : l.stackTraces = false) (hT : Q (.inl none) (uI (uI (uI (uI (uI (uI (uI (uI (uI (uI (uI s 26 0) 36 0) 37 0) 38 0) 39 x1) 40 0) 41 0) 53 0) 54 0) 55 (-1)) 56 0) f) : EvC l E w d MX3_begin [.ref (w.1 3), .int x1] s f Q :=
  EvC.of hst (by decide) (Nat.le_of_ble_eq_true rfl) (vX3_begin_0  hT)
