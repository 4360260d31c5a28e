/-! weakest preconditions of methods of the model: printed by wp.py -/
set_option maxRecDepth 100000
theorem vX10_form_0 {l : Launch} {E : EN} {w : MO} {d : Nat} {s : MS} {Q : Option Value → MS → Prop} {x1 : Int32} (hT : (inB x1 166300 ∧ (((s.2.2.1 104 x1.toNatClampNeg) = 3 → (EvM l E w d MX10_says [.ref w.1, .int 40] s (fun r s1 => r = none ∧ (EvM l E w d MX10_goesIn [.ref w.1, .int x1, .int 0] (sI s1 112 0) (fun r s2 => r = none ∧ ExM l E w (d + 1) MX10_form 33 [some (.ref w.1), none, none, none] [] s2 Q))))) ∧ (¬ (s.2.2.1 104 x1.toNatClampNeg) = 3 → (EvM l E w d MX10_formOfPlain [.ref w.1, .int x1] s (fun r s3 => r = none ∧ Q none s3)))))) : ExM l E w (d + 1) MX10_form 0 [some (.ref w.1), some (.int x1), none, none] [] s Q := by
  intro h0 h hW hF
  refine x_aload_n dX10_form_0 rfl rfl rfl ?_
  refine m_geta dX10_form_1 f_TallySlateModel_183 (by decide) rfl hW ?_
  refine x_iload_n dX10_form_4 rfl rfl ?_
  obtain ⟨hb, hT⟩ := hT
  refine m_iald (v := (s.2.2.1 104 x1.toNatClampNeg)) dX10_form_5 rfl hb hW rfl ?_
  refine x_iconst (v := 3) dX10_form_6 rfl ?_
  refine x_icmp_eq (tgt := 16) dX10_form_7 rfl (fun c => ?_) (fun c => ?_)
  · have hT := hT.1 c
    refine x_aload_n dX10_form_16 rfl rfl rfl ?_
    refine x_bipush (v := 40) dX10_form_17 rfl ?_
    refine m_inv (vs := [.int 40]) dX10_form_19 oX10_says q2919 q2917 qs150 rfl rfl (Nat.le_of_ble_eq_true rfl) rfl hW hF hT ?_
    rintro _ s1 ⟨rfl, hT⟩ h hW hF
    refine x_aload_n dX10_form_22 rfl rfl rfl ?_
    refine x_iconst (v := 0) dX10_form_23 rfl ?_
    refine m_puti dX10_form_24 f_TallySlateModel_474 (by decide) rfl rfl rfl rfl hW hF ?_
    intro h hW hF
    refine x_aload_n dX10_form_27 rfl rfl rfl ?_
    refine x_iload_n dX10_form_28 rfl rfl ?_
    refine x_iconst (v := 0) dX10_form_29 rfl ?_
    refine m_inv (vs := [.int x1, .int 0]) dX10_form_30 oX10_goesIn q2755 q2753 qs112 rfl rfl (Nat.le_of_ble_eq_true rfl) rfl hW hF hT ?_
    rintro _ s2 ⟨rfl, hT⟩ h hW hF
    refine Ex.wkl (lo' := [some (.ref w.1), none, none, none]) ⟨rfl, trivial⟩ ?_
    exact hT h0 h hW hF
  · have hT := hT.2 c
    refine x_aload_n dX10_form_10 rfl rfl rfl ?_
    refine x_iload_n dX10_form_11 rfl rfl ?_
    refine m_inv (vs := [.int x1]) dX10_form_12 oX10_formOfPlain q2928 q2926 qs152 rfl rfl (Nat.le_of_ble_eq_true rfl) rfl hW hF hT ?_
    rintro _ s3 ⟨rfl, hT⟩ h hW hF
    exact x_vret dX10_form_15 rfl ⟨_, _, rfl, hW, hF, hT⟩
theorem eX10_form {l : Launch} {E : EN} {w : MO} {d : Nat} {s : MS} {Q : Option Value → MS → Prop} {x1 : Int32} (hst : l.stackTraces = false) (hT : (inB x1 166300 ∧ (((s.2.2.1 104 x1.toNatClampNeg) = 3 → (EvM l E w d MX10_says [.ref w.1, .int 40] s (fun r s1 => r = none ∧ (EvM l E w d MX10_goesIn [.ref w.1, .int x1, .int 0] (sI s1 112 0) (fun r s2 => r = none ∧ ExM l E w (d + 1) MX10_form 33 [some (.ref w.1), none, none, none] [] s2 Q))))) ∧ (¬ (s.2.2.1 104 x1.toNatClampNeg) = 3 → (EvM l E w d MX10_formOfPlain [.ref w.1, .int x1] s (fun r s3 => r = none ∧ Q none s3)))))) : EvM l E w (d + 1) MX10_form [.ref w.1, .int x1] s Q :=
  EvM.of hst (by decide) (Nat.le_of_ble_eq_true rfl) (vX10_form_0 hT)
set_option maxHeartbeats 16000000 in
theorem vX10_form_33 {l : Launch} {E : EN} {w : MO} {d : Nat} {s : MS} {Q : Option Value → MS → Prop}  (hT : (((s.1 112) ≤ 0 → Q none s) ∧ (¬ (s.1 112) ≤ 0 → (inB ((s.1 112) - 1) 8 ∧ (∀ y1 : Int32, y1 = (s.2.2.1 109 ((s.1 112) - 1).toNatClampNeg) → (inB ((s.1 112) - 1) 8 ∧ (∀ y2 : Int32, y2 = (s.2.2.1 111 ((s.1 112) - 1).toNatClampNeg) → (EvM l E w d MX10_sizeAt [.ref w.1, .int y1] s (fun r s3 => ∃ v4 : Int32, r = some (.int v4) ∧ ((¬ y2 = v4 → (inB ((s3.1 112) - 1) 8 ∧ (inB ((s3.1 112) - 1) 8 ∧ ((y2 ≤ 0 → (EvM l E w d MX10_isInt [.ref w.1, .int y1, .int y2] (sA s3 111 ((s3.1 112) - 1).toNatClampNeg ((s3.2.2.1 111 ((s3.1 112) - 1).toNatClampNeg) + 1)) (fun r s5 => ∃ v6 : Int32, r = some (.int v6) ∧ ((v6 = 0 → (EvM l E w d MX10_partAt [.ref w.1, .int y1, .int y2] s5 (fun r s7 => ∃ v8 : Int32, r = some (.int v8) ∧ (inB v8 166300 ∧ ((¬ (s7.2.2.1 104 v8.toNatClampNeg) = 3 → (EvM l E w d MX10_partAt [.ref w.1, .int y1, .int y2] s7 (fun r s9 => ∃ v10 : Int32, r = some (.int v10) ∧ (EvM l E w d MX10_formOfPlain [.ref w.1, .int v10] s9 (fun r s11 => r = none ∧ ExM l E w (d + 1) MX10_form 33 [some (.ref w.1), none, none, none] [] s11 Q))))) ∧ ((s7.2.2.1 104 v8.toNatClampNeg) = 3 → (EvM l E w d MX10_says [.ref w.1, .int 40] s7 (fun r s12 => r = none ∧ (EvM l E w d MX10_partAt [.ref w.1, .int y1, .int y2] s12 (fun r s13 => ∃ v14 : Int32, r = some (.int v14) ∧ (EvM l E w d MX10_goesIn [.ref w.1, .int v14, .int 0] s13 (fun r s15 => r = none ∧ ExM l E w (d + 1) MX10_form 33 [some (.ref w.1), none, none, none] [] s15 Q)))))))))))) ∧ (¬ v6 = 0 → (inB ((y1 + 3) + (2 * y2)) 166300 ∧ (EvM l E w d MX10_number [.ref w.1, .int (s5.2.2.1 104 ((y1 + 3) + (2 * y2)).toNatClampNeg)] s5 (fun r s16 => r = none ∧ ExM l E w (d + 1) MX10_form 33 [some (.ref w.1), none, none, none] [] s16 Q)))))))) ∧ (¬ y2 ≤ 0 → (EvM l E w d MX10_says [.ref w.1, .int 59] (sA s3 111 ((s3.1 112) - 1).toNatClampNeg ((s3.2.2.1 111 ((s3.1 112) - 1).toNatClampNeg) + 1)) (fun r s17 => r = none ∧ (EvM l E w d MX10_isInt [.ref w.1, .int y1, .int y2] s17 (fun r s18 => ∃ v19 : Int32, r = some (.int v19) ∧ ((v19 = 0 → (EvM l E w d MX10_partAt [.ref w.1, .int y1, .int y2] s18 (fun r s20 => ∃ v21 : Int32, r = some (.int v21) ∧ (inB v21 166300 ∧ ((¬ (s20.2.2.1 104 v21.toNatClampNeg) = 3 → (EvM l E w d MX10_partAt [.ref w.1, .int y1, .int y2] s20 (fun r s22 => ∃ v23 : Int32, r = some (.int v23) ∧ (EvM l E w d MX10_formOfPlain [.ref w.1, .int v23] s22 (fun r s24 => r = none ∧ ExM l E w (d + 1) MX10_form 33 [some (.ref w.1), none, none, none] [] s24 Q))))) ∧ ((s20.2.2.1 104 v21.toNatClampNeg) = 3 → (EvM l E w d MX10_says [.ref w.1, .int 40] s20 (fun r s25 => r = none ∧ (EvM l E w d MX10_partAt [.ref w.1, .int y1, .int y2] s25 (fun r s26 => ∃ v27 : Int32, r = some (.int v27) ∧ (EvM l E w d MX10_goesIn [.ref w.1, .int v27, .int 0] s26 (fun r s28 => r = none ∧ ExM l E w (d + 1) MX10_form 33 [some (.ref w.1), none, none, none] [] s28 Q)))))))))))) ∧ (¬ v19 = 0 → (inB ((y1 + 3) + (2 * y2)) 166300 ∧ (EvM l E w d MX10_number [.ref w.1, .int (s18.2.2.1 104 ((y1 + 3) + (2 * y2)).toNatClampNeg)] s18 (fun r s29 => r = none ∧ ExM l E w (d + 1) MX10_form 33 [some (.ref w.1), none, none, none] [] s29 Q)))))))))))))) ∧ (y2 = v4 → (EvM l E w d MX10_says [.ref w.1, .int 41] s3 (fun r s30 => r = none ∧ ExM l E w (d + 1) MX10_form 33 [some (.ref w.1), none, none, none] [] (sI s30 112 ((s30.1 112) - 1)) Q))))))))))))) : ExM l E w (d + 1) MX10_form 33 [some (.ref w.1), none, none, none] [] s Q := by
  intro h0 h hW hF
  refine x_aload_n dX10_form_33 rfl rfl rfl ?_
  refine m_geti (v := (s.1 112)) dX10_form_34 f_TallySlateModel_474 (by decide) rfl hW rfl ?_
  refine x_if_le (tgt := 193) dX10_form_37 rfl (fun c => ?_) (fun c => ?_)
  · have hT := hT.1 c
    exact x_vret dX10_form_193 rfl ⟨_, _, rfl, hW, hF, hT⟩
  · have hT := hT.2 c
    refine x_aload_n dX10_form_40 rfl rfl rfl ?_
    refine m_geta dX10_form_41 f_TallySlateModel_192 (by decide) rfl hW ?_
    refine x_aload_n dX10_form_44 rfl rfl rfl ?_
    refine m_geti (v := (s.1 112)) dX10_form_45 f_TallySlateModel_474 (by decide) rfl hW rfl ?_
    refine x_iconst (v := 1) dX10_form_48 rfl ?_
    refine x_isub dX10_form_49 ?_
    obtain ⟨hb, hT⟩ := hT
    refine m_iald (v := (s.2.2.1 109 ((s.1 112) - 1).toNatClampNeg)) dX10_form_50 rfl hb hW rfl ?_
    obtain ⟨y1, ey1⟩ : ∃ z : Int32, z = (s.2.2.1 109 ((s.1 112) - 1).toNatClampNeg) := ⟨_, rfl⟩
    have hT := hT y1 ey1
    refine x_istore_n (lo' := [some (.ref w.1), none, some (.int y1), none]) dX10_form_51 rfl (Nat.le_of_ble_eq_true rfl) (by rw [ey1]; rfl) ?_
    refine x_aload_n dX10_form_52 rfl rfl rfl ?_
    refine m_geta dX10_form_53 f_TallySlateModel_198 (by decide) rfl hW ?_
    refine x_aload_n dX10_form_56 rfl rfl rfl ?_
    refine m_geti (v := (s.1 112)) dX10_form_57 f_TallySlateModel_474 (by decide) rfl hW rfl ?_
    refine x_iconst (v := 1) dX10_form_60 rfl ?_
    refine x_isub dX10_form_61 ?_
    obtain ⟨hb, hT⟩ := hT
    refine m_iald (v := (s.2.2.1 111 ((s.1 112) - 1).toNatClampNeg)) dX10_form_62 rfl hb hW rfl ?_
    obtain ⟨y2, ey2⟩ : ∃ z : Int32, z = (s.2.2.1 111 ((s.1 112) - 1).toNatClampNeg) := ⟨_, rfl⟩
    have hT := hT y2 ey2
    refine x_istore_n (lo' := [some (.ref w.1), none, some (.int y1), some (.int y2)]) dX10_form_63 rfl (Nat.le_of_ble_eq_true rfl) (by rw [ey2]; rfl) ?_
    refine x_iload_n dX10_form_64 rfl rfl ?_
    refine x_aload_n dX10_form_65 rfl rfl rfl ?_
    refine x_iload_n dX10_form_66 rfl rfl ?_
    refine m_inv (vs := [.int y1]) dX10_form_67 oX10_sizeAt q2735 q2733 qs107 rfl rfl (Nat.le_of_ble_eq_true rfl) rfl hW hF hT ?_
    rintro _ s3 ⟨v4, rfl, hT⟩ h hW hF
    refine x_icmp_ne (tgt := 92) dX10_form_70 rfl (fun c => ?_) (fun c => ?_)
    · have hT := hT.1 c
      refine x_aload_n dX10_form_92 rfl rfl rfl ?_
      refine m_geta dX10_form_93 f_TallySlateModel_198 (by decide) rfl hW ?_
      refine x_aload_n dX10_form_96 rfl rfl rfl ?_
      refine m_geti (v := (s3.1 112)) dX10_form_97 f_TallySlateModel_474 (by decide) rfl hW rfl ?_
      refine x_iconst (v := 1) dX10_form_100 rfl ?_
      refine x_isub dX10_form_101 ?_
      refine x_dup2 dX10_form_102 rfl rfl ?_
      obtain ⟨hb, hT⟩ := hT
      refine m_iald (v := (s3.2.2.1 111 ((s3.1 112) - 1).toNatClampNeg)) dX10_form_103 rfl hb hW rfl ?_
      refine x_iconst (v := 1) dX10_form_104 rfl ?_
      refine x_iadd dX10_form_105 ?_
      obtain ⟨hb, hT⟩ := hT
      refine m_iast dX10_form_106 rfl hb hW hF ?_
      intro h hW hF
      refine x_iload_n dX10_form_107 rfl rfl ?_
      refine x_if_le (tgt := 117) dX10_form_108 rfl (fun c => ?_) (fun c => ?_)
      · have hT := hT.1 c
        refine x_aload_n dX10_form_117 rfl rfl rfl ?_
        refine x_iload_n dX10_form_118 rfl rfl ?_
        refine x_iload_n dX10_form_119 rfl rfl ?_
        refine m_inv (vs := [.int y1, .int y2]) dX10_form_120 oX10_isInt q2759 q2757 qs113 rfl rfl (Nat.le_of_ble_eq_true rfl) rfl hW hF hT ?_
        rintro _ s5 ⟨v6, rfl, hT⟩ h hW hF
        refine x_if_eq (tgt := 145) dX10_form_123 rfl (fun c => ?_) (fun c => ?_)
        · have hT := hT.1 c
          refine x_aload_n dX10_form_145 rfl rfl rfl ?_
          refine m_geta dX10_form_146 f_TallySlateModel_183 (by decide) rfl hW ?_
          refine x_aload_n dX10_form_149 rfl rfl rfl ?_
          refine x_iload_n dX10_form_150 rfl rfl ?_
          refine x_iload_n dX10_form_151 rfl rfl ?_
          refine m_inv (vs := [.int y1, .int y2]) dX10_form_152 oX10_partAt q2751 q2749 qs111 rfl rfl (Nat.le_of_ble_eq_true rfl) rfl hW hF hT ?_
          rintro _ s7 ⟨v8, rfl, hT⟩ h hW hF
          obtain ⟨hb, hT⟩ := hT
          refine m_iald (v := (s7.2.2.1 104 v8.toNatClampNeg)) dX10_form_155 rfl hb hW rfl ?_
          refine x_iconst (v := 3) dX10_form_156 rfl ?_
          refine x_icmp_ne (tgt := 180) dX10_form_157 rfl (fun c => ?_) (fun c => ?_)
          · have hT := hT.1 c
            refine x_aload_n dX10_form_180 rfl rfl rfl ?_
            refine x_aload_n dX10_form_181 rfl rfl rfl ?_
            refine x_iload_n dX10_form_182 rfl rfl ?_
            refine x_iload_n dX10_form_183 rfl rfl ?_
            refine m_inv (vs := [.int y1, .int y2]) dX10_form_184 oX10_partAt q2751 q2749 qs111 rfl rfl (Nat.le_of_ble_eq_true rfl) rfl hW hF hT ?_
            rintro _ s9 ⟨v10, rfl, hT⟩ h hW hF
            refine m_inv (vs := [.int v10]) dX10_form_187 oX10_formOfPlain q2928 q2926 qs152 rfl rfl (Nat.le_of_ble_eq_true rfl) rfl hW hF hT ?_
            rintro _ s11 ⟨rfl, hT⟩ h hW hF
            refine x_goto (tgt := 33) dX10_form_190 rfl ?_
            refine Ex.wkl (lo' := [some (.ref w.1), none, none, none]) ⟨rfl, trivial⟩ ?_
            exact hT h0 h hW hF
          · have hT := hT.2 c
            refine x_aload_n dX10_form_160 rfl rfl rfl ?_
            refine x_bipush (v := 40) dX10_form_161 rfl ?_
            refine m_inv (vs := [.int 40]) dX10_form_163 oX10_says q2919 q2917 qs150 rfl rfl (Nat.le_of_ble_eq_true rfl) rfl hW hF hT ?_
            rintro _ s12 ⟨rfl, hT⟩ h hW hF
            refine x_aload_n dX10_form_166 rfl rfl rfl ?_
            refine x_aload_n dX10_form_167 rfl rfl rfl ?_
            refine x_iload_n dX10_form_168 rfl rfl ?_
            refine x_iload_n dX10_form_169 rfl rfl ?_
            refine m_inv (vs := [.int y1, .int y2]) dX10_form_170 oX10_partAt q2751 q2749 qs111 rfl rfl (Nat.le_of_ble_eq_true rfl) rfl hW hF hT ?_
            rintro _ s13 ⟨v14, rfl, hT⟩ h hW hF
            refine x_iconst (v := 0) dX10_form_173 rfl ?_
            refine m_inv (vs := [.int v14, .int 0]) dX10_form_174 oX10_goesIn q2755 q2753 qs112 rfl rfl (Nat.le_of_ble_eq_true rfl) rfl hW hF hT ?_
            rintro _ s15 ⟨rfl, hT⟩ h hW hF
            refine x_goto (tgt := 190) dX10_form_177 rfl ?_
            refine x_goto (tgt := 33) dX10_form_190 rfl ?_
            refine Ex.wkl (lo' := [some (.ref w.1), none, none, none]) ⟨rfl, trivial⟩ ?_
            exact hT h0 h hW hF
        · have hT := hT.2 c
          refine x_aload_n dX10_form_126 rfl rfl rfl ?_
          refine x_aload_n dX10_form_127 rfl rfl rfl ?_
          refine m_geta dX10_form_128 f_TallySlateModel_183 (by decide) rfl hW ?_
          refine x_iload_n dX10_form_131 rfl rfl ?_
          refine x_iconst (v := 3) dX10_form_132 rfl ?_
          refine x_iadd dX10_form_133 ?_
          refine x_iconst (v := 2) dX10_form_134 rfl ?_
          refine x_iload_n dX10_form_135 rfl rfl ?_
          refine x_imul dX10_form_136 ?_
          refine x_iadd dX10_form_137 ?_
          obtain ⟨hb, hT⟩ := hT
          refine m_iald (v := (s5.2.2.1 104 ((y1 + 3) + (2 * y2)).toNatClampNeg)) dX10_form_138 rfl hb hW rfl ?_
          refine m_inv (vs := [.int (s5.2.2.1 104 ((y1 + 3) + (2 * y2)).toNatClampNeg)]) dX10_form_139 oX10_number q2915 q2913 qs149 rfl rfl (Nat.le_of_ble_eq_true rfl) rfl hW hF hT ?_
          rintro _ s16 ⟨rfl, hT⟩ h hW hF
          refine x_goto (tgt := 190) dX10_form_142 rfl ?_
          refine x_goto (tgt := 33) dX10_form_190 rfl ?_
          refine Ex.wkl (lo' := [some (.ref w.1), none, none, none]) ⟨rfl, trivial⟩ ?_
          exact hT h0 h hW hF
      · have hT := hT.2 c
        refine x_aload_n dX10_form_111 rfl rfl rfl ?_
        refine x_bipush (v := 59) dX10_form_112 rfl ?_
        refine m_inv (vs := [.int 59]) dX10_form_114 oX10_says q2919 q2917 qs150 rfl rfl (Nat.le_of_ble_eq_true rfl) rfl hW hF hT ?_
        rintro _ s17 ⟨rfl, hT⟩ h hW hF
        refine x_aload_n dX10_form_117 rfl rfl rfl ?_
        refine x_iload_n dX10_form_118 rfl rfl ?_
        refine x_iload_n dX10_form_119 rfl rfl ?_
        refine m_inv (vs := [.int y1, .int y2]) dX10_form_120 oX10_isInt q2759 q2757 qs113 rfl rfl (Nat.le_of_ble_eq_true rfl) rfl hW hF hT ?_
        rintro _ s18 ⟨v19, rfl, hT⟩ h hW hF
        refine x_if_eq (tgt := 145) dX10_form_123 rfl (fun c => ?_) (fun c => ?_)
        · have hT := hT.1 c
          refine x_aload_n dX10_form_145 rfl rfl rfl ?_
          refine m_geta dX10_form_146 f_TallySlateModel_183 (by decide) rfl hW ?_
          refine x_aload_n dX10_form_149 rfl rfl rfl ?_
          refine x_iload_n dX10_form_150 rfl rfl ?_
          refine x_iload_n dX10_form_151 rfl rfl ?_
          refine m_inv (vs := [.int y1, .int y2]) dX10_form_152 oX10_partAt q2751 q2749 qs111 rfl rfl (Nat.le_of_ble_eq_true rfl) rfl hW hF hT ?_
          rintro _ s20 ⟨v21, rfl, hT⟩ h hW hF
          obtain ⟨hb, hT⟩ := hT
          refine m_iald (v := (s20.2.2.1 104 v21.toNatClampNeg)) dX10_form_155 rfl hb hW rfl ?_
          refine x_iconst (v := 3) dX10_form_156 rfl ?_
          refine x_icmp_ne (tgt := 180) dX10_form_157 rfl (fun c => ?_) (fun c => ?_)
          · have hT := hT.1 c
            refine x_aload_n dX10_form_180 rfl rfl rfl ?_
            refine x_aload_n dX10_form_181 rfl rfl rfl ?_
            refine x_iload_n dX10_form_182 rfl rfl ?_
            refine x_iload_n dX10_form_183 rfl rfl ?_
            refine m_inv (vs := [.int y1, .int y2]) dX10_form_184 oX10_partAt q2751 q2749 qs111 rfl rfl (Nat.le_of_ble_eq_true rfl) rfl hW hF hT ?_
            rintro _ s22 ⟨v23, rfl, hT⟩ h hW hF
            refine m_inv (vs := [.int v23]) dX10_form_187 oX10_formOfPlain q2928 q2926 qs152 rfl rfl (Nat.le_of_ble_eq_true rfl) rfl hW hF hT ?_
            rintro _ s24 ⟨rfl, hT⟩ h hW hF
            refine x_goto (tgt := 33) dX10_form_190 rfl ?_
            refine Ex.wkl (lo' := [some (.ref w.1), none, none, none]) ⟨rfl, trivial⟩ ?_
            exact hT h0 h hW hF
          · have hT := hT.2 c
            refine x_aload_n dX10_form_160 rfl rfl rfl ?_
            refine x_bipush (v := 40) dX10_form_161 rfl ?_
            refine m_inv (vs := [.int 40]) dX10_form_163 oX10_says q2919 q2917 qs150 rfl rfl (Nat.le_of_ble_eq_true rfl) rfl hW hF hT ?_
            rintro _ s25 ⟨rfl, hT⟩ h hW hF
            refine x_aload_n dX10_form_166 rfl rfl rfl ?_
            refine x_aload_n dX10_form_167 rfl rfl rfl ?_
            refine x_iload_n dX10_form_168 rfl rfl ?_
            refine x_iload_n dX10_form_169 rfl rfl ?_
            refine m_inv (vs := [.int y1, .int y2]) dX10_form_170 oX10_partAt q2751 q2749 qs111 rfl rfl (Nat.le_of_ble_eq_true rfl) rfl hW hF hT ?_
            rintro _ s26 ⟨v27, rfl, hT⟩ h hW hF
            refine x_iconst (v := 0) dX10_form_173 rfl ?_
            refine m_inv (vs := [.int v27, .int 0]) dX10_form_174 oX10_goesIn q2755 q2753 qs112 rfl rfl (Nat.le_of_ble_eq_true rfl) rfl hW hF hT ?_
            rintro _ s28 ⟨rfl, hT⟩ h hW hF
            refine x_goto (tgt := 190) dX10_form_177 rfl ?_
            refine x_goto (tgt := 33) dX10_form_190 rfl ?_
            refine Ex.wkl (lo' := [some (.ref w.1), none, none, none]) ⟨rfl, trivial⟩ ?_
            exact hT h0 h hW hF
        · have hT := hT.2 c
          refine x_aload_n dX10_form_126 rfl rfl rfl ?_
          refine x_aload_n dX10_form_127 rfl rfl rfl ?_
          refine m_geta dX10_form_128 f_TallySlateModel_183 (by decide) rfl hW ?_
          refine x_iload_n dX10_form_131 rfl rfl ?_
          refine x_iconst (v := 3) dX10_form_132 rfl ?_
          refine x_iadd dX10_form_133 ?_
          refine x_iconst (v := 2) dX10_form_134 rfl ?_
          refine x_iload_n dX10_form_135 rfl rfl ?_
          refine x_imul dX10_form_136 ?_
          refine x_iadd dX10_form_137 ?_
          obtain ⟨hb, hT⟩ := hT
          refine m_iald (v := (s18.2.2.1 104 ((y1 + 3) + (2 * y2)).toNatClampNeg)) dX10_form_138 rfl hb hW rfl ?_
          refine m_inv (vs := [.int (s18.2.2.1 104 ((y1 + 3) + (2 * y2)).toNatClampNeg)]) dX10_form_139 oX10_number q2915 q2913 qs149 rfl rfl (Nat.le_of_ble_eq_true rfl) rfl hW hF hT ?_
          rintro _ s29 ⟨rfl, hT⟩ h hW hF
          refine x_goto (tgt := 190) dX10_form_142 rfl ?_
          refine x_goto (tgt := 33) dX10_form_190 rfl ?_
          refine Ex.wkl (lo' := [some (.ref w.1), none, none, none]) ⟨rfl, trivial⟩ ?_
          exact hT h0 h hW hF
    · have hT := hT.2 c
      refine x_aload_n dX10_form_73 rfl rfl rfl ?_
      refine x_bipush (v := 41) dX10_form_74 rfl ?_
      refine m_inv (vs := [.int 41]) dX10_form_76 oX10_says q2919 q2917 qs150 rfl rfl (Nat.le_of_ble_eq_true rfl) rfl hW hF hT ?_
      rintro _ s30 ⟨rfl, hT⟩ h hW hF
      refine x_aload_n dX10_form_79 rfl rfl rfl ?_
      refine x_dup dX10_form_80 rfl ?_
      refine m_geti (v := (s30.1 112)) dX10_form_81 f_TallySlateModel_474 (by decide) rfl hW rfl ?_
      refine x_iconst (v := 1) dX10_form_84 rfl ?_
      refine x_isub dX10_form_85 ?_
      refine m_puti dX10_form_86 f_TallySlateModel_474 (by decide) rfl rfl rfl rfl hW hF ?_
      intro h hW hF
      refine x_goto (tgt := 33) dX10_form_89 rfl ?_
      refine Ex.wkl (lo' := [some (.ref w.1), none, none, none]) ⟨rfl, trivial⟩ ?_
      exact hT h0 h hW hF
theorem vX10_formOfPlain_0 {l : Launch} {E : EN} {w : MO} {d : Nat} {s : MS} {Q : Option Value → MS → Prop} {x1 : Int32} (hT : (inB x1 166300 ∧ ((¬ (s.2.2.1 104 x1.toNatClampNeg) = 1 → (EvM l E w d MX10_says [.ref w.1, .int 123] s (fun r s1 => r = none ∧ ExM l E w (d + 1) MX10_formOfPlain 24 [some (.ref w.1), some (.int x1), some (.int 0)] [] s1 Q))) ∧ ((s.2.2.1 104 x1.toNatClampNeg) = 1 → (EvM l E w d MX10_formOfRow [.ref w.1, .int x1] s (fun r s2 => r = none ∧ Q none s2)))))) : ExM l E w (d + 1) MX10_formOfPlain 0 [some (.ref w.1), some (.int x1), none] [] s Q := by
  intro h0 h hW hF
  refine x_aload_n dX10_formOfPlain_0 rfl rfl rfl ?_
  refine m_geta dX10_formOfPlain_1 f_TallySlateModel_183 (by decide) rfl hW ?_
  refine x_iload_n dX10_formOfPlain_4 rfl rfl ?_
  obtain ⟨hb, hT⟩ := hT
  refine m_iald (v := (s.2.2.1 104 x1.toNatClampNeg)) dX10_formOfPlain_5 rfl hb hW rfl ?_
  refine x_iconst (v := 1) dX10_formOfPlain_6 rfl ?_
  refine x_icmp_ne (tgt := 16) dX10_formOfPlain_7 rfl (fun c => ?_) (fun c => ?_)
  · have hT := hT.1 c
    refine x_aload_n dX10_formOfPlain_16 rfl rfl rfl ?_
    refine x_bipush (v := 123) dX10_formOfPlain_17 rfl ?_
    refine m_inv (vs := [.int 123]) dX10_formOfPlain_19 oX10_says q2919 q2917 qs150 rfl rfl (Nat.le_of_ble_eq_true rfl) rfl hW hF hT ?_
    rintro _ s1 ⟨rfl, hT⟩ h hW hF
    refine x_iconst (v := 0) dX10_formOfPlain_22 rfl ?_
    refine x_istore_n (lo' := [some (.ref w.1), some (.int x1), some (.int 0)]) dX10_formOfPlain_23 rfl (Nat.le_of_ble_eq_true rfl) rfl ?_
    exact hT h0 h hW hF
  · have hT := hT.2 c
    refine x_aload_n dX10_formOfPlain_10 rfl rfl rfl ?_
    refine x_iload_n dX10_formOfPlain_11 rfl rfl ?_
    refine m_inv (vs := [.int x1]) dX10_formOfPlain_12 oX10_formOfRow q2932 q2930 qs153 rfl rfl (Nat.le_of_ble_eq_true rfl) rfl hW hF hT ?_
    rintro _ s2 ⟨rfl, hT⟩ h hW hF
    exact x_vret dX10_formOfPlain_15 rfl ⟨_, _, rfl, hW, hF, hT⟩
theorem eX10_formOfPlain {l : Launch} {E : EN} {w : MO} {d : Nat} {s : MS} {Q : Option Value → MS → Prop} {x1 : Int32} (hst : l.stackTraces = false) (hT : (inB x1 166300 ∧ ((¬ (s.2.2.1 104 x1.toNatClampNeg) = 1 → (EvM l E w d MX10_says [.ref w.1, .int 123] s (fun r s1 => r = none ∧ ExM l E w (d + 1) MX10_formOfPlain 24 [some (.ref w.1), some (.int x1), some (.int 0)] [] s1 Q))) ∧ ((s.2.2.1 104 x1.toNatClampNeg) = 1 → (EvM l E w d MX10_formOfRow [.ref w.1, .int x1] s (fun r s2 => r = none ∧ Q none s2)))))) : EvM l E w (d + 1) MX10_formOfPlain [.ref w.1, .int x1] s Q :=
  EvM.of hst (by decide) (Nat.le_of_ble_eq_true rfl) (vX10_formOfPlain_0 hT)
theorem vX10_formOfPlain_24 {l : Launch} {E : EN} {w : MO} {d : Nat} {s : MS} {Q : Option Value → MS → Prop} {a1 : Int32} {a2 : Int32} (hT : (EvM l E w d MX10_sizeAt [.ref w.1, .int a1] s (fun r s1 => ∃ v2 : Int32, r = some (.int v2) ∧ ((v2 ≤ a2 → (EvM l E w d MX10_says [.ref w.1, .int 125] s1 (fun r s3 => r = none ∧ Q none s3))) ∧ (¬ v2 ≤ a2 → (EvM l E w d MX10_partAt [.ref w.1, .int a1, .int a2] s1 (fun r s4 => ∃ v5 : Int32, r = some (.int v5) ∧ (EvM l E w d MX10_formOfRow [.ref w.1, .int v5] s4 (fun r s6 => r = none ∧ ExM l E w (d + 1) MX10_formOfPlain 24 [some (.ref w.1), some (.int a1), some (.int (a2 + 1))] [] s6 Q))))))))) : ExM l E w (d + 1) MX10_formOfPlain 24 [some (.ref w.1), some (.int a1), some (.int a2)] [] s Q := by
  intro h0 h hW hF
  refine x_iload_n dX10_formOfPlain_24 rfl rfl ?_
  refine x_aload_n dX10_formOfPlain_25 rfl rfl rfl ?_
  refine x_iload_n dX10_formOfPlain_26 rfl rfl ?_
  refine m_inv (vs := [.int a1]) dX10_formOfPlain_27 oX10_sizeAt q2735 q2733 qs107 rfl rfl (Nat.le_of_ble_eq_true rfl) rfl hW hF hT ?_
  rintro _ s1 ⟨v2, rfl, hT⟩ h hW hF
  refine x_icmp_ge (tgt := 49) dX10_formOfPlain_30 rfl (fun c => ?_) (fun c => ?_)
  · have hT := hT.1 c
    refine x_aload_n dX10_formOfPlain_49 rfl rfl rfl ?_
    refine x_bipush (v := 125) dX10_formOfPlain_50 rfl ?_
    refine m_inv (vs := [.int 125]) dX10_formOfPlain_52 oX10_says q2919 q2917 qs150 rfl rfl (Nat.le_of_ble_eq_true rfl) rfl hW hF hT ?_
    rintro _ s3 ⟨rfl, hT⟩ h hW hF
    exact x_vret dX10_formOfPlain_55 rfl ⟨_, _, rfl, hW, hF, hT⟩
  · have hT := hT.2 c
    refine x_aload_n dX10_formOfPlain_33 rfl rfl rfl ?_
    refine x_aload_n dX10_formOfPlain_34 rfl rfl rfl ?_
    refine x_iload_n dX10_formOfPlain_35 rfl rfl ?_
    refine x_iload_n dX10_formOfPlain_36 rfl rfl ?_
    refine m_inv (vs := [.int a1, .int a2]) dX10_formOfPlain_37 oX10_partAt q2751 q2749 qs111 rfl rfl (Nat.le_of_ble_eq_true rfl) rfl hW hF hT ?_
    rintro _ s4 ⟨v5, rfl, hT⟩ h hW hF
    refine m_inv (vs := [.int v5]) dX10_formOfPlain_40 oX10_formOfRow q2932 q2930 qs153 rfl rfl (Nat.le_of_ble_eq_true rfl) rfl hW hF hT ?_
    rintro _ s6 ⟨rfl, hT⟩ h hW hF
    refine x_iinc (lo' := [some (.ref w.1), some (.int a1), some (.int (a2 + 1))]) dX10_formOfPlain_43 rfl (show _ = (a2 + 1) from rfl) rfl ?_
    refine x_goto (tgt := 24) dX10_formOfPlain_46 rfl ?_
    exact hT h0 h hW hF
theorem vX10_formOfRow_0 {l : Launch} {E : EN} {w : MO} {d : Nat} {s : MS} {Q : Option Value → MS → Prop} {x1 : Int32} (hT : (EvM l E w d MX10_says [.ref w.1, .int 91] s (fun r s1 => r = none ∧ ExM l E w (d + 1) MX10_formOfRow 8 [some (.ref w.1), some (.int x1), some (.int 0)] [] s1 Q))) : ExM l E w (d + 1) MX10_formOfRow 0 [some (.ref w.1), some (.int x1), none] [] s Q := by
  intro h0 h hW hF
  refine x_aload_n dX10_formOfRow_0 rfl rfl rfl ?_
  refine x_bipush (v := 91) dX10_formOfRow_1 rfl ?_
  refine m_inv (vs := [.int 91]) dX10_formOfRow_3 oX10_says q2919 q2917 qs150 rfl rfl (Nat.le_of_ble_eq_true rfl) rfl hW hF hT ?_
  rintro _ s1 ⟨rfl, hT⟩ h hW hF
  refine x_iconst (v := 0) dX10_formOfRow_6 rfl ?_
  refine x_istore_n (lo' := [some (.ref w.1), some (.int x1), some (.int 0)]) dX10_formOfRow_7 rfl (Nat.le_of_ble_eq_true rfl) rfl ?_
  exact hT h0 h hW hF
theorem eX10_formOfRow {l : Launch} {E : EN} {w : MO} {d : Nat} {s : MS} {Q : Option Value → MS → Prop} {x1 : Int32} (hst : l.stackTraces = false) (hT : (EvM l E w d MX10_says [.ref w.1, .int 91] s (fun r s1 => r = none ∧ ExM l E w (d + 1) MX10_formOfRow 8 [some (.ref w.1), some (.int x1), some (.int 0)] [] s1 Q))) : EvM l E w (d + 1) MX10_formOfRow [.ref w.1, .int x1] s Q :=
  EvM.of hst (by decide) (Nat.le_of_ble_eq_true rfl) (vX10_formOfRow_0 hT)
theorem vX10_formOfRow_8 {l : Launch} {E : EN} {w : MO} {d : Nat} {s : MS} {Q : Option Value → MS → Prop} {a1 : Int32} {a2 : Int32} (hT : (EvM l E w d MX10_sizeAt [.ref w.1, .int a1] s (fun r s1 => ∃ v2 : Int32, r = some (.int v2) ∧ ((v2 ≤ a2 → (EvM l E w d MX10_says [.ref w.1, .int 93] s1 (fun r s3 => r = none ∧ Q none s3))) ∧ (¬ v2 ≤ a2 → ((a2 ≤ 0 → (inB ((a1 + 2) + a2) 166300 ∧ (EvM l E w d MX10_number [.ref w.1, .int (s1.2.2.1 104 ((a1 + 2) + a2).toNatClampNeg)] s1 (fun r s4 => r = none ∧ ExM l E w (d + 1) MX10_formOfRow 8 [some (.ref w.1), some (.int a1), some (.int (a2 + 1))] [] s4 Q)))) ∧ (¬ a2 ≤ 0 → (EvM l E w d MX10_says [.ref w.1, .int 32] s1 (fun r s5 => r = none ∧ (inB ((a1 + 2) + a2) 166300 ∧ (EvM l E w d MX10_number [.ref w.1, .int (s5.2.2.1 104 ((a1 + 2) + a2).toNatClampNeg)] s5 (fun r s6 => r = none ∧ ExM l E w (d + 1) MX10_formOfRow 8 [some (.ref w.1), some (.int a1), some (.int (a2 + 1))] [] s6 Q)))))))))))) : ExM l E w (d + 1) MX10_formOfRow 8 [some (.ref w.1), some (.int a1), some (.int a2)] [] s Q := by
  intro h0 h hW hF
  refine x_iload_n dX10_formOfRow_8 rfl rfl ?_
  refine x_aload_n dX10_formOfRow_9 rfl rfl rfl ?_
  refine x_iload_n dX10_formOfRow_10 rfl rfl ?_
  refine m_inv (vs := [.int a1]) dX10_formOfRow_11 oX10_sizeAt q2735 q2733 qs107 rfl rfl (Nat.le_of_ble_eq_true rfl) rfl hW hF hT ?_
  rintro _ s1 ⟨v2, rfl, hT⟩ h hW hF
  refine x_icmp_ge (tgt := 47) dX10_formOfRow_14 rfl (fun c => ?_) (fun c => ?_)
  · have hT := hT.1 c
    refine x_aload_n dX10_formOfRow_47 rfl rfl rfl ?_
    refine x_bipush (v := 93) dX10_formOfRow_48 rfl ?_
    refine m_inv (vs := [.int 93]) dX10_formOfRow_50 oX10_says q2919 q2917 qs150 rfl rfl (Nat.le_of_ble_eq_true rfl) rfl hW hF hT ?_
    rintro _ s3 ⟨rfl, hT⟩ h hW hF
    exact x_vret dX10_formOfRow_53 rfl ⟨_, _, rfl, hW, hF, hT⟩
  · have hT := hT.2 c
    refine x_iload_n dX10_formOfRow_17 rfl rfl ?_
    refine x_if_le (tgt := 27) dX10_formOfRow_18 rfl (fun c => ?_) (fun c => ?_)
    · have hT := hT.1 c
      refine x_aload_n dX10_formOfRow_27 rfl rfl rfl ?_
      refine x_aload_n dX10_formOfRow_28 rfl rfl rfl ?_
      refine m_geta dX10_formOfRow_29 f_TallySlateModel_183 (by decide) rfl hW ?_
      refine x_iload_n dX10_formOfRow_32 rfl rfl ?_
      refine x_iconst (v := 2) dX10_formOfRow_33 rfl ?_
      refine x_iadd dX10_formOfRow_34 ?_
      refine x_iload_n dX10_formOfRow_35 rfl rfl ?_
      refine x_iadd dX10_formOfRow_36 ?_
      obtain ⟨hb, hT⟩ := hT
      refine m_iald (v := (s1.2.2.1 104 ((a1 + 2) + a2).toNatClampNeg)) dX10_formOfRow_37 rfl hb hW rfl ?_
      refine m_inv (vs := [.int (s1.2.2.1 104 ((a1 + 2) + a2).toNatClampNeg)]) dX10_formOfRow_38 oX10_number q2915 q2913 qs149 rfl rfl (Nat.le_of_ble_eq_true rfl) rfl hW hF hT ?_
      rintro _ s4 ⟨rfl, hT⟩ h hW hF
      refine x_iinc (lo' := [some (.ref w.1), some (.int a1), some (.int (a2 + 1))]) dX10_formOfRow_41 rfl (show _ = (a2 + 1) from rfl) rfl ?_
      refine x_goto (tgt := 8) dX10_formOfRow_44 rfl ?_
      exact hT h0 h hW hF
    · have hT := hT.2 c
      refine x_aload_n dX10_formOfRow_21 rfl rfl rfl ?_
      refine x_bipush (v := 32) dX10_formOfRow_22 rfl ?_
      refine m_inv (vs := [.int 32]) dX10_formOfRow_24 oX10_says q2919 q2917 qs150 rfl rfl (Nat.le_of_ble_eq_true rfl) rfl hW hF hT ?_
      rintro _ s5 ⟨rfl, hT⟩ h hW hF
      refine x_aload_n dX10_formOfRow_27 rfl rfl rfl ?_
      refine x_aload_n dX10_formOfRow_28 rfl rfl rfl ?_
      refine m_geta dX10_formOfRow_29 f_TallySlateModel_183 (by decide) rfl hW ?_
      refine x_iload_n dX10_formOfRow_32 rfl rfl ?_
      refine x_iconst (v := 2) dX10_formOfRow_33 rfl ?_
      refine x_iadd dX10_formOfRow_34 ?_
      refine x_iload_n dX10_formOfRow_35 rfl rfl ?_
      refine x_iadd dX10_formOfRow_36 ?_
      obtain ⟨hb, hT⟩ := hT
      refine m_iald (v := (s5.2.2.1 104 ((a1 + 2) + a2).toNatClampNeg)) dX10_formOfRow_37 rfl hb hW rfl ?_
      refine m_inv (vs := [.int (s5.2.2.1 104 ((a1 + 2) + a2).toNatClampNeg)]) dX10_formOfRow_38 oX10_number q2915 q2913 qs149 rfl rfl (Nat.le_of_ble_eq_true rfl) rfl hW hF hT ?_
      rintro _ s6 ⟨rfl, hT⟩ h hW hF
      refine x_iinc (lo' := [some (.ref w.1), some (.int a1), some (.int (a2 + 1))]) dX10_formOfRow_41 rfl (show _ = (a2 + 1) from rfl) rfl ?_
      refine x_goto (tgt := 8) dX10_formOfRow_44 rfl ?_
      exact hT h0 h hW hF
theorem vX10_isTaken_0 {l : Launch} {E : EN} {w : MO} {d : Nat} {s : MS} {Q : Option Value → MS → Prop}  (hT : (((s.1 123) ≤ 9 → (∀ y1 : Int32, y1 = ((s.1 136) - 1) → ExM l E w (d + 1) MX10_isTaken 18 [some (.ref w.1), some (.int y1), none] [] s Q)) ∧ (¬ (s.1 123) ≤ 9 → Q (some (.int 0)) s))) : ExM l E w (d + 1) MX10_isTaken 0 [some (.ref w.1), none, none] [] s Q := by
  intro h0 h hW hF
  refine x_aload_n dX10_isTaken_0 rfl rfl rfl ?_
  refine m_geti (v := (s.1 123)) dX10_isTaken_1 f_TallySlateModel_498 (by decide) rfl hW rfl ?_
  refine x_bipush (v := 9) dX10_isTaken_4 rfl ?_
  refine x_icmp_le (tgt := 11) dX10_isTaken_6 rfl (fun c => ?_) (fun c => ?_)
  · have hT := hT.1 c
    refine x_aload_n dX10_isTaken_11 rfl rfl rfl ?_
    refine m_geti (v := (s.1 136)) dX10_isTaken_12 f_TallySlateModel_534 (by decide) rfl hW rfl ?_
    refine x_iconst (v := 1) dX10_isTaken_15 rfl ?_
    refine x_isub dX10_isTaken_16 ?_
    obtain ⟨y1, ey1⟩ : ∃ z : Int32, z = ((s.1 136) - 1) := ⟨_, rfl⟩
    have hT := hT y1 ey1
    refine x_istore_n (lo' := [some (.ref w.1), some (.int y1), none]) dX10_isTaken_17 rfl (Nat.le_of_ble_eq_true rfl) (by rw [ey1]; rfl) ?_
    exact hT h0 h hW hF
  · have hT := hT.2 c
    refine x_iconst (v := 0) dX10_isTaken_9 rfl ?_
    exact x_iret dX10_isTaken_10 rfl rfl ⟨_, _, rfl, hW, hF, hT⟩
theorem eX10_isTaken {l : Launch} {E : EN} {w : MO} {d : Nat} {s : MS} {Q : Option Value → MS → Prop}  (hst : l.stackTraces = false) (hT : (((s.1 123) ≤ 9 → (∀ y1 : Int32, y1 = ((s.1 136) - 1) → ExM l E w (d + 1) MX10_isTaken 18 [some (.ref w.1), some (.int y1), none] [] s Q)) ∧ (¬ (s.1 123) ≤ 9 → Q (some (.int 0)) s))) : EvM l E w (d + 1) MX10_isTaken [.ref w.1] s Q :=
  EvM.of hst (by decide) (Nat.le_of_ble_eq_true rfl) (vX10_isTaken_0 hT)
theorem vX10_isTaken_18 {l : Launch} {E : EN} {w : MO} {d : Nat} {s : MS} {Q : Option Value → MS → Prop} {a1 : Int32} (hT : ((a1 < 0 → ((0 ≤ a1 → ((¬ (s.1 123) = 9 → ExM l E w (d + 1) MX10_isTaken 64 [some (.ref w.1), some (.int a1), none] [.int (s.1 123)] s Q) ∧ ((s.1 123) = 9 → ExM l E w (d + 1) MX10_isTaken 64 [some (.ref w.1), some (.int a1), none] [.int (s.1 122)] s Q))) ∧ (¬ 0 ≤ a1 → Q (some (.int 0)) s))) ∧ (¬ a1 < 0 → (inB a1 400 ∧ (((s.2.2.1 137 a1.toNatClampNeg) = 2 → ((0 ≤ a1 → ((¬ (s.1 123) = 9 → ExM l E w (d + 1) MX10_isTaken 64 [some (.ref w.1), some (.int a1), none] [.int (s.1 123)] s Q) ∧ ((s.1 123) = 9 → ExM l E w (d + 1) MX10_isTaken 64 [some (.ref w.1), some (.int a1), none] [.int (s.1 122)] s Q))) ∧ (¬ 0 ≤ a1 → Q (some (.int 0)) s))) ∧ (¬ (s.2.2.1 137 a1.toNatClampNeg) = 2 → ExM l E w (d + 1) MX10_isTaken 18 [some (.ref w.1), some (.int (a1 + (-1))), none] [] s Q)))))) : ExM l E w (d + 1) MX10_isTaken 18 [some (.ref w.1), some (.int a1), none] [] s Q := by
  intro h0 h hW hF
  refine x_iload_n dX10_isTaken_18 rfl rfl ?_
  refine x_if_lt (tgt := 38) dX10_isTaken_19 rfl (fun c => ?_) (fun c => ?_)
  · have hT := hT.1 c
    refine x_iload_n dX10_isTaken_38 rfl rfl ?_
    refine x_if_ge (tgt := 44) dX10_isTaken_39 rfl (fun c => ?_) (fun c => ?_)
    · have hT := hT.1 c
      refine x_aload_n dX10_isTaken_44 rfl rfl rfl ?_
      refine m_geti (v := (s.1 123)) dX10_isTaken_45 f_TallySlateModel_498 (by decide) rfl hW rfl ?_
      refine x_bipush (v := 9) dX10_isTaken_48 rfl ?_
      refine x_icmp_ne (tgt := 60) dX10_isTaken_50 rfl (fun c => ?_) (fun c => ?_)
      · have hT := hT.1 c
        refine x_aload_n dX10_isTaken_60 rfl rfl rfl ?_
        refine m_geti (v := (s.1 123)) dX10_isTaken_61 f_TallySlateModel_498 (by decide) rfl hW rfl ?_
        exact hT h0 h hW hF
      · have hT := hT.2 c
        refine x_aload_n dX10_isTaken_53 rfl rfl rfl ?_
        refine m_geti (v := (s.1 122)) dX10_isTaken_54 f_TallySlateModel_543 (by decide) rfl hW rfl ?_
        refine x_goto (tgt := 64) dX10_isTaken_57 rfl ?_
        exact hT h0 h hW hF
    · have hT := hT.2 c
      refine x_iconst (v := 0) dX10_isTaken_42 rfl ?_
      exact x_iret dX10_isTaken_43 rfl rfl ⟨_, _, rfl, hW, hF, hT⟩
  · have hT := hT.2 c
    refine x_aload_n dX10_isTaken_22 rfl rfl rfl ?_
    refine m_geta dX10_isTaken_23 f_TallySlateModel_231 (by decide) rfl hW ?_
    refine x_iload_n dX10_isTaken_26 rfl rfl ?_
    obtain ⟨hb, hT⟩ := hT
    refine m_iald (v := (s.2.2.1 137 a1.toNatClampNeg)) dX10_isTaken_27 rfl hb hW rfl ?_
    refine x_iconst (v := 2) dX10_isTaken_28 rfl ?_
    refine x_icmp_eq (tgt := 38) dX10_isTaken_29 rfl (fun c => ?_) (fun c => ?_)
    · have hT := hT.1 c
      refine x_iload_n dX10_isTaken_38 rfl rfl ?_
      refine x_if_ge (tgt := 44) dX10_isTaken_39 rfl (fun c => ?_) (fun c => ?_)
      · have hT := hT.1 c
        refine x_aload_n dX10_isTaken_44 rfl rfl rfl ?_
        refine m_geti (v := (s.1 123)) dX10_isTaken_45 f_TallySlateModel_498 (by decide) rfl hW rfl ?_
        refine x_bipush (v := 9) dX10_isTaken_48 rfl ?_
        refine x_icmp_ne (tgt := 60) dX10_isTaken_50 rfl (fun c => ?_) (fun c => ?_)
        · have hT := hT.1 c
          refine x_aload_n dX10_isTaken_60 rfl rfl rfl ?_
          refine m_geti (v := (s.1 123)) dX10_isTaken_61 f_TallySlateModel_498 (by decide) rfl hW rfl ?_
          exact hT h0 h hW hF
        · have hT := hT.2 c
          refine x_aload_n dX10_isTaken_53 rfl rfl rfl ?_
          refine m_geti (v := (s.1 122)) dX10_isTaken_54 f_TallySlateModel_543 (by decide) rfl hW rfl ?_
          refine x_goto (tgt := 64) dX10_isTaken_57 rfl ?_
          exact hT h0 h hW hF
      · have hT := hT.2 c
        refine x_iconst (v := 0) dX10_isTaken_42 rfl ?_
        exact x_iret dX10_isTaken_43 rfl rfl ⟨_, _, rfl, hW, hF, hT⟩
    · have hT := hT.2 c
      refine x_iinc (lo' := [some (.ref w.1), some (.int (a1 + (-1))), none]) dX10_isTaken_32 rfl (show _ = (a1 + (-1)) from rfl) rfl ?_
      refine x_goto (tgt := 18) dX10_isTaken_35 rfl ?_
      exact hT h0 h hW hF
set_option maxHeartbeats 16000000 in
theorem vX10_isTaken_64 {l : Launch} {E : EN} {w : MO} {d : Nat} {s : MS} {Q : Option Value → MS → Prop} {a1 : Int32} {b0 : Int32} (hT : (inB a1 400 ∧ (inB a1 400 ∧ (inB a1 400 ∧ (inB a1 400 ∧ (EvM l E w d MX10_store [.ref w.1, .int (s.2.2.1 139 a1.toNatClampNeg), .int 0, .int b0] (sI (sI (sI (sI (sI (sI (sI (sI s 136 a1) 130 (s.2.2.1 142 a1.toNatClampNeg)) 108 (s.2.2.1 141 a1.toNatClampNeg)) 126 (s.2.2.1 138 a1.toNatClampNeg)) 121 ((s.1 121) + 1)) 123 0) 124 (-1)) 119 ((s.1 119) + 300)) (fun r s1 => r = none ∧ (((s1.1 119) ≤ 3000 → ((¬ (s1.1 123) = 0 → Q (some (.int 0)) s1) ∧ ((s1.1 123) = 0 → Q (some (.int 1)) s1))) ∧ (¬ (s1.1 119) ≤ 3000 → (inB a1 400 ∧ (EvM l E w d MX10_trouble [.ref w.1, .int 11, .int (s1.2.2.1 140 a1.toNatClampNeg)] s1 (fun r s2 => r = none ∧ ((¬ (s2.1 123) = 0 → Q (some (.int 0)) s2) ∧ ((s2.1 123) = 0 → Q (some (.int 1)) s2)))))))))))))) : ExM l E w (d + 1) MX10_isTaken 64 [some (.ref w.1), some (.int a1), none] [.int b0] s Q := by
  intro h0 h hW hF
  refine x_istore_n (lo' := [some (.ref w.1), some (.int a1), some (.int b0)]) dX10_isTaken_64 rfl (Nat.le_of_ble_eq_true rfl) rfl ?_
  refine x_aload_n dX10_isTaken_65 rfl rfl rfl ?_
  refine x_iload_n dX10_isTaken_66 rfl rfl ?_
  refine m_puti dX10_isTaken_67 f_TallySlateModel_534 (by decide) rfl rfl rfl rfl hW hF ?_
  intro h hW hF
  refine x_aload_n dX10_isTaken_70 rfl rfl rfl ?_
  refine x_aload_n dX10_isTaken_71 rfl rfl rfl ?_
  refine m_geta dX10_isTaken_72 f_TallySlateModel_246 (by decide) rfl hW ?_
  refine x_iload_n dX10_isTaken_75 rfl rfl ?_
  obtain ⟨hb, hT⟩ := hT
  refine m_iald (v := (s.2.2.1 142 a1.toNatClampNeg)) dX10_isTaken_76 rfl hb hW rfl ?_
  refine m_puti dX10_isTaken_77 f_TallySlateModel_531 (by decide) rfl rfl rfl rfl hW hF ?_
  intro h hW hF
  refine x_aload_n dX10_isTaken_80 rfl rfl rfl ?_
  refine x_aload_n dX10_isTaken_81 rfl rfl rfl ?_
  refine m_geta dX10_isTaken_82 f_TallySlateModel_243 (by decide) rfl hW ?_
  refine x_iload_n dX10_isTaken_85 rfl rfl ?_
  obtain ⟨hb, hT⟩ := hT
  refine m_iald (v := (s.2.2.1 141 a1.toNatClampNeg)) dX10_isTaken_86 rfl hb hW rfl ?_
  refine m_puti dX10_isTaken_87 f_TallySlateModel_461 (by decide) rfl rfl rfl rfl hW hF ?_
  intro h hW hF
  refine x_aload_n dX10_isTaken_90 rfl rfl rfl ?_
  refine x_aload_n dX10_isTaken_91 rfl rfl rfl ?_
  refine m_geta dX10_isTaken_92 f_TallySlateModel_234 (by decide) rfl hW ?_
  refine x_iload_n dX10_isTaken_95 rfl rfl ?_
  obtain ⟨hb, hT⟩ := hT
  refine m_iald (v := (s.2.2.1 138 a1.toNatClampNeg)) dX10_isTaken_96 rfl hb hW rfl ?_
  refine m_puti dX10_isTaken_97 f_TallySlateModel_540 (by decide) rfl rfl rfl rfl hW hF ?_
  intro h hW hF
  refine x_aload_n dX10_isTaken_100 rfl rfl rfl ?_
  refine x_dup dX10_isTaken_101 rfl ?_
  refine m_geti (v := (s.1 121)) dX10_isTaken_102 f_TallySlateModel_546 (by decide) rfl hW rfl ?_
  refine x_iconst (v := 1) dX10_isTaken_105 rfl ?_
  refine x_iadd dX10_isTaken_106 ?_
  refine m_puti dX10_isTaken_107 f_TallySlateModel_546 (by decide) rfl rfl rfl rfl hW hF ?_
  intro h hW hF
  refine x_aload_n dX10_isTaken_110 rfl rfl rfl ?_
  refine x_iconst (v := 0) dX10_isTaken_111 rfl ?_
  refine m_puti dX10_isTaken_112 f_TallySlateModel_498 (by decide) rfl rfl rfl rfl hW hF ?_
  intro h hW hF
  refine x_aload_n dX10_isTaken_115 rfl rfl rfl ?_
  refine x_iconst (v := (-1)) dX10_isTaken_116 rfl ?_
  refine m_puti dX10_isTaken_117 f_TallySlateModel_207 (by decide) rfl rfl rfl rfl hW hF ?_
  intro h hW hF
  refine x_aload_n dX10_isTaken_120 rfl rfl rfl ?_
  refine x_dup dX10_isTaken_121 rfl ?_
  refine m_geti (v := (s.1 119)) dX10_isTaken_122 f_TallySlateModel_513 (by decide) rfl hW rfl ?_
  refine x_sipush (v := 300) dX10_isTaken_125 rfl ?_
  refine x_iadd dX10_isTaken_128 ?_
  refine m_puti dX10_isTaken_129 f_TallySlateModel_513 (by decide) rfl rfl rfl rfl hW hF ?_
  intro h hW hF
  refine x_aload_n dX10_isTaken_132 rfl rfl rfl ?_
  refine x_aload_n dX10_isTaken_133 rfl rfl rfl ?_
  refine m_geta dX10_isTaken_134 f_TallySlateModel_237 (by decide) rfl hW ?_
  refine x_iload_n dX10_isTaken_137 rfl rfl ?_
  obtain ⟨hb, hT⟩ := hT
  refine m_iald (v := (s.2.2.1 139 a1.toNatClampNeg)) dX10_isTaken_138 rfl hb hW rfl ?_
  refine x_iconst (v := 0) dX10_isTaken_139 rfl ?_
  refine x_iload_n dX10_isTaken_140 rfl rfl ?_
  refine m_inv (vs := [.int (s.2.2.1 139 a1.toNatClampNeg), .int 0, .int b0]) dX10_isTaken_141 oX10_store q2899 q2897 qs145 rfl rfl (Nat.le_of_ble_eq_true rfl) rfl hW hF hT ?_
  rintro _ s1 ⟨rfl, hT⟩ h hW hF
  refine x_aload_n dX10_isTaken_144 rfl rfl rfl ?_
  refine m_geti (v := (s1.1 119)) dX10_isTaken_145 f_TallySlateModel_513 (by decide) rfl hW rfl ?_
  refine x_sipush (v := 3000) dX10_isTaken_148 rfl ?_
  refine x_icmp_le (tgt := 166) dX10_isTaken_151 rfl (fun c => ?_) (fun c => ?_)
  · have hT := hT.1 c
    refine x_aload_n dX10_isTaken_166 rfl rfl rfl ?_
    refine m_geti (v := (s1.1 123)) dX10_isTaken_167 f_TallySlateModel_498 (by decide) rfl hW rfl ?_
    refine x_if_ne (tgt := 177) dX10_isTaken_170 rfl (fun c => ?_) (fun c => ?_)
    · have hT := hT.1 c
      refine x_iconst (v := 0) dX10_isTaken_177 rfl ?_
      exact x_iret dX10_isTaken_178 rfl rfl ⟨_, _, rfl, hW, hF, hT⟩
    · have hT := hT.2 c
      refine x_iconst (v := 1) dX10_isTaken_173 rfl ?_
      refine x_goto (tgt := 178) dX10_isTaken_174 rfl ?_
      exact x_iret dX10_isTaken_178 rfl rfl ⟨_, _, rfl, hW, hF, hT⟩
  · have hT := hT.2 c
    refine x_aload_n dX10_isTaken_154 rfl rfl rfl ?_
    refine x_bipush (v := 11) dX10_isTaken_155 rfl ?_
    refine x_aload_n dX10_isTaken_157 rfl rfl rfl ?_
    refine m_geta dX10_isTaken_158 f_TallySlateModel_240 (by decide) rfl hW ?_
    refine x_iload_n dX10_isTaken_161 rfl rfl ?_
    obtain ⟨hb, hT⟩ := hT
    refine m_iald (v := (s1.2.2.1 140 a1.toNatClampNeg)) dX10_isTaken_162 rfl hb hW rfl ?_
    refine m_inv (vs := [.int 11, .int (s1.2.2.1 140 a1.toNatClampNeg)]) dX10_isTaken_163 oX10_trouble q2696 q2694 qs98 rfl rfl (Nat.le_of_ble_eq_true rfl) rfl hW hF hT ?_
    rintro _ s2 ⟨rfl, hT⟩ h hW hF
    refine x_aload_n dX10_isTaken_166 rfl rfl rfl ?_
    refine m_geti (v := (s2.1 123)) dX10_isTaken_167 f_TallySlateModel_498 (by decide) rfl hW rfl ?_
    refine x_if_ne (tgt := 177) dX10_isTaken_170 rfl (fun c => ?_) (fun c => ?_)
    · have hT := hT.1 c
      refine x_iconst (v := 0) dX10_isTaken_177 rfl ?_
      exact x_iret dX10_isTaken_178 rfl rfl ⟨_, _, rfl, hW, hF, hT⟩
    · have hT := hT.2 c
      refine x_iconst (v := 1) dX10_isTaken_173 rfl ?_
      refine x_goto (tgt := 178) dX10_isTaken_174 rfl ?_
      exact x_iret dX10_isTaken_178 rfl rfl ⟨_, _, rfl, hW, hF, hT⟩
set_option maxHeartbeats 16000000 in
theorem vX10_lay_0 {l : Launch} {E : EN} {w : MO} {d : Nat} {s : MS} {Q : Option Value → MS → Prop} {x1 : Int32} {x2 : Int32} {x3 : Int32} (hT : ((¬ x1 = 2 → ((¬ x1 = 0 → (EvM l E w d MX10_numbersOf [.ref w.1, .int x2] s (fun r s1 => ∃ v2 : Int32, r = some (.int v2) ∧ (∀ y3 : Int32, y3 = (x3 + v2) → (inB 0 700 ∧ (inB 0 700 ∧ ExM l E w (d + 1) MX10_lay 63 [some (.ref w.1), none, none, none, some (.int 1), some (.int y3), some (.int 0), none, none, none, none, none] [] (sA (sA s1 115 (0 : Int32).toNatClampNeg x2) 116 (0 : Int32).toNatClampNeg x3) Q)))))) ∧ (x1 = 0 → (inB x3 166300 ∧ (inB (x3 + 1) 166300 ∧ Q none (sA (sA s 104 x3.toNatClampNeg 0) 104 (x3 + 1).toNatClampNeg x2)))))) ∧ (x1 = 2 → (inB x3 166300 ∧ Q none (sA s 104 x3.toNatClampNeg (-1)))))) : ExM l E w (d + 1) MX10_lay 0 [some (.ref w.1), some (.int x1), some (.int x2), some (.int x3), none, none, none, none, none, none, none, none] [] s Q := by
  intro h0 h hW hF
  refine x_iload_n dX10_lay_0 rfl rfl ?_
  refine x_iconst (v := 2) dX10_lay_1 rfl ?_
  refine x_icmp_ne (tgt := 13) dX10_lay_2 rfl (fun c => ?_) (fun c => ?_)
  · have hT := hT.1 c
    refine x_iload_n dX10_lay_13 rfl rfl ?_
    refine x_if_ne (tgt := 34) dX10_lay_14 rfl (fun c => ?_) (fun c => ?_)
    · have hT := hT.1 c
      refine x_iconst (v := 1) dX10_lay_34 rfl ?_
      refine x_istore (lo' := [some (.ref w.1), some (.int x1), some (.int x2), some (.int x3), some (.int 1), none, none, none, none, none, none, none]) dX10_lay_35 (Nat.le_of_ble_eq_true rfl) rfl ?_
      refine x_iload_n dX10_lay_37 rfl rfl ?_
      refine x_aload_n dX10_lay_38 rfl rfl rfl ?_
      refine x_iload_n dX10_lay_39 rfl rfl ?_
      refine m_inv (vs := [.int x2]) dX10_lay_40 oX10_numbersOf q2944 q2942 qs156 rfl rfl (Nat.le_of_ble_eq_true rfl) rfl hW hF hT ?_
      rintro _ s1 ⟨v2, rfl, hT⟩ h hW hF
      refine x_iadd dX10_lay_43 ?_
      obtain ⟨y3, ey3⟩ : ∃ z : Int32, z = (x3 + v2) := ⟨_, rfl⟩
      have hT := hT y3 ey3
      refine x_istore (lo' := [some (.ref w.1), some (.int x1), some (.int x2), some (.int x3), some (.int 1), some (.int y3), none, none, none, none, none, none]) dX10_lay_44 (Nat.le_of_ble_eq_true rfl) (by rw [ey3]; rfl) ?_
      refine x_aload_n dX10_lay_46 rfl rfl rfl ?_
      refine m_geta dX10_lay_47 f_TallySlateModel_201 (by decide) rfl hW ?_
      refine x_iconst (v := 0) dX10_lay_50 rfl ?_
      refine x_iload_n dX10_lay_51 rfl rfl ?_
      obtain ⟨hb, hT⟩ := hT
      refine m_iast dX10_lay_52 rfl hb hW hF ?_
      intro h hW hF
      refine x_aload_n dX10_lay_53 rfl rfl rfl ?_
      refine m_geta dX10_lay_54 f_TallySlateModel_204 (by decide) rfl hW ?_
      refine x_iconst (v := 0) dX10_lay_57 rfl ?_
      refine x_iload_n dX10_lay_58 rfl rfl ?_
      obtain ⟨hb, hT⟩ := hT
      refine m_iast dX10_lay_59 rfl hb hW hF ?_
      intro h hW hF
      refine x_iconst (v := 0) dX10_lay_60 rfl ?_
      refine x_istore (lo' := [some (.ref w.1), some (.int x1), some (.int x2), some (.int x3), some (.int 1), some (.int y3), some (.int 0), none, none, none, none, none]) dX10_lay_61 (Nat.le_of_ble_eq_true rfl) rfl ?_
      refine Ex.wkl (lo' := [some (.ref w.1), none, none, none, some (.int 1), some (.int y3), some (.int 0), none, none, none, none, none]) ⟨rfl, rfl, rfl, rfl, trivial⟩ ?_
      exact hT h0 h hW hF
    · have hT := hT.2 c
      refine x_aload_n dX10_lay_17 rfl rfl rfl ?_
      refine m_geta dX10_lay_18 f_TallySlateModel_183 (by decide) rfl hW ?_
      refine x_iload_n dX10_lay_21 rfl rfl ?_
      refine x_iconst (v := 0) dX10_lay_22 rfl ?_
      obtain ⟨hb, hT⟩ := hT
      refine m_iast dX10_lay_23 rfl hb hW hF ?_
      intro h hW hF
      refine x_aload_n dX10_lay_24 rfl rfl rfl ?_
      refine m_geta dX10_lay_25 f_TallySlateModel_183 (by decide) rfl hW ?_
      refine x_iload_n dX10_lay_28 rfl rfl ?_
      refine x_iconst (v := 1) dX10_lay_29 rfl ?_
      refine x_iadd dX10_lay_30 ?_
      refine x_iload_n dX10_lay_31 rfl rfl ?_
      obtain ⟨hb, hT⟩ := hT
      refine m_iast dX10_lay_32 rfl hb hW hF ?_
      intro h hW hF
      exact x_vret dX10_lay_33 rfl ⟨_, _, rfl, hW, hF, hT⟩
  · have hT := hT.2 c
    refine x_aload_n dX10_lay_5 rfl rfl rfl ?_
    refine m_geta dX10_lay_6 f_TallySlateModel_183 (by decide) rfl hW ?_
    refine x_iload_n dX10_lay_9 rfl rfl ?_
    refine x_iconst (v := (-1)) dX10_lay_10 rfl ?_
    obtain ⟨hb, hT⟩ := hT
    refine m_iast dX10_lay_11 rfl hb hW hF ?_
    intro h hW hF
    exact x_vret dX10_lay_12 rfl ⟨_, _, rfl, hW, hF, hT⟩
theorem eX10_lay {l : Launch} {E : EN} {w : MO} {d : Nat} {s : MS} {Q : Option Value → MS → Prop} {x1 : Int32} {x2 : Int32} {x3 : Int32} (hst : l.stackTraces = false) (hT : ((¬ x1 = 2 → ((¬ x1 = 0 → (EvM l E w d MX10_numbersOf [.ref w.1, .int x2] s (fun r s1 => ∃ v2 : Int32, r = some (.int v2) ∧ (∀ y3 : Int32, y3 = (x3 + v2) → (inB 0 700 ∧ (inB 0 700 ∧ ExM l E w (d + 1) MX10_lay 63 [some (.ref w.1), none, none, none, some (.int 1), some (.int y3), some (.int 0), none, none, none, none, none] [] (sA (sA s1 115 (0 : Int32).toNatClampNeg x2) 116 (0 : Int32).toNatClampNeg x3) Q)))))) ∧ (x1 = 0 → (inB x3 166300 ∧ (inB (x3 + 1) 166300 ∧ Q none (sA (sA s 104 x3.toNatClampNeg 0) 104 (x3 + 1).toNatClampNeg x2)))))) ∧ (x1 = 2 → (inB x3 166300 ∧ Q none (sA s 104 x3.toNatClampNeg (-1)))))) : EvM l E w (d + 1) MX10_lay [.ref w.1, .int x1, .int x2, .int x3] s Q :=
  EvM.of hst (by decide) (Nat.le_of_ble_eq_true rfl) (vX10_lay_0 hT)
theorem vX10_lay_63 {l : Launch} {E : EN} {w : MO} {d : Nat} {s : MS} {Q : Option Value → MS → Prop} {a4 : Int32} {a5 : Int32} {a6 : Int32} (hT : ((a4 ≤ a6 → Q none s) ∧ (¬ a4 ≤ a6 → (inB a6 700 ∧ (∀ y1 : Int32, y1 = (s.2.2.1 115 a6.toNatClampNeg) → (inB a6 700 ∧ (∀ y2 : Int32, y2 = (s.2.2.1 116 a6.toNatClampNeg) → (EvM l E w d MX10_numbersOf [.ref w.1, .int y1] s (fun r s3 => ∃ v4 : Int32, r = some (.int v4) ∧ ExM l E w (d + 1) MX10_lay 99 [some (.ref w.1), none, none, none, some (.int a4), some (.int a5), some (.int a6), some (.int y1), some (.int y2), some (.int v4), some (.int 0), none] [] s3 Q))))))))) : ExM l E w (d + 1) MX10_lay 63 [some (.ref w.1), none, none, none, some (.int a4), some (.int a5), some (.int a6), none, none, none, none, none] [] s Q := by
  intro h0 h hW hF
  refine x_iload dX10_lay_63 rfl ?_
  refine x_iload dX10_lay_65 rfl ?_
  refine x_icmp_ge (tgt := 273) dX10_lay_67 rfl (fun c => ?_) (fun c => ?_)
  · have hT := hT.1 c
    exact x_vret dX10_lay_273 rfl ⟨_, _, rfl, hW, hF, hT⟩
  · have hT := hT.2 c
    refine x_aload_n dX10_lay_70 rfl rfl rfl ?_
    refine m_geta dX10_lay_71 f_TallySlateModel_201 (by decide) rfl hW ?_
    refine x_iload dX10_lay_74 rfl ?_
    obtain ⟨hb, hT⟩ := hT
    refine m_iald (v := (s.2.2.1 115 a6.toNatClampNeg)) dX10_lay_76 rfl hb hW rfl ?_
    obtain ⟨y1, ey1⟩ : ∃ z : Int32, z = (s.2.2.1 115 a6.toNatClampNeg) := ⟨_, rfl⟩
    have hT := hT y1 ey1
    refine x_istore (lo' := [some (.ref w.1), none, none, none, some (.int a4), some (.int a5), some (.int a6), some (.int y1), none, none, none, none]) dX10_lay_77 (Nat.le_of_ble_eq_true rfl) (by rw [ey1]; rfl) ?_
    refine x_aload_n dX10_lay_79 rfl rfl rfl ?_
    refine m_geta dX10_lay_80 f_TallySlateModel_204 (by decide) rfl hW ?_
    refine x_iload dX10_lay_83 rfl ?_
    obtain ⟨hb, hT⟩ := hT
    refine m_iald (v := (s.2.2.1 116 a6.toNatClampNeg)) dX10_lay_85 rfl hb hW rfl ?_
    obtain ⟨y2, ey2⟩ : ∃ z : Int32, z = (s.2.2.1 116 a6.toNatClampNeg) := ⟨_, rfl⟩
    have hT := hT y2 ey2
    refine x_istore (lo' := [some (.ref w.1), none, none, none, some (.int a4), some (.int a5), some (.int a6), some (.int y1), some (.int y2), none, none, none]) dX10_lay_86 (Nat.le_of_ble_eq_true rfl) (by rw [ey2]; rfl) ?_
    refine x_aload_n dX10_lay_88 rfl rfl rfl ?_
    refine x_iload dX10_lay_89 rfl ?_
    refine m_inv (vs := [.int y1]) dX10_lay_91 oX10_numbersOf q2944 q2942 qs156 rfl rfl (Nat.le_of_ble_eq_true rfl) rfl hW hF hT ?_
    rintro _ s3 ⟨v4, rfl, hT⟩ h hW hF
    refine x_istore (lo' := [some (.ref w.1), none, none, none, some (.int a4), some (.int a5), some (.int a6), some (.int y1), some (.int y2), some (.int v4), none, none]) dX10_lay_94 (Nat.le_of_ble_eq_true rfl) rfl ?_
    refine x_iconst (v := 0) dX10_lay_96 rfl ?_
    refine x_istore (lo' := [some (.ref w.1), none, none, none, some (.int a4), some (.int a5), some (.int a6), some (.int y1), some (.int y2), some (.int v4), some (.int 0), none]) dX10_lay_97 (Nat.le_of_ble_eq_true rfl) rfl ?_
    exact hT h0 h hW hF
theorem vX10_lay_99 {l : Launch} {E : EN} {w : MO} {d : Nat} {s : MS} {Q : Option Value → MS → Prop} {a4 : Int32} {a5 : Int32} {a6 : Int32} {a7 : Int32} {a8 : Int32} {a9 : Int32} {a10 : Int32} (hT : ((a9 ≤ a10 → ExM l E w (d + 1) MX10_lay 135 [some (.ref w.1), none, none, none, some (.int a4), some (.int a5), some (.int a6), some (.int a7), some (.int a8), none, some (.int 0), none] [] s Q) ∧ (¬ a9 ≤ a10 → (inB (a7 + a10) 166300 ∧ (inB (a8 + a10) 166300 ∧ ExM l E w (d + 1) MX10_lay 99 [some (.ref w.1), none, none, none, some (.int a4), some (.int a5), some (.int a6), some (.int a7), some (.int a8), some (.int a9), some (.int (a10 + 1)), none] [] (sA s 104 (a8 + a10).toNatClampNeg (s.2.2.1 104 (a7 + a10).toNatClampNeg)) Q))))) : ExM l E w (d + 1) MX10_lay 99 [some (.ref w.1), none, none, none, some (.int a4), some (.int a5), some (.int a6), some (.int a7), some (.int a8), some (.int a9), some (.int a10), none] [] s Q := by
  intro h0 h hW hF
  refine x_iload dX10_lay_99 rfl ?_
  refine x_iload dX10_lay_101 rfl ?_
  refine x_icmp_ge (tgt := 132) dX10_lay_103 rfl (fun c => ?_) (fun c => ?_)
  · have hT := hT.1 c
    refine x_iconst (v := 0) dX10_lay_132 rfl ?_
    refine x_istore (lo' := [some (.ref w.1), none, none, none, some (.int a4), some (.int a5), some (.int a6), some (.int a7), some (.int a8), some (.int a9), some (.int 0), none]) dX10_lay_133 (Nat.le_of_ble_eq_true rfl) rfl ?_
    refine Ex.wkl (lo' := [some (.ref w.1), none, none, none, some (.int a4), some (.int a5), some (.int a6), some (.int a7), some (.int a8), none, some (.int 0), none]) ⟨rfl, rfl, rfl, rfl, rfl, rfl, rfl, trivial⟩ ?_
    exact hT h0 h hW hF
  · have hT := hT.2 c
    refine x_aload_n dX10_lay_106 rfl rfl rfl ?_
    refine m_geta dX10_lay_107 f_TallySlateModel_183 (by decide) rfl hW ?_
    refine x_iload dX10_lay_110 rfl ?_
    refine x_iload dX10_lay_112 rfl ?_
    refine x_iadd dX10_lay_114 ?_
    refine x_aload_n dX10_lay_115 rfl rfl rfl ?_
    refine m_geta dX10_lay_116 f_TallySlateModel_183 (by decide) rfl hW ?_
    refine x_iload dX10_lay_119 rfl ?_
    refine x_iload dX10_lay_121 rfl ?_
    refine x_iadd dX10_lay_123 ?_
    obtain ⟨hb, hT⟩ := hT
    refine m_iald (v := (s.2.2.1 104 (a7 + a10).toNatClampNeg)) dX10_lay_124 rfl hb hW rfl ?_
    obtain ⟨hb, hT⟩ := hT
    refine m_iast dX10_lay_125 rfl hb hW hF ?_
    intro h hW hF
    refine x_iinc (lo' := [some (.ref w.1), none, none, none, some (.int a4), some (.int a5), some (.int a6), some (.int a7), some (.int a8), some (.int a9), some (.int (a10 + 1)), none]) dX10_lay_126 rfl (show _ = (a10 + 1) from rfl) rfl ?_
    refine x_goto (tgt := 99) dX10_lay_129 rfl ?_
    exact hT h0 h hW hF
set_option maxHeartbeats 16000000 in
theorem vX10_lay_135 {l : Launch} {E : EN} {w : MO} {d : Nat} {s : MS} {Q : Option Value → MS → Prop} {a4 : Int32} {a5 : Int32} {a6 : Int32} {a7 : Int32} {a8 : Int32} {a10 : Int32} (hT : (EvM l E w d MX10_sizeAt [.ref w.1, .int a7] s (fun r s1 => ∃ v2 : Int32, r = some (.int v2) ∧ ((v2 ≤ a10 → ExM l E w (d + 1) MX10_lay 63 [some (.ref w.1), none, none, none, some (.int a4), some (.int a5), some (.int (a6 + 1)), none, none, none, none, none] [] s1 Q) ∧ (¬ v2 ≤ a10 → (inB a7 166300 ∧ (((s1.2.2.1 104 a7.toNatClampNeg) = 1 → ExM l E w (d + 1) MX10_lay 63 [some (.ref w.1), none, none, none, some (.int a4), some (.int a5), some (.int (a6 + 1)), none, none, none, none, none] [] s1 Q) ∧ (¬ (s1.2.2.1 104 a7.toNatClampNeg) = 1 → (inB a7 166300 ∧ ((¬ (s1.2.2.1 104 a7.toNatClampNeg) = 3 → (EvM l E w d MX10_partAt [.ref w.1, .int a7, .int a10] s1 (fun r s3 => ∃ v4 : Int32, r = some (.int v4) ∧ (inB a4 700 ∧ (inB a4 700 ∧ (inB a7 166300 ∧ ((¬ (s3.2.2.1 104 a7.toNatClampNeg) = 2 → (inB (a8 + (3 + (2 * a10))) 166300 ∧ (EvM l E w d MX10_numbersOf [.ref w.1, .int v4] (sA (sA (sA s3 115 a4.toNatClampNeg v4) 116 a4.toNatClampNeg a5) 104 (a8 + (3 + (2 * a10))).toNatClampNeg (a5 - a8)) (fun r s5 => ∃ v6 : Int32, r = some (.int v6) ∧ (∀ y7 : Int32, y7 = (a5 + v6) → ExM l E w (d + 1) MX10_lay 135 [some (.ref w.1), none, none, none, some (.int (a4 + 1)), some (.int y7), some (.int a6), some (.int a7), some (.int a8), none, some (.int (a10 + 1)), none] [] s5 Q))))) ∧ ((s3.2.2.1 104 a7.toNatClampNeg) = 2 → (inB (a8 + (2 + a10)) 166300 ∧ (EvM l E w d MX10_numbersOf [.ref w.1, .int v4] (sA (sA (sA s3 115 a4.toNatClampNeg v4) 116 a4.toNatClampNeg a5) 104 (a8 + (2 + a10)).toNatClampNeg (a5 - a8)) (fun r s8 => ∃ v9 : Int32, r = some (.int v9) ∧ (∀ y10 : Int32, y10 = (a5 + v9) → ExM l E w (d + 1) MX10_lay 135 [some (.ref w.1), none, none, none, some (.int (a4 + 1)), some (.int y10), some (.int a6), some (.int a7), some (.int a8), none, some (.int (a10 + 1)), none] [] s8 Q)))))))))))) ∧ ((s1.2.2.1 104 a7.toNatClampNeg) = 3 → (EvM l E w d MX10_isInt [.ref w.1, .int a7, .int a10] s1 (fun r s11 => ∃ v12 : Int32, r = some (.int v12) ∧ ((v12 = 0 → (EvM l E w d MX10_partAt [.ref w.1, .int a7, .int a10] s11 (fun r s13 => ∃ v14 : Int32, r = some (.int v14) ∧ (inB a4 700 ∧ (inB a4 700 ∧ (inB a7 166300 ∧ ((¬ (s13.2.2.1 104 a7.toNatClampNeg) = 2 → (inB (a8 + (3 + (2 * a10))) 166300 ∧ (EvM l E w d MX10_numbersOf [.ref w.1, .int v14] (sA (sA (sA s13 115 a4.toNatClampNeg v14) 116 a4.toNatClampNeg a5) 104 (a8 + (3 + (2 * a10))).toNatClampNeg (a5 - a8)) (fun r s15 => ∃ v16 : Int32, r = some (.int v16) ∧ (∀ y17 : Int32, y17 = (a5 + v16) → ExM l E w (d + 1) MX10_lay 135 [some (.ref w.1), none, none, none, some (.int (a4 + 1)), some (.int y17), some (.int a6), some (.int a7), some (.int a8), none, some (.int (a10 + 1)), none] [] s15 Q))))) ∧ ((s13.2.2.1 104 a7.toNatClampNeg) = 2 → (inB (a8 + (2 + a10)) 166300 ∧ (EvM l E w d MX10_numbersOf [.ref w.1, .int v14] (sA (sA (sA s13 115 a4.toNatClampNeg v14) 116 a4.toNatClampNeg a5) 104 (a8 + (2 + a10)).toNatClampNeg (a5 - a8)) (fun r s18 => ∃ v19 : Int32, r = some (.int v19) ∧ (∀ y20 : Int32, y20 = (a5 + v19) → ExM l E w (d + 1) MX10_lay 135 [some (.ref w.1), none, none, none, some (.int (a4 + 1)), some (.int y20), some (.int a6), some (.int a7), some (.int a8), none, some (.int (a10 + 1)), none] [] s18 Q)))))))))))) ∧ (¬ v12 = 0 → ExM l E w (d + 1) MX10_lay 135 [some (.ref w.1), none, none, none, some (.int a4), some (.int a5), some (.int a6), some (.int a7), some (.int a8), none, some (.int (a10 + 1)), none] [] s11 Q))))))))))))))) : ExM l E w (d + 1) MX10_lay 135 [some (.ref w.1), none, none, none, some (.int a4), some (.int a5), some (.int a6), some (.int a7), some (.int a8), none, some (.int a10), none] [] s Q := by
  intro h0 h hW hF
  refine x_iload dX10_lay_135 rfl ?_
  refine x_aload_n dX10_lay_137 rfl rfl rfl ?_
  refine x_iload dX10_lay_138 rfl ?_
  refine m_inv (vs := [.int a7]) dX10_lay_140 oX10_sizeAt q2735 q2733 qs107 rfl rfl (Nat.le_of_ble_eq_true rfl) rfl hW hF hT ?_
  rintro _ s1 ⟨v2, rfl, hT⟩ h hW hF
  refine x_icmp_ge (tgt := 267) dX10_lay_143 rfl (fun c => ?_) (fun c => ?_)
  · have hT := hT.1 c
    refine x_iinc (lo' := [some (.ref w.1), none, none, none, some (.int a4), some (.int a5), some (.int (a6 + 1)), some (.int a7), some (.int a8), none, some (.int a10), none]) dX10_lay_267 rfl (show _ = (a6 + 1) from rfl) rfl ?_
    refine x_goto (tgt := 63) dX10_lay_270 rfl ?_
    refine Ex.wkl (lo' := [some (.ref w.1), none, none, none, some (.int a4), some (.int a5), some (.int (a6 + 1)), none, none, none, none, none]) ⟨rfl, rfl, rfl, rfl, trivial⟩ ?_
    exact hT h0 h hW hF
  · have hT := hT.2 c
    refine x_aload_n dX10_lay_146 rfl rfl rfl ?_
    refine m_geta dX10_lay_147 f_TallySlateModel_183 (by decide) rfl hW ?_
    refine x_iload dX10_lay_150 rfl ?_
    obtain ⟨hb, hT⟩ := hT
    refine m_iald (v := (s1.2.2.1 104 a7.toNatClampNeg)) dX10_lay_152 rfl hb hW rfl ?_
    refine x_iconst (v := 1) dX10_lay_153 rfl ?_
    refine x_icmp_eq (tgt := 267) dX10_lay_154 rfl (fun c => ?_) (fun c => ?_)
    · have hT := hT.1 c
      refine x_iinc (lo' := [some (.ref w.1), none, none, none, some (.int a4), some (.int a5), some (.int (a6 + 1)), some (.int a7), some (.int a8), none, some (.int a10), none]) dX10_lay_267 rfl (show _ = (a6 + 1) from rfl) rfl ?_
      refine x_goto (tgt := 63) dX10_lay_270 rfl ?_
      refine Ex.wkl (lo' := [some (.ref w.1), none, none, none, some (.int a4), some (.int a5), some (.int (a6 + 1)), none, none, none, none, none]) ⟨rfl, rfl, rfl, rfl, trivial⟩ ?_
      exact hT h0 h hW hF
    · have hT := hT.2 c
      refine x_aload_n dX10_lay_157 rfl rfl rfl ?_
      refine m_geta dX10_lay_158 f_TallySlateModel_183 (by decide) rfl hW ?_
      refine x_iload dX10_lay_161 rfl ?_
      obtain ⟨hb, hT⟩ := hT
      refine m_iald (v := (s1.2.2.1 104 a7.toNatClampNeg)) dX10_lay_163 rfl hb hW rfl ?_
      refine x_iconst (v := 3) dX10_lay_164 rfl ?_
      refine x_icmp_ne (tgt := 182) dX10_lay_165 rfl (fun c => ?_) (fun c => ?_)
      · have hT := hT.1 c
        refine x_aload_n dX10_lay_182 rfl rfl rfl ?_
        refine x_iload dX10_lay_183 rfl ?_
        refine x_iload dX10_lay_185 rfl ?_
        refine m_inv (vs := [.int a7, .int a10]) dX10_lay_187 oX10_partAt q2751 q2749 qs111 rfl rfl (Nat.le_of_ble_eq_true rfl) rfl hW hF hT ?_
        rintro _ s3 ⟨v4, rfl, hT⟩ h hW hF
        refine x_istore (lo' := [some (.ref w.1), none, none, none, some (.int a4), some (.int a5), some (.int a6), some (.int a7), some (.int a8), none, some (.int a10), some (.int v4)]) dX10_lay_190 (Nat.le_of_ble_eq_true rfl) rfl ?_
        refine x_aload_n dX10_lay_192 rfl rfl rfl ?_
        refine m_geta dX10_lay_193 f_TallySlateModel_201 (by decide) rfl hW ?_
        refine x_iload dX10_lay_196 rfl ?_
        refine x_iload dX10_lay_198 rfl ?_
        obtain ⟨hb, hT⟩ := hT
        refine m_iast dX10_lay_200 rfl hb hW hF ?_
        intro h hW hF
        refine x_aload_n dX10_lay_201 rfl rfl rfl ?_
        refine m_geta dX10_lay_202 f_TallySlateModel_204 (by decide) rfl hW ?_
        refine x_iload dX10_lay_205 rfl ?_
        refine x_iload dX10_lay_207 rfl ?_
        obtain ⟨hb, hT⟩ := hT
        refine m_iast dX10_lay_209 rfl hb hW hF ?_
        intro h hW hF
        refine x_iinc (lo' := [some (.ref w.1), none, none, none, some (.int (a4 + 1)), some (.int a5), some (.int a6), some (.int a7), some (.int a8), none, some (.int a10), some (.int v4)]) dX10_lay_210 rfl (show _ = (a4 + 1) from rfl) rfl ?_
        refine x_aload_n dX10_lay_213 rfl rfl rfl ?_
        refine m_geta dX10_lay_214 f_TallySlateModel_183 (by decide) rfl hW ?_
        refine x_iload dX10_lay_217 rfl ?_
        refine x_aload_n dX10_lay_219 rfl rfl rfl ?_
        refine m_geta dX10_lay_220 f_TallySlateModel_183 (by decide) rfl hW ?_
        refine x_iload dX10_lay_223 rfl ?_
        obtain ⟨hb, hT⟩ := hT
        refine m_iald (v := (s3.2.2.1 104 a7.toNatClampNeg)) dX10_lay_225 rfl hb hW rfl ?_
        refine x_iconst (v := 2) dX10_lay_226 rfl ?_
        refine x_icmp_ne (tgt := 237) dX10_lay_227 rfl (fun c => ?_) (fun c => ?_)
        · have hT := hT.1 c
          refine x_iconst (v := 3) dX10_lay_237 rfl ?_
          refine x_iconst (v := 2) dX10_lay_238 rfl ?_
          refine x_iload dX10_lay_239 rfl ?_
          refine x_imul dX10_lay_241 ?_
          refine x_iadd dX10_lay_242 ?_
          refine x_iadd dX10_lay_243 ?_
          refine x_iload dX10_lay_244 rfl ?_
          refine x_iload dX10_lay_246 rfl ?_
          refine x_isub dX10_lay_248 ?_
          obtain ⟨hb, hT⟩ := hT
          refine m_iast dX10_lay_249 rfl hb hW hF ?_
          intro h hW hF
          refine x_iload dX10_lay_250 rfl ?_
          refine x_aload_n dX10_lay_252 rfl rfl rfl ?_
          refine x_iload dX10_lay_253 rfl ?_
          refine m_inv (vs := [.int v4]) dX10_lay_255 oX10_numbersOf q2944 q2942 qs156 rfl rfl (Nat.le_of_ble_eq_true rfl) rfl hW hF hT ?_
          rintro _ s5 ⟨v6, rfl, hT⟩ h hW hF
          refine x_iadd dX10_lay_258 ?_
          obtain ⟨y7, ey7⟩ : ∃ z : Int32, z = (a5 + v6) := ⟨_, rfl⟩
          have hT := hT y7 ey7
          refine x_istore (lo' := [some (.ref w.1), none, none, none, some (.int (a4 + 1)), some (.int y7), some (.int a6), some (.int a7), some (.int a8), none, some (.int a10), some (.int v4)]) dX10_lay_259 (Nat.le_of_ble_eq_true rfl) (by rw [ey7]; rfl) ?_
          refine x_iinc (lo' := [some (.ref w.1), none, none, none, some (.int (a4 + 1)), some (.int y7), some (.int a6), some (.int a7), some (.int a8), none, some (.int (a10 + 1)), some (.int v4)]) dX10_lay_261 rfl (show _ = (a10 + 1) from rfl) rfl ?_
          refine x_goto (tgt := 135) dX10_lay_264 rfl ?_
          refine Ex.wkl (lo' := [some (.ref w.1), none, none, none, some (.int (a4 + 1)), some (.int y7), some (.int a6), some (.int a7), some (.int a8), none, some (.int (a10 + 1)), none]) ⟨rfl, rfl, rfl, rfl, rfl, rfl, rfl, trivial⟩ ?_
          exact hT h0 h hW hF
        · have hT := hT.2 c
          refine x_iconst (v := 2) dX10_lay_230 rfl ?_
          refine x_iload dX10_lay_231 rfl ?_
          refine x_iadd dX10_lay_233 ?_
          refine x_goto (tgt := 243) dX10_lay_234 rfl ?_
          refine x_iadd dX10_lay_243 ?_
          refine x_iload dX10_lay_244 rfl ?_
          refine x_iload dX10_lay_246 rfl ?_
          refine x_isub dX10_lay_248 ?_
          obtain ⟨hb, hT⟩ := hT
          refine m_iast dX10_lay_249 rfl hb hW hF ?_
          intro h hW hF
          refine x_iload dX10_lay_250 rfl ?_
          refine x_aload_n dX10_lay_252 rfl rfl rfl ?_
          refine x_iload dX10_lay_253 rfl ?_
          refine m_inv (vs := [.int v4]) dX10_lay_255 oX10_numbersOf q2944 q2942 qs156 rfl rfl (Nat.le_of_ble_eq_true rfl) rfl hW hF hT ?_
          rintro _ s8 ⟨v9, rfl, hT⟩ h hW hF
          refine x_iadd dX10_lay_258 ?_
          obtain ⟨y10, ey10⟩ : ∃ z : Int32, z = (a5 + v9) := ⟨_, rfl⟩
          have hT := hT y10 ey10
          refine x_istore (lo' := [some (.ref w.1), none, none, none, some (.int (a4 + 1)), some (.int y10), some (.int a6), some (.int a7), some (.int a8), none, some (.int a10), some (.int v4)]) dX10_lay_259 (Nat.le_of_ble_eq_true rfl) (by rw [ey10]; rfl) ?_
          refine x_iinc (lo' := [some (.ref w.1), none, none, none, some (.int (a4 + 1)), some (.int y10), some (.int a6), some (.int a7), some (.int a8), none, some (.int (a10 + 1)), some (.int v4)]) dX10_lay_261 rfl (show _ = (a10 + 1) from rfl) rfl ?_
          refine x_goto (tgt := 135) dX10_lay_264 rfl ?_
          refine Ex.wkl (lo' := [some (.ref w.1), none, none, none, some (.int (a4 + 1)), some (.int y10), some (.int a6), some (.int a7), some (.int a8), none, some (.int (a10 + 1)), none]) ⟨rfl, rfl, rfl, rfl, rfl, rfl, rfl, trivial⟩ ?_
          exact hT h0 h hW hF
      · have hT := hT.2 c
        refine x_aload_n dX10_lay_168 rfl rfl rfl ?_
        refine x_iload dX10_lay_169 rfl ?_
        refine x_iload dX10_lay_171 rfl ?_
        refine m_inv (vs := [.int a7, .int a10]) dX10_lay_173 oX10_isInt q2759 q2757 qs113 rfl rfl (Nat.le_of_ble_eq_true rfl) rfl hW hF hT ?_
        rintro _ s11 ⟨v12, rfl, hT⟩ h hW hF
        refine x_if_eq (tgt := 182) dX10_lay_176 rfl (fun c => ?_) (fun c => ?_)
        · have hT := hT.1 c
          refine x_aload_n dX10_lay_182 rfl rfl rfl ?_
          refine x_iload dX10_lay_183 rfl ?_
          refine x_iload dX10_lay_185 rfl ?_
          refine m_inv (vs := [.int a7, .int a10]) dX10_lay_187 oX10_partAt q2751 q2749 qs111 rfl rfl (Nat.le_of_ble_eq_true rfl) rfl hW hF hT ?_
          rintro _ s13 ⟨v14, rfl, hT⟩ h hW hF
          refine x_istore (lo' := [some (.ref w.1), none, none, none, some (.int a4), some (.int a5), some (.int a6), some (.int a7), some (.int a8), none, some (.int a10), some (.int v14)]) dX10_lay_190 (Nat.le_of_ble_eq_true rfl) rfl ?_
          refine x_aload_n dX10_lay_192 rfl rfl rfl ?_
          refine m_geta dX10_lay_193 f_TallySlateModel_201 (by decide) rfl hW ?_
          refine x_iload dX10_lay_196 rfl ?_
          refine x_iload dX10_lay_198 rfl ?_
          obtain ⟨hb, hT⟩ := hT
          refine m_iast dX10_lay_200 rfl hb hW hF ?_
          intro h hW hF
          refine x_aload_n dX10_lay_201 rfl rfl rfl ?_
          refine m_geta dX10_lay_202 f_TallySlateModel_204 (by decide) rfl hW ?_
          refine x_iload dX10_lay_205 rfl ?_
          refine x_iload dX10_lay_207 rfl ?_
          obtain ⟨hb, hT⟩ := hT
          refine m_iast dX10_lay_209 rfl hb hW hF ?_
          intro h hW hF
          refine x_iinc (lo' := [some (.ref w.1), none, none, none, some (.int (a4 + 1)), some (.int a5), some (.int a6), some (.int a7), some (.int a8), none, some (.int a10), some (.int v14)]) dX10_lay_210 rfl (show _ = (a4 + 1) from rfl) rfl ?_
          refine x_aload_n dX10_lay_213 rfl rfl rfl ?_
          refine m_geta dX10_lay_214 f_TallySlateModel_183 (by decide) rfl hW ?_
          refine x_iload dX10_lay_217 rfl ?_
          refine x_aload_n dX10_lay_219 rfl rfl rfl ?_
          refine m_geta dX10_lay_220 f_TallySlateModel_183 (by decide) rfl hW ?_
          refine x_iload dX10_lay_223 rfl ?_
          obtain ⟨hb, hT⟩ := hT
          refine m_iald (v := (s13.2.2.1 104 a7.toNatClampNeg)) dX10_lay_225 rfl hb hW rfl ?_
          refine x_iconst (v := 2) dX10_lay_226 rfl ?_
          refine x_icmp_ne (tgt := 237) dX10_lay_227 rfl (fun c => ?_) (fun c => ?_)
          · have hT := hT.1 c
            refine x_iconst (v := 3) dX10_lay_237 rfl ?_
            refine x_iconst (v := 2) dX10_lay_238 rfl ?_
            refine x_iload dX10_lay_239 rfl ?_
            refine x_imul dX10_lay_241 ?_
            refine x_iadd dX10_lay_242 ?_
            refine x_iadd dX10_lay_243 ?_
            refine x_iload dX10_lay_244 rfl ?_
            refine x_iload dX10_lay_246 rfl ?_
            refine x_isub dX10_lay_248 ?_
            obtain ⟨hb, hT⟩ := hT
            refine m_iast dX10_lay_249 rfl hb hW hF ?_
            intro h hW hF
            refine x_iload dX10_lay_250 rfl ?_
            refine x_aload_n dX10_lay_252 rfl rfl rfl ?_
            refine x_iload dX10_lay_253 rfl ?_
            refine m_inv (vs := [.int v14]) dX10_lay_255 oX10_numbersOf q2944 q2942 qs156 rfl rfl (Nat.le_of_ble_eq_true rfl) rfl hW hF hT ?_
            rintro _ s15 ⟨v16, rfl, hT⟩ h hW hF
            refine x_iadd dX10_lay_258 ?_
            obtain ⟨y17, ey17⟩ : ∃ z : Int32, z = (a5 + v16) := ⟨_, rfl⟩
            have hT := hT y17 ey17
            refine x_istore (lo' := [some (.ref w.1), none, none, none, some (.int (a4 + 1)), some (.int y17), some (.int a6), some (.int a7), some (.int a8), none, some (.int a10), some (.int v14)]) dX10_lay_259 (Nat.le_of_ble_eq_true rfl) (by rw [ey17]; rfl) ?_
            refine x_iinc (lo' := [some (.ref w.1), none, none, none, some (.int (a4 + 1)), some (.int y17), some (.int a6), some (.int a7), some (.int a8), none, some (.int (a10 + 1)), some (.int v14)]) dX10_lay_261 rfl (show _ = (a10 + 1) from rfl) rfl ?_
            refine x_goto (tgt := 135) dX10_lay_264 rfl ?_
            refine Ex.wkl (lo' := [some (.ref w.1), none, none, none, some (.int (a4 + 1)), some (.int y17), some (.int a6), some (.int a7), some (.int a8), none, some (.int (a10 + 1)), none]) ⟨rfl, rfl, rfl, rfl, rfl, rfl, rfl, trivial⟩ ?_
            exact hT h0 h hW hF
          · have hT := hT.2 c
            refine x_iconst (v := 2) dX10_lay_230 rfl ?_
            refine x_iload dX10_lay_231 rfl ?_
            refine x_iadd dX10_lay_233 ?_
            refine x_goto (tgt := 243) dX10_lay_234 rfl ?_
            refine x_iadd dX10_lay_243 ?_
            refine x_iload dX10_lay_244 rfl ?_
            refine x_iload dX10_lay_246 rfl ?_
            refine x_isub dX10_lay_248 ?_
            obtain ⟨hb, hT⟩ := hT
            refine m_iast dX10_lay_249 rfl hb hW hF ?_
            intro h hW hF
            refine x_iload dX10_lay_250 rfl ?_
            refine x_aload_n dX10_lay_252 rfl rfl rfl ?_
            refine x_iload dX10_lay_253 rfl ?_
            refine m_inv (vs := [.int v14]) dX10_lay_255 oX10_numbersOf q2944 q2942 qs156 rfl rfl (Nat.le_of_ble_eq_true rfl) rfl hW hF hT ?_
            rintro _ s18 ⟨v19, rfl, hT⟩ h hW hF
            refine x_iadd dX10_lay_258 ?_
            obtain ⟨y20, ey20⟩ : ∃ z : Int32, z = (a5 + v19) := ⟨_, rfl⟩
            have hT := hT y20 ey20
            refine x_istore (lo' := [some (.ref w.1), none, none, none, some (.int (a4 + 1)), some (.int y20), some (.int a6), some (.int a7), some (.int a8), none, some (.int a10), some (.int v14)]) dX10_lay_259 (Nat.le_of_ble_eq_true rfl) (by rw [ey20]; rfl) ?_
            refine x_iinc (lo' := [some (.ref w.1), none, none, none, some (.int (a4 + 1)), some (.int y20), some (.int a6), some (.int a7), some (.int a8), none, some (.int (a10 + 1)), some (.int v14)]) dX10_lay_261 rfl (show _ = (a10 + 1) from rfl) rfl ?_
            refine x_goto (tgt := 135) dX10_lay_264 rfl ?_
            refine Ex.wkl (lo' := [some (.ref w.1), none, none, none, some (.int (a4 + 1)), some (.int y20), some (.int a6), some (.int a7), some (.int a8), none, some (.int (a10 + 1)), none]) ⟨rfl, rfl, rfl, rfl, rfl, rfl, rfl, trivial⟩ ?_
            exact hT h0 h hW hF
        · have hT := hT.2 c
          refine x_goto (tgt := 261) dX10_lay_179 rfl ?_
          refine x_iinc (lo' := [some (.ref w.1), none, none, none, some (.int a4), some (.int a5), some (.int a6), some (.int a7), some (.int a8), none, some (.int (a10 + 1)), none]) dX10_lay_261 rfl (show _ = (a10 + 1) from rfl) rfl ?_
          refine x_goto (tgt := 135) dX10_lay_264 rfl ?_
          exact hT h0 h hW hF
theorem vX10_numbersOf_0 {l : Launch} {E : EN} {w : MO} {d : Nat} {s : MS} {Q : Option Value → MS → Prop} {x1 : Int32} (hT : (inB x1 166300 ∧ ((¬ (s.2.2.1 104 x1.toNatClampNeg) = 3 → (EvM l E w d MX10_sizeAt [.ref w.1, .int x1] s (fun r s1 => ∃ v2 : Int32, r = some (.int v2) ∧ Q (some (.int (2 + v2))) s1))) ∧ ((s.2.2.1 104 x1.toNatClampNeg) = 3 → (EvM l E w d MX10_sizeAt [.ref w.1, .int x1] s (fun r s3 => ∃ v4 : Int32, r = some (.int v4) ∧ Q (some (.int (2 + (2 * v4)))) s3)))))) : ExM l E w (d + 1) MX10_numbersOf 0 [some (.ref w.1), some (.int x1)] [] s Q := by
  intro h0 h hW hF
  refine x_iconst (v := 2) dX10_numbersOf_0 rfl ?_
  refine x_aload_n dX10_numbersOf_1 rfl rfl rfl ?_
  refine m_geta dX10_numbersOf_2 f_TallySlateModel_183 (by decide) rfl hW ?_
  refine x_iload_n dX10_numbersOf_5 rfl rfl ?_
  obtain ⟨hb, hT⟩ := hT
  refine m_iald (v := (s.2.2.1 104 x1.toNatClampNeg)) dX10_numbersOf_6 rfl hb hW rfl ?_
  refine x_iconst (v := 3) dX10_numbersOf_7 rfl ?_
  refine x_icmp_ne (tgt := 21) dX10_numbersOf_8 rfl (fun c => ?_) (fun c => ?_)
  · have hT := hT.1 c
    refine x_aload_n dX10_numbersOf_21 rfl rfl rfl ?_
    refine x_iload_n dX10_numbersOf_22 rfl rfl ?_
    refine m_inv (vs := [.int x1]) dX10_numbersOf_23 oX10_sizeAt q2735 q2733 qs107 rfl rfl (Nat.le_of_ble_eq_true rfl) rfl hW hF hT ?_
    rintro _ s1 ⟨v2, rfl, hT⟩ h hW hF
    refine x_iadd dX10_numbersOf_26 ?_
    exact x_iret dX10_numbersOf_27 rfl rfl ⟨_, _, rfl, hW, hF, hT⟩
  · have hT := hT.2 c
    refine x_iconst (v := 2) dX10_numbersOf_11 rfl ?_
    refine x_aload_n dX10_numbersOf_12 rfl rfl rfl ?_
    refine x_iload_n dX10_numbersOf_13 rfl rfl ?_
    refine m_inv (vs := [.int x1]) dX10_numbersOf_14 oX10_sizeAt q2735 q2733 qs107 rfl rfl (Nat.le_of_ble_eq_true rfl) rfl hW hF hT ?_
    rintro _ s3 ⟨v4, rfl, hT⟩ h hW hF
    refine x_imul dX10_numbersOf_17 ?_
    refine x_goto (tgt := 26) dX10_numbersOf_18 rfl ?_
    refine x_iadd dX10_numbersOf_26 ?_
    exact x_iret dX10_numbersOf_27 rfl rfl ⟨_, _, rfl, hW, hF, hT⟩
theorem eX10_numbersOf {l : Launch} {E : EN} {w : MO} {d : Nat} {s : MS} {Q : Option Value → MS → Prop} {x1 : Int32} (hst : l.stackTraces = false) (hT : (inB x1 166300 ∧ ((¬ (s.2.2.1 104 x1.toNatClampNeg) = 3 → (EvM l E w d MX10_sizeAt [.ref w.1, .int x1] s (fun r s1 => ∃ v2 : Int32, r = some (.int v2) ∧ Q (some (.int (2 + v2))) s1))) ∧ ((s.2.2.1 104 x1.toNatClampNeg) = 3 → (EvM l E w d MX10_sizeAt [.ref w.1, .int x1] s (fun r s3 => ∃ v4 : Int32, r = some (.int v4) ∧ Q (some (.int (2 + (2 * v4)))) s3)))))) : EvM l E w (d + 1) MX10_numbersOf [.ref w.1, .int x1] s Q :=
  EvM.of hst (by decide) (Nat.le_of_ble_eq_true rfl) (vX10_numbersOf_0 hT)
set_option maxHeartbeats 16000000 in
theorem vX10_copy_0 {l : Launch} {E : EN} {w : MO} {d : Nat} {s : MS} {Q : Option Value → MS → Prop} {x1 : Int32} {x2 : Int32} (hT : (inB x1 166300 ∧ ((¬ (s.2.2.1 104 x1.toNatClampNeg) = (-1) → (inB x1 166300 ∧ ((¬ (s.2.2.1 104 x1.toNatClampNeg) = 0 → (inB x1 166300 ∧ ((¬ (s.2.2.1 104 x1.toNatClampNeg) = 0 → (EvM l E w d MX10_lay [.ref w.1, .int 1, .int x1, .int x2] s (fun r s1 => r = none ∧ Q none s1))) ∧ ((s.2.2.1 104 x1.toNatClampNeg) = 0 → (inB (x1 + 1) 166300 ∧ (EvM l E w d MX10_lay [.ref w.1, .int 1, .int (s.2.2.1 104 (x1 + 1).toNatClampNeg), .int x2] s (fun r s2 => r = none ∧ Q none s2))))))) ∧ ((s.2.2.1 104 x1.toNatClampNeg) = 0 → (inB x1 166300 ∧ ((¬ (s.2.2.1 104 x1.toNatClampNeg) = 0 → (EvM l E w d MX10_lay [.ref w.1, .int 0, .int x1, .int x2] s (fun r s3 => r = none ∧ Q none s3))) ∧ ((s.2.2.1 104 x1.toNatClampNeg) = 0 → (inB (x1 + 1) 166300 ∧ (EvM l E w d MX10_lay [.ref w.1, .int 0, .int (s.2.2.1 104 (x1 + 1).toNatClampNeg), .int x2] s (fun r s4 => r = none ∧ Q none s4)))))))))) ∧ ((s.2.2.1 104 x1.toNatClampNeg) = (-1) → (inB x1 166300 ∧ ((¬ (s.2.2.1 104 x1.toNatClampNeg) = 0 → (EvM l E w d MX10_lay [.ref w.1, .int 2, .int x1, .int x2] s (fun r s5 => r = none ∧ Q none s5))) ∧ ((s.2.2.1 104 x1.toNatClampNeg) = 0 → (inB (x1 + 1) 166300 ∧ (EvM l E w d MX10_lay [.ref w.1, .int 2, .int (s.2.2.1 104 (x1 + 1).toNatClampNeg), .int x2] s (fun r s6 => r = none ∧ Q none s6)))))))))) : ExM l E w (d + 1) MX10_copy 0 [some (.ref w.1), some (.int x1), some (.int x2)] [] s Q := by
  intro h0 h hW hF
  refine x_aload_n dX10_copy_0 rfl rfl rfl ?_
  refine x_aload_n dX10_copy_1 rfl rfl rfl ?_
  refine m_geta dX10_copy_2 f_TallySlateModel_183 (by decide) rfl hW ?_
  refine x_iload_n dX10_copy_5 rfl rfl ?_
  obtain ⟨hb, hT⟩ := hT
  refine m_iald (v := (s.2.2.1 104 x1.toNatClampNeg)) dX10_copy_6 rfl hb hW rfl ?_
  refine x_iconst (v := (-1)) dX10_copy_7 rfl ?_
  refine x_icmp_ne (tgt := 15) dX10_copy_8 rfl (fun c => ?_) (fun c => ?_)
  · have hT := hT.1 c
    refine x_aload_n dX10_copy_15 rfl rfl rfl ?_
    refine m_geta dX10_copy_16 f_TallySlateModel_183 (by decide) rfl hW ?_
    refine x_iload_n dX10_copy_19 rfl rfl ?_
    obtain ⟨hb, hT⟩ := hT
    refine m_iald (v := (s.2.2.1 104 x1.toNatClampNeg)) dX10_copy_20 rfl hb hW rfl ?_
    refine x_if_ne (tgt := 28) dX10_copy_21 rfl (fun c => ?_) (fun c => ?_)
    · have hT := hT.1 c
      refine x_iconst (v := 1) dX10_copy_28 rfl ?_
      refine x_aload_n dX10_copy_29 rfl rfl rfl ?_
      refine m_geta dX10_copy_30 f_TallySlateModel_183 (by decide) rfl hW ?_
      refine x_iload_n dX10_copy_33 rfl rfl ?_
      obtain ⟨hb, hT⟩ := hT
      refine m_iald (v := (s.2.2.1 104 x1.toNatClampNeg)) dX10_copy_34 rfl hb hW rfl ?_
      refine x_if_ne (tgt := 49) dX10_copy_35 rfl (fun c => ?_) (fun c => ?_)
      · have hT := hT.1 c
        refine x_iload_n dX10_copy_49 rfl rfl ?_
        refine x_iload_n dX10_copy_50 rfl rfl ?_
        refine m_inv (vs := [.int 1, .int x1, .int x2]) dX10_copy_51 oX10_lay q2940 q2938 qs155 rfl rfl (Nat.le_of_ble_eq_true rfl) rfl hW hF hT ?_
        rintro _ s1 ⟨rfl, hT⟩ h hW hF
        exact x_vret dX10_copy_54 rfl ⟨_, _, rfl, hW, hF, hT⟩
      · have hT := hT.2 c
        refine x_aload_n dX10_copy_38 rfl rfl rfl ?_
        refine m_geta dX10_copy_39 f_TallySlateModel_183 (by decide) rfl hW ?_
        refine x_iload_n dX10_copy_42 rfl rfl ?_
        refine x_iconst (v := 1) dX10_copy_43 rfl ?_
        refine x_iadd dX10_copy_44 ?_
        obtain ⟨hb, hT⟩ := hT
        refine m_iald (v := (s.2.2.1 104 (x1 + 1).toNatClampNeg)) dX10_copy_45 rfl hb hW rfl ?_
        refine x_goto (tgt := 50) dX10_copy_46 rfl ?_
        refine x_iload_n dX10_copy_50 rfl rfl ?_
        refine m_inv (vs := [.int 1, .int (s.2.2.1 104 (x1 + 1).toNatClampNeg), .int x2]) dX10_copy_51 oX10_lay q2940 q2938 qs155 rfl rfl (Nat.le_of_ble_eq_true rfl) rfl hW hF hT ?_
        rintro _ s2 ⟨rfl, hT⟩ h hW hF
        exact x_vret dX10_copy_54 rfl ⟨_, _, rfl, hW, hF, hT⟩
    · have hT := hT.2 c
      refine x_iconst (v := 0) dX10_copy_24 rfl ?_
      refine x_goto (tgt := 29) dX10_copy_25 rfl ?_
      refine x_aload_n dX10_copy_29 rfl rfl rfl ?_
      refine m_geta dX10_copy_30 f_TallySlateModel_183 (by decide) rfl hW ?_
      refine x_iload_n dX10_copy_33 rfl rfl ?_
      obtain ⟨hb, hT⟩ := hT
      refine m_iald (v := (s.2.2.1 104 x1.toNatClampNeg)) dX10_copy_34 rfl hb hW rfl ?_
      refine x_if_ne (tgt := 49) dX10_copy_35 rfl (fun c => ?_) (fun c => ?_)
      · have hT := hT.1 c
        refine x_iload_n dX10_copy_49 rfl rfl ?_
        refine x_iload_n dX10_copy_50 rfl rfl ?_
        refine m_inv (vs := [.int 0, .int x1, .int x2]) dX10_copy_51 oX10_lay q2940 q2938 qs155 rfl rfl (Nat.le_of_ble_eq_true rfl) rfl hW hF hT ?_
        rintro _ s3 ⟨rfl, hT⟩ h hW hF
        exact x_vret dX10_copy_54 rfl ⟨_, _, rfl, hW, hF, hT⟩
      · have hT := hT.2 c
        refine x_aload_n dX10_copy_38 rfl rfl rfl ?_
        refine m_geta dX10_copy_39 f_TallySlateModel_183 (by decide) rfl hW ?_
        refine x_iload_n dX10_copy_42 rfl rfl ?_
        refine x_iconst (v := 1) dX10_copy_43 rfl ?_
        refine x_iadd dX10_copy_44 ?_
        obtain ⟨hb, hT⟩ := hT
        refine m_iald (v := (s.2.2.1 104 (x1 + 1).toNatClampNeg)) dX10_copy_45 rfl hb hW rfl ?_
        refine x_goto (tgt := 50) dX10_copy_46 rfl ?_
        refine x_iload_n dX10_copy_50 rfl rfl ?_
        refine m_inv (vs := [.int 0, .int (s.2.2.1 104 (x1 + 1).toNatClampNeg), .int x2]) dX10_copy_51 oX10_lay q2940 q2938 qs155 rfl rfl (Nat.le_of_ble_eq_true rfl) rfl hW hF hT ?_
        rintro _ s4 ⟨rfl, hT⟩ h hW hF
        exact x_vret dX10_copy_54 rfl ⟨_, _, rfl, hW, hF, hT⟩
  · have hT := hT.2 c
    refine x_iconst (v := 2) dX10_copy_11 rfl ?_
    refine x_goto (tgt := 29) dX10_copy_12 rfl ?_
    refine x_aload_n dX10_copy_29 rfl rfl rfl ?_
    refine m_geta dX10_copy_30 f_TallySlateModel_183 (by decide) rfl hW ?_
    refine x_iload_n dX10_copy_33 rfl rfl ?_
    obtain ⟨hb, hT⟩ := hT
    refine m_iald (v := (s.2.2.1 104 x1.toNatClampNeg)) dX10_copy_34 rfl hb hW rfl ?_
    refine x_if_ne (tgt := 49) dX10_copy_35 rfl (fun c => ?_) (fun c => ?_)
    · have hT := hT.1 c
      refine x_iload_n dX10_copy_49 rfl rfl ?_
      refine x_iload_n dX10_copy_50 rfl rfl ?_
      refine m_inv (vs := [.int 2, .int x1, .int x2]) dX10_copy_51 oX10_lay q2940 q2938 qs155 rfl rfl (Nat.le_of_ble_eq_true rfl) rfl hW hF hT ?_
      rintro _ s5 ⟨rfl, hT⟩ h hW hF
      exact x_vret dX10_copy_54 rfl ⟨_, _, rfl, hW, hF, hT⟩
    · have hT := hT.2 c
      refine x_aload_n dX10_copy_38 rfl rfl rfl ?_
      refine m_geta dX10_copy_39 f_TallySlateModel_183 (by decide) rfl hW ?_
      refine x_iload_n dX10_copy_42 rfl rfl ?_
      refine x_iconst (v := 1) dX10_copy_43 rfl ?_
      refine x_iadd dX10_copy_44 ?_
      obtain ⟨hb, hT⟩ := hT
      refine m_iald (v := (s.2.2.1 104 (x1 + 1).toNatClampNeg)) dX10_copy_45 rfl hb hW rfl ?_
      refine x_goto (tgt := 50) dX10_copy_46 rfl ?_
      refine x_iload_n dX10_copy_50 rfl rfl ?_
      refine m_inv (vs := [.int 2, .int (s.2.2.1 104 (x1 + 1).toNatClampNeg), .int x2]) dX10_copy_51 oX10_lay q2940 q2938 qs155 rfl rfl (Nat.le_of_ble_eq_true rfl) rfl hW hF hT ?_
      rintro _ s6 ⟨rfl, hT⟩ h hW hF
      exact x_vret dX10_copy_54 rfl ⟨_, _, rfl, hW, hF, hT⟩
theorem eX10_copy {l : Launch} {E : EN} {w : MO} {d : Nat} {s : MS} {Q : Option Value → MS → Prop} {x1 : Int32} {x2 : Int32} (hst : l.stackTraces = false) (hT : (inB x1 166300 ∧ ((¬ (s.2.2.1 104 x1.toNatClampNeg) = (-1) → (inB x1 166300 ∧ ((¬ (s.2.2.1 104 x1.toNatClampNeg) = 0 → (inB x1 166300 ∧ ((¬ (s.2.2.1 104 x1.toNatClampNeg) = 0 → (EvM l E w d MX10_lay [.ref w.1, .int 1, .int x1, .int x2] s (fun r s1 => r = none ∧ Q none s1))) ∧ ((s.2.2.1 104 x1.toNatClampNeg) = 0 → (inB (x1 + 1) 166300 ∧ (EvM l E w d MX10_lay [.ref w.1, .int 1, .int (s.2.2.1 104 (x1 + 1).toNatClampNeg), .int x2] s (fun r s2 => r = none ∧ Q none s2))))))) ∧ ((s.2.2.1 104 x1.toNatClampNeg) = 0 → (inB x1 166300 ∧ ((¬ (s.2.2.1 104 x1.toNatClampNeg) = 0 → (EvM l E w d MX10_lay [.ref w.1, .int 0, .int x1, .int x2] s (fun r s3 => r = none ∧ Q none s3))) ∧ ((s.2.2.1 104 x1.toNatClampNeg) = 0 → (inB (x1 + 1) 166300 ∧ (EvM l E w d MX10_lay [.ref w.1, .int 0, .int (s.2.2.1 104 (x1 + 1).toNatClampNeg), .int x2] s (fun r s4 => r = none ∧ Q none s4)))))))))) ∧ ((s.2.2.1 104 x1.toNatClampNeg) = (-1) → (inB x1 166300 ∧ ((¬ (s.2.2.1 104 x1.toNatClampNeg) = 0 → (EvM l E w d MX10_lay [.ref w.1, .int 2, .int x1, .int x2] s (fun r s5 => r = none ∧ Q none s5))) ∧ ((s.2.2.1 104 x1.toNatClampNeg) = 0 → (inB (x1 + 1) 166300 ∧ (EvM l E w d MX10_lay [.ref w.1, .int 2, .int (s.2.2.1 104 (x1 + 1).toNatClampNeg), .int x2] s (fun r s6 => r = none ∧ Q none s6)))))))))) : EvM l E w (d + 1) MX10_copy [.ref w.1, .int x1, .int x2] s Q :=
  EvM.of hst (by decide) (Nat.le_of_ble_eq_true rfl) (vX10_copy_0 hT)
set_option maxHeartbeats 16000000 in
theorem vX10_trouble_2_0 {l : Launch} {E : EN} {w : MO} {d : Nat} {s : MS} {Q : Option Value → MS → Prop} {x1 : Int32} (hT : ((¬ (s.1 125) = 0 → ((x1 = 0 → Q (some (.int (s.1 123))) s) ∧ (¬ (x1 = 0) → ((x1 = 1 → Q (some (.int (s.1 124))) s) ∧ (¬ (x1 = 1) → ((x1 = 2 → ((¬ (s.1 123) = 9 → Q (some (.int 0)) s) ∧ ((s.1 123) = 9 → Q (some (.int (s.1 122))) s))) ∧ (¬ (x1 = 2) → ((x1 = 3 → Q (some (.int (s.1 117))) s) ∧ (¬ (x1 = 3) → ((x1 = 4 → Q (some (.int (s.1 119))) s) ∧ (¬ (x1 = 4) → ((x1 = 5 → Q (some (.int (s.1 120))) s) ∧ (¬ (x1 = 5) → ((x1 = 6 → Q (some (.int (s.1 121))) s) ∧ (¬ (x1 = 6) → (Q (some (.int (-1))) s)))))))))))))))) ∧ ((s.1 125) = 0 → Q (some (.int (-1))) s))) : ExM l E w d MX10_trouble_2 0 [some (.ref w.1), some (.int x1)] [] s Q := by
  intro h0 h hW hF
  refine x_aload_n dX10_trouble_2_0 rfl rfl rfl ?_
  refine m_geti (v := (s.1 125)) dX10_trouble_2_1 f_TallySlateModel_552 (by decide) rfl hW rfl ?_
  refine x_if_ne (tgt := 9) dX10_trouble_2_4 rfl (fun c => ?_) (fun c => ?_)
  · have hT := hT.1 c
    refine x_iload_n dX10_trouble_2_9 rfl rfl ?_
    by_cases c : x1 = 0
    · have hT := hT.1 c
      refine x_tableIn (tgt := 52) (off := 42) dX10_trouble_2_10 (by rw [c]; decide) (by rw [c]; decide) (by rw [c]; rfl) rfl ?_
      refine x_aload_n dX10_trouble_2_52 rfl rfl rfl ?_
      refine m_geti (v := (s.1 123)) dX10_trouble_2_53 f_TallySlateModel_498 (by decide) rfl hW rfl ?_
      exact x_iret dX10_trouble_2_56 rfl rfl ⟨_, _, rfl, hW, hF, hT⟩
    · have hT := hT.2 c
      have cs0 := c
      by_cases c : x1 = 1
      · have hT := hT.1 c
        refine x_tableIn (tgt := 57) (off := 47) dX10_trouble_2_10 (by rw [c]; decide) (by rw [c]; decide) (by rw [c]; rfl) rfl ?_
        refine x_aload_n dX10_trouble_2_57 rfl rfl rfl ?_
        refine m_geti (v := (s.1 124)) dX10_trouble_2_58 f_TallySlateModel_207 (by decide) rfl hW rfl ?_
        exact x_iret dX10_trouble_2_61 rfl rfl ⟨_, _, rfl, hW, hF, hT⟩
      · have hT := hT.2 c
        have cs1 := c
        by_cases c : x1 = 2
        · have hT := hT.1 c
          refine x_tableIn (tgt := 62) (off := 52) dX10_trouble_2_10 (by rw [c]; decide) (by rw [c]; decide) (by rw [c]; rfl) rfl ?_
          refine x_aload_n dX10_trouble_2_62 rfl rfl rfl ?_
          refine m_geti (v := (s.1 123)) dX10_trouble_2_63 f_TallySlateModel_498 (by decide) rfl hW rfl ?_
          refine x_bipush (v := 9) dX10_trouble_2_66 rfl ?_
          refine x_icmp_ne (tgt := 78) dX10_trouble_2_68 rfl (fun c => ?_) (fun c => ?_)
          · have hT := hT.1 c
            refine x_iconst (v := 0) dX10_trouble_2_78 rfl ?_
            exact x_iret dX10_trouble_2_79 rfl rfl ⟨_, _, rfl, hW, hF, hT⟩
          · have hT := hT.2 c
            refine x_aload_n dX10_trouble_2_71 rfl rfl rfl ?_
            refine m_geti (v := (s.1 122)) dX10_trouble_2_72 f_TallySlateModel_543 (by decide) rfl hW rfl ?_
            refine x_goto (tgt := 79) dX10_trouble_2_75 rfl ?_
            exact x_iret dX10_trouble_2_79 rfl rfl ⟨_, _, rfl, hW, hF, hT⟩
        · have hT := hT.2 c
          have cs2 := c
          by_cases c : x1 = 3
          · have hT := hT.1 c
            refine x_tableIn (tgt := 80) (off := 70) dX10_trouble_2_10 (by rw [c]; decide) (by rw [c]; decide) (by rw [c]; rfl) rfl ?_
            refine x_aload_n dX10_trouble_2_80 rfl rfl rfl ?_
            refine m_geti (v := (s.1 117)) dX10_trouble_2_81 f_TallySlateModel_501 (by decide) rfl hW rfl ?_
            exact x_iret dX10_trouble_2_84 rfl rfl ⟨_, _, rfl, hW, hF, hT⟩
          · have hT := hT.2 c
            have cs3 := c
            by_cases c : x1 = 4
            · have hT := hT.1 c
              refine x_tableIn (tgt := 85) (off := 75) dX10_trouble_2_10 (by rw [c]; decide) (by rw [c]; decide) (by rw [c]; rfl) rfl ?_
              refine x_aload_n dX10_trouble_2_85 rfl rfl rfl ?_
              refine m_geti (v := (s.1 119)) dX10_trouble_2_86 f_TallySlateModel_513 (by decide) rfl hW rfl ?_
              exact x_iret dX10_trouble_2_89 rfl rfl ⟨_, _, rfl, hW, hF, hT⟩
            · have hT := hT.2 c
              have cs4 := c
              by_cases c : x1 = 5
              · have hT := hT.1 c
                refine x_tableIn (tgt := 90) (off := 80) dX10_trouble_2_10 (by rw [c]; decide) (by rw [c]; decide) (by rw [c]; rfl) rfl ?_
                refine x_aload_n dX10_trouble_2_90 rfl rfl rfl ?_
                refine m_geti (v := (s.1 120)) dX10_trouble_2_91 f_TallySlateModel_537 (by decide) rfl hW rfl ?_
                exact x_iret dX10_trouble_2_94 rfl rfl ⟨_, _, rfl, hW, hF, hT⟩
              · have hT := hT.2 c
                have cs5 := c
                by_cases c : x1 = 6
                · have hT := hT.1 c
                  refine x_tableIn (tgt := 95) (off := 85) dX10_trouble_2_10 (by rw [c]; decide) (by rw [c]; decide) (by rw [c]; rfl) rfl ?_
                  refine x_aload_n dX10_trouble_2_95 rfl rfl rfl ?_
                  refine m_geti (v := (s.1 121)) dX10_trouble_2_96 f_TallySlateModel_546 (by decide) rfl hW rfl ?_
                  exact x_iret dX10_trouble_2_99 rfl rfl ⟨_, _, rfl, hW, hF, hT⟩
                · have hT := hT.2 c
                  have cs6 := c
                  refine x_tableD (tgt := 100) [0, 1, 2, 3, 4, 5, 6] dX10_trouble_2_10 (List.forall_mem_cons.mpr ⟨fun h => cs0 (i32_of (h.trans (show (0 : Int) = (0 : Int32).toInt from by decide))), List.forall_mem_cons.mpr ⟨fun h => cs1 (i32_of (h.trans (show (1 : Int) = (1 : Int32).toInt from by decide))), List.forall_mem_cons.mpr ⟨fun h => cs2 (i32_of (h.trans (show (2 : Int) = (2 : Int32).toInt from by decide))), List.forall_mem_cons.mpr ⟨fun h => cs3 (i32_of (h.trans (show (3 : Int) = (3 : Int32).toInt from by decide))), List.forall_mem_cons.mpr ⟨fun h => cs4 (i32_of (h.trans (show (4 : Int) = (4 : Int32).toInt from by decide))), List.forall_mem_cons.mpr ⟨fun h => cs5 (i32_of (h.trans (show (5 : Int) = (5 : Int32).toInt from by decide))), List.forall_mem_cons.mpr ⟨fun h => cs6 (i32_of (h.trans (show (6 : Int) = (6 : Int32).toInt from by decide))), fun _ h => absurd h List.not_mem_nil⟩⟩⟩⟩⟩⟩⟩) (by decide) (by decide) rfl ?_
                  refine x_iconst (v := (-1)) dX10_trouble_2_100 rfl ?_
                  exact x_iret dX10_trouble_2_101 rfl rfl ⟨_, _, rfl, hW, hF, hT⟩
  · have hT := hT.2 c
    refine x_iconst (v := (-1)) dX10_trouble_2_7 rfl ?_
    exact x_iret dX10_trouble_2_8 rfl rfl ⟨_, _, rfl, hW, hF, hT⟩
theorem eX10_trouble_2 {l : Launch} {E : EN} {w : MO} {d : Nat} {s : MS} {Q : Option Value → MS → Prop} {x1 : Int32} (hst : l.stackTraces = false) (hT : ((¬ (s.1 125) = 0 → ((x1 = 0 → Q (some (.int (s.1 123))) s) ∧ (¬ (x1 = 0) → ((x1 = 1 → Q (some (.int (s.1 124))) s) ∧ (¬ (x1 = 1) → ((x1 = 2 → ((¬ (s.1 123) = 9 → Q (some (.int 0)) s) ∧ ((s.1 123) = 9 → Q (some (.int (s.1 122))) s))) ∧ (¬ (x1 = 2) → ((x1 = 3 → Q (some (.int (s.1 117))) s) ∧ (¬ (x1 = 3) → ((x1 = 4 → Q (some (.int (s.1 119))) s) ∧ (¬ (x1 = 4) → ((x1 = 5 → Q (some (.int (s.1 120))) s) ∧ (¬ (x1 = 5) → ((x1 = 6 → Q (some (.int (s.1 121))) s) ∧ (¬ (x1 = 6) → (Q (some (.int (-1))) s)))))))))))))))) ∧ ((s.1 125) = 0 → Q (some (.int (-1))) s))) : EvM l E w d MX10_trouble_2 [.ref w.1, .int x1] s Q :=
  EvM.of hst (by decide) (Nat.le_of_ble_eq_true rfl) (vX10_trouble_2_0 hT)
theorem vX10_out_0 {l : Launch} {E : EN} {w : MO} {d : Nat} {s : MS} {Q : Option Value → MS → Prop} {x1 : Int32} (hT : ((x1 < 0 → Q (some (.int (-1))) s) ∧ (¬ x1 < 0 → (((s.1 144) ≤ x1 → Q (some (.int (-1))) s) ∧ (¬ (s.1 144) ≤ x1 → ((x1 < 600 → (inB x1 600 ∧ Q (some (.int (s.2.2.1 143 x1.toNatClampNeg))) s)) ∧ (¬ x1 < 600 → Q (some (.int (-1))) s))))))) : ExM l E w d MX10_out 0 [some (.ref w.1), some (.int x1)] [] s Q := by
  intro h0 h hW hF
  refine x_iload_n dX10_out_0 rfl rfl ?_
  refine x_if_lt (tgt := 19) dX10_out_1 rfl (fun c => ?_) (fun c => ?_)
  · have hT := hT.1 c
    refine x_iconst (v := (-1)) dX10_out_19 rfl ?_
    refine x_goto (tgt := 29) dX10_out_20 rfl ?_
    exact x_iret dX10_out_29 rfl rfl ⟨_, _, rfl, hW, hF, hT⟩
  · have hT := hT.2 c
    refine x_iload_n dX10_out_4 rfl rfl ?_
    refine x_aload_n dX10_out_5 rfl rfl rfl ?_
    refine m_geti (v := (s.1 144)) dX10_out_6 f_TallySlateModel_555 (by decide) rfl hW rfl ?_
    refine x_icmp_ge (tgt := 19) dX10_out_9 rfl (fun c => ?_) (fun c => ?_)
    · have hT := hT.1 c
      refine x_iconst (v := (-1)) dX10_out_19 rfl ?_
      refine x_goto (tgt := 29) dX10_out_20 rfl ?_
      exact x_iret dX10_out_29 rfl rfl ⟨_, _, rfl, hW, hF, hT⟩
    · have hT := hT.2 c
      refine x_iload_n dX10_out_12 rfl rfl ?_
      refine x_sipush (v := 600) dX10_out_13 rfl ?_
      refine x_icmp_lt (tgt := 23) dX10_out_16 rfl (fun c => ?_) (fun c => ?_)
      · have hT := hT.1 c
        refine x_aload_n dX10_out_23 rfl rfl rfl ?_
        refine m_geta dX10_out_24 f_TallySlateModel_249 (by decide) rfl hW ?_
        refine x_iload_n dX10_out_27 rfl rfl ?_
        obtain ⟨hb, hT⟩ := hT
        refine m_bald (v := (s.2.2.1 143 x1.toNatClampNeg)) dX10_out_28 rfl hb hW rfl ?_
        exact x_iret dX10_out_29 rfl rfl ⟨_, _, rfl, hW, hF, hT⟩
      · have hT := hT.2 c
        refine x_iconst (v := (-1)) dX10_out_19 rfl ?_
        refine x_goto (tgt := 29) dX10_out_20 rfl ?_
        exact x_iret dX10_out_29 rfl rfl ⟨_, _, rfl, hW, hF, hT⟩
theorem eX10_out {l : Launch} {E : EN} {w : MO} {d : Nat} {s : MS} {Q : Option Value → MS → Prop} {x1 : Int32} (hst : l.stackTraces = false) (hT : ((x1 < 0 → Q (some (.int (-1))) s) ∧ (¬ x1 < 0 → (((s.1 144) ≤ x1 → Q (some (.int (-1))) s) ∧ (¬ (s.1 144) ≤ x1 → ((x1 < 600 → (inB x1 600 ∧ Q (some (.int (s.2.2.1 143 x1.toNatClampNeg))) s)) ∧ (¬ x1 < 600 → Q (some (.int (-1))) s))))))) : EvM l E w d MX10_out [.ref w.1, .int x1] s Q :=
  EvM.of hst (by decide) (Nat.le_of_ble_eq_true rfl) (vX10_out_0 hT)
theorem vX10_outs_0 {l : Launch} {E : EN} {w : MO} {d : Nat} {s : MS} {Q : Option Value → MS → Prop}  (hT : Q (some (.int (s.1 144))) s) : ExM l E w d MX10_outs 0 [some (.ref w.1)] [] s Q := by
  intro h0 h hW hF
  refine x_aload_n dX10_outs_0 rfl rfl rfl ?_
  refine m_geti (v := (s.1 144)) dX10_outs_1 f_TallySlateModel_555 (by decide) rfl hW rfl ?_
  exact x_iret dX10_outs_4 rfl rfl ⟨_, _, rfl, hW, hF, hT⟩
theorem eX10_outs {l : Launch} {E : EN} {w : MO} {d : Nat} {s : MS} {Q : Option Value → MS → Prop}  (hst : l.stackTraces = false) (hT : Q (some (.int (s.1 144))) s) : EvM l E w d MX10_outs [.ref w.1] s Q :=
  EvM.of hst (by decide) (Nat.le_of_ble_eq_true rfl) (vX10_outs_0 hT)
theorem vX10_show_0 {l : Launch} {E : EN} {w : MO} {d : Nat} {s : MS} {Q : Option Value → MS → Prop} {x1 : Int32} (hT : (EvM l E w d MX10_isShelfAt [.int x1] s (fun r s1 => ∃ v2 : Int32, r = some (.int v2) ∧ ((v2 = 0 → Q (some (.int (-1))) s1) ∧ (¬ v2 = 0 → (inB (2410 * x1) 166300 ∧ ((¬ (s1.2.2.1 104 (2410 * x1).toNatClampNeg) = (-1) → (inB (2410 * x1) 166300 ∧ ((¬ (s1.2.2.1 104 (2410 * x1).toNatClampNeg) = 0 → (EvM l E w d MX10_form [.ref w.1, .int (2410 * x1)] (sI s1 144 0) (fun r s3 => r = none ∧ Q (some (.int (s3.1 144))) s3))) ∧ ((s1.2.2.1 104 (2410 * x1).toNatClampNeg) = 0 → (inB ((2410 * x1) + 1) 166300 ∧ (EvM l E w d MX10_number [.ref w.1, .int (s1.2.2.1 104 ((2410 * x1) + 1).toNatClampNeg)] (sI s1 144 0) (fun r s4 => r = none ∧ Q (some (.int (s4.1 144))) s4))))))) ∧ ((s1.2.2.1 104 (2410 * x1).toNatClampNeg) = (-1) → Q (some (.int (-1))) s1)))))))) : ExM l E w (d + 1) MX10_show 0 [some (.ref w.1), some (.int x1)] [] s Q := by
  intro h0 h hW hF
  refine x_iload_n dX10_show_0 rfl rfl ?_
  refine m_invS (vs := [.int x1]) dX10_show_1 oX10_isShelfAt q2967 q2966 rfl rfl (Nat.le_of_ble_eq_true rfl) rfl hW hF hT ?_
  rintro _ s1 ⟨v2, rfl, hT⟩ h hW hF
  refine x_if_eq (tgt := 21) dX10_show_4 rfl (fun c => ?_) (fun c => ?_)
  · have hT := hT.1 c
    refine x_iconst (v := (-1)) dX10_show_21 rfl ?_
    exact x_iret dX10_show_22 rfl rfl ⟨_, _, rfl, hW, hF, hT⟩
  · have hT := hT.2 c
    refine x_aload_n dX10_show_7 rfl rfl rfl ?_
    refine m_geta dX10_show_8 f_TallySlateModel_183 (by decide) rfl hW ?_
    refine x_sipush (v := 2410) dX10_show_11 rfl ?_
    refine x_iload_n dX10_show_14 rfl rfl ?_
    refine x_imul dX10_show_15 ?_
    obtain ⟨hb, hT⟩ := hT
    refine m_iald (v := (s1.2.2.1 104 (2410 * x1).toNatClampNeg)) dX10_show_16 rfl hb hW rfl ?_
    refine x_iconst (v := (-1)) dX10_show_17 rfl ?_
    refine x_icmp_ne (tgt := 23) dX10_show_18 rfl (fun c => ?_) (fun c => ?_)
    · have hT := hT.1 c
      refine x_aload_n dX10_show_23 rfl rfl rfl ?_
      refine x_iconst (v := 0) dX10_show_24 rfl ?_
      refine m_puti dX10_show_25 f_TallySlateModel_555 (by decide) rfl rfl rfl rfl hW hF ?_
      intro h hW hF
      refine x_aload_n dX10_show_28 rfl rfl rfl ?_
      refine m_geta dX10_show_29 f_TallySlateModel_183 (by decide) rfl hW ?_
      refine x_sipush (v := 2410) dX10_show_32 rfl ?_
      refine x_iload_n dX10_show_35 rfl rfl ?_
      refine x_imul dX10_show_36 ?_
      obtain ⟨hb, hT⟩ := hT
      refine m_iald (v := (s1.2.2.1 104 (2410 * x1).toNatClampNeg)) dX10_show_37 rfl hb hW rfl ?_
      refine x_if_ne (tgt := 60) dX10_show_38 rfl (fun c => ?_) (fun c => ?_)
      · have hT := hT.1 c
        refine x_aload_n dX10_show_60 rfl rfl rfl ?_
        refine x_sipush (v := 2410) dX10_show_61 rfl ?_
        refine x_iload_n dX10_show_64 rfl rfl ?_
        refine x_imul dX10_show_65 ?_
        refine m_inv (vs := [.int (2410 * x1)]) dX10_show_66 oX10_form q2924 q2922 qs151 rfl rfl (Nat.le_of_ble_eq_true rfl) rfl hW hF hT ?_
        rintro _ s3 ⟨rfl, hT⟩ h hW hF
        refine x_aload_n dX10_show_69 rfl rfl rfl ?_
        refine m_geti (v := (s3.1 144)) dX10_show_70 f_TallySlateModel_555 (by decide) rfl hW rfl ?_
        exact x_iret dX10_show_73 rfl rfl ⟨_, _, rfl, hW, hF, hT⟩
      · have hT := hT.2 c
        refine x_aload_n dX10_show_41 rfl rfl rfl ?_
        refine x_aload_n dX10_show_42 rfl rfl rfl ?_
        refine m_geta dX10_show_43 f_TallySlateModel_183 (by decide) rfl hW ?_
        refine x_sipush (v := 2410) dX10_show_46 rfl ?_
        refine x_iload_n dX10_show_49 rfl rfl ?_
        refine x_imul dX10_show_50 ?_
        refine x_iconst (v := 1) dX10_show_51 rfl ?_
        refine x_iadd dX10_show_52 ?_
        obtain ⟨hb, hT⟩ := hT
        refine m_iald (v := (s1.2.2.1 104 ((2410 * x1) + 1).toNatClampNeg)) dX10_show_53 rfl hb hW rfl ?_
        refine m_inv (vs := [.int (s1.2.2.1 104 ((2410 * x1) + 1).toNatClampNeg)]) dX10_show_54 oX10_number q2915 q2913 qs149 rfl rfl (Nat.le_of_ble_eq_true rfl) rfl hW hF hT ?_
        rintro _ s4 ⟨rfl, hT⟩ h hW hF
        refine x_goto (tgt := 69) dX10_show_57 rfl ?_
        refine x_aload_n dX10_show_69 rfl rfl rfl ?_
        refine m_geti (v := (s4.1 144)) dX10_show_70 f_TallySlateModel_555 (by decide) rfl hW rfl ?_
        exact x_iret dX10_show_73 rfl rfl ⟨_, _, rfl, hW, hF, hT⟩
    · have hT := hT.2 c
      refine x_iconst (v := (-1)) dX10_show_21 rfl ?_
      exact x_iret dX10_show_22 rfl rfl ⟨_, _, rfl, hW, hF, hT⟩
theorem eX10_show {l : Launch} {E : EN} {w : MO} {d : Nat} {s : MS} {Q : Option Value → MS → Prop} {x1 : Int32} (hst : l.stackTraces = false) (hT : (EvM l E w d MX10_isShelfAt [.int x1] s (fun r s1 => ∃ v2 : Int32, r = some (.int v2) ∧ ((v2 = 0 → Q (some (.int (-1))) s1) ∧ (¬ v2 = 0 → (inB (2410 * x1) 166300 ∧ ((¬ (s1.2.2.1 104 (2410 * x1).toNatClampNeg) = (-1) → (inB (2410 * x1) 166300 ∧ ((¬ (s1.2.2.1 104 (2410 * x1).toNatClampNeg) = 0 → (EvM l E w d MX10_form [.ref w.1, .int (2410 * x1)] (sI s1 144 0) (fun r s3 => r = none ∧ Q (some (.int (s3.1 144))) s3))) ∧ ((s1.2.2.1 104 (2410 * x1).toNatClampNeg) = 0 → (inB ((2410 * x1) + 1) 166300 ∧ (EvM l E w d MX10_number [.ref w.1, .int (s1.2.2.1 104 ((2410 * x1) + 1).toNatClampNeg)] (sI s1 144 0) (fun r s4 => r = none ∧ Q (some (.int (s4.1 144))) s4))))))) ∧ ((s1.2.2.1 104 (2410 * x1).toNatClampNeg) = (-1) → Q (some (.int (-1))) s1)))))))) : EvM l E w (d + 1) MX10_show [.ref w.1, .int x1] s Q :=
  EvM.of hst (by decide) (Nat.le_of_ble_eq_true rfl) (vX10_show_0 hT)
theorem vX10_isShelfAt_0 {l : Launch} {E : EN} {w : MO} {d : Nat} {s : MS} {Q : Option Value → MS → Prop} {x1 : Int32} (hT : ((x1 < 0 → Q (some (.int 0)) s) ∧ (¬ x1 < 0 → ((8 ≤ x1 → Q (some (.int 0)) s) ∧ (¬ 8 ≤ x1 → Q (some (.int 1)) s))))) : ExM l E w d MX10_isShelfAt 0 [some (.int x1)] [] s Q := by
  intro h0 h hW hF
  refine x_iload_n dX10_isShelfAt_0 rfl rfl ?_
  refine x_if_lt (tgt := 14) dX10_isShelfAt_1 rfl (fun c => ?_) (fun c => ?_)
  · have hT := hT.1 c
    refine x_iconst (v := 0) dX10_isShelfAt_14 rfl ?_
    exact x_iret dX10_isShelfAt_15 rfl rfl ⟨_, _, rfl, hW, hF, hT⟩
  · have hT := hT.2 c
    refine x_iload_n dX10_isShelfAt_4 rfl rfl ?_
    refine x_bipush (v := 8) dX10_isShelfAt_5 rfl ?_
    refine x_icmp_ge (tgt := 14) dX10_isShelfAt_7 rfl (fun c => ?_) (fun c => ?_)
    · have hT := hT.1 c
      refine x_iconst (v := 0) dX10_isShelfAt_14 rfl ?_
      exact x_iret dX10_isShelfAt_15 rfl rfl ⟨_, _, rfl, hW, hF, hT⟩
    · have hT := hT.2 c
      refine x_iconst (v := 1) dX10_isShelfAt_10 rfl ?_
      refine x_goto (tgt := 15) dX10_isShelfAt_11 rfl ?_
      exact x_iret dX10_isShelfAt_15 rfl rfl ⟨_, _, rfl, hW, hF, hT⟩
theorem eX10_isShelfAt {l : Launch} {E : EN} {w : MO} {d : Nat} {s : MS} {Q : Option Value → MS → Prop} {x1 : Int32} (hst : l.stackTraces = false) (hT : ((x1 < 0 → Q (some (.int 0)) s) ∧ (¬ x1 < 0 → ((8 ≤ x1 → Q (some (.int 0)) s) ∧ (¬ 8 ≤ x1 → Q (some (.int 1)) s))))) : EvM l E w d MX10_isShelfAt [.int x1] s Q :=
  EvM.of hst (by decide) (Nat.le_of_ble_eq_true rfl) (vX10_isShelfAt_0 hT)
theorem vX10_set_0 {l : Launch} {E : EN} {w : MO} {d : Nat} {s : MS} {Q : Option Value → MS → Prop} {x1 : Int32} {x2 : Int32} (hT : (EvM l E w d MX10_isShelfAt [.int x1] s (fun r s1 => ∃ v2 : Int32, r = some (.int v2) ∧ ((¬ v2 = 0 → (EvM l E w d MX10_lay [.ref w.1, .int 0, .int x2, .int (2410 * x1)] s1 (fun r s3 => r = none ∧ Q (some (.int 1)) s3))) ∧ (v2 = 0 → Q (some (.int 0)) s1))))) : ExM l E w (d + 1) MX10_set 0 [some (.ref w.1), some (.int x1), some (.int x2)] [] s Q := by
  intro h0 h hW hF
  refine x_iload_n dX10_set_0 rfl rfl ?_
  refine m_invS (vs := [.int x1]) dX10_set_1 oX10_isShelfAt q2967 q2966 rfl rfl (Nat.le_of_ble_eq_true rfl) rfl hW hF hT ?_
  rintro _ s1 ⟨v2, rfl, hT⟩ h hW hF
  refine x_if_ne (tgt := 9) dX10_set_4 rfl (fun c => ?_) (fun c => ?_)
  · have hT := hT.1 c
    refine x_aload_n dX10_set_9 rfl rfl rfl ?_
    refine x_iconst (v := 0) dX10_set_10 rfl ?_
    refine x_iload_n dX10_set_11 rfl rfl ?_
    refine x_sipush (v := 2410) dX10_set_12 rfl ?_
    refine x_iload_n dX10_set_15 rfl rfl ?_
    refine x_imul dX10_set_16 ?_
    refine m_inv (vs := [.int 0, .int x2, .int (2410 * x1)]) dX10_set_17 oX10_lay q2940 q2938 qs155 rfl rfl (Nat.le_of_ble_eq_true rfl) rfl hW hF hT ?_
    rintro _ s3 ⟨rfl, hT⟩ h hW hF
    refine x_iconst (v := 1) dX10_set_20 rfl ?_
    exact x_iret dX10_set_21 rfl rfl ⟨_, _, rfl, hW, hF, hT⟩
  · have hT := hT.2 c
    refine x_iconst (v := 0) dX10_set_7 rfl ?_
    exact x_iret dX10_set_8 rfl rfl ⟨_, _, rfl, hW, hF, hT⟩
theorem eX10_set {l : Launch} {E : EN} {w : MO} {d : Nat} {s : MS} {Q : Option Value → MS → Prop} {x1 : Int32} {x2 : Int32} (hst : l.stackTraces = false) (hT : (EvM l E w d MX10_isShelfAt [.int x1] s (fun r s1 => ∃ v2 : Int32, r = some (.int v2) ∧ ((¬ v2 = 0 → (EvM l E w d MX10_lay [.ref w.1, .int 0, .int x2, .int (2410 * x1)] s1 (fun r s3 => r = none ∧ Q (some (.int 1)) s3))) ∧ (v2 = 0 → Q (some (.int 0)) s1))))) : EvM l E w (d + 1) MX10_set [.ref w.1, .int x1, .int x2] s Q :=
  EvM.of hst (by decide) (Nat.le_of_ble_eq_true rfl) (vX10_set_0 hT)
set_option maxHeartbeats 16000000 in
theorem vX10_add_0 {l : Launch} {E : EN} {w : MO} {d : Nat} {s : MS} {Q : Option Value → MS → Prop} {x1 : Int32} {x2 : Int32} (hT : (EvM l E w d MX10_isShelfAt [.int x1] s (fun r s1 => ∃ v2 : Int32, r = some (.int v2) ∧ ((¬ v2 = 0 → (∀ y3 : Int32, y3 = (2410 * x1) → (inB y3 166300 ∧ (((s1.2.2.1 104 y3.toNatClampNeg) = 1 → (EvM l E w d MX10_sizeAt [.ref w.1, .int y3] s1 (fun r s4 => ∃ v5 : Int32, r = some (.int v5) ∧ ((¬ v5 = 64 → (EvM l E w d MX10_sizeAt [.ref w.1, .int y3] s4 (fun r s6 => ∃ v7 : Int32, r = some (.int v7) ∧ (inB ((y3 + 2) + v7) 166300 ∧ (inB (y3 + 1) 166300 ∧ (inB (y3 + 1) 166300 ∧ Q (some (.int 1)) (sA (sA s6 104 ((y3 + 2) + v7).toNatClampNeg x2) 104 (y3 + 1).toNatClampNeg (((sA s6 104 ((y3 + 2) + v7).toNatClampNeg x2).2.2.1 104 (y3 + 1).toNatClampNeg) + 1)))))))) ∧ (v5 = 64 → Q (some (.int 0)) s4))))) ∧ (¬ (s1.2.2.1 104 y3.toNatClampNeg) = 1 → (inB y3 166300 ∧ (inB (y3 + 1) 166300 ∧ (EvM l E w d MX10_sizeAt [.ref w.1, .int y3] (sA (sA s1 104 y3.toNatClampNeg 1) 104 (y3 + 1).toNatClampNeg 0) (fun r s8 => ∃ v9 : Int32, r = some (.int v9) ∧ ((¬ v9 = 64 → (EvM l E w d MX10_sizeAt [.ref w.1, .int y3] s8 (fun r s10 => ∃ v11 : Int32, r = some (.int v11) ∧ (inB ((y3 + 2) + v11) 166300 ∧ (inB (y3 + 1) 166300 ∧ (inB (y3 + 1) 166300 ∧ Q (some (.int 1)) (sA (sA s10 104 ((y3 + 2) + v11).toNatClampNeg x2) 104 (y3 + 1).toNatClampNeg (((sA s10 104 ((y3 + 2) + v11).toNatClampNeg x2).2.2.1 104 (y3 + 1).toNatClampNeg) + 1)))))))) ∧ (v9 = 64 → Q (some (.int 0)) s8))))))))))) ∧ (v2 = 0 → Q (some (.int 0)) s1))))) : ExM l E w (d + 1) MX10_add 0 [some (.ref w.1), some (.int x1), some (.int x2), none] [] s Q := by
  intro h0 h hW hF
  refine x_iload_n dX10_add_0 rfl rfl ?_
  refine m_invS (vs := [.int x1]) dX10_add_1 oX10_isShelfAt q2967 q2966 rfl rfl (Nat.le_of_ble_eq_true rfl) rfl hW hF hT ?_
  rintro _ s1 ⟨v2, rfl, hT⟩ h hW hF
  refine x_if_ne (tgt := 9) dX10_add_4 rfl (fun c => ?_) (fun c => ?_)
  · have hT := hT.1 c
    refine x_sipush (v := 2410) dX10_add_9 rfl ?_
    refine x_iload_n dX10_add_12 rfl rfl ?_
    refine x_imul dX10_add_13 ?_
    obtain ⟨y3, ey3⟩ : ∃ z : Int32, z = (2410 * x1) := ⟨_, rfl⟩
    have hT := hT y3 ey3
    refine x_istore_n (lo' := [some (.ref w.1), some (.int x1), some (.int x2), some (.int y3)]) dX10_add_14 rfl (Nat.le_of_ble_eq_true rfl) (by rw [ey3]; rfl) ?_
    refine x_aload_n dX10_add_15 rfl rfl rfl ?_
    refine m_geta dX10_add_16 f_TallySlateModel_183 (by decide) rfl hW ?_
    refine x_iload_n dX10_add_19 rfl rfl ?_
    obtain ⟨hb, hT⟩ := hT
    refine m_iald (v := (s1.2.2.1 104 y3.toNatClampNeg)) dX10_add_20 rfl hb hW rfl ?_
    refine x_iconst (v := 1) dX10_add_21 rfl ?_
    refine x_icmp_eq (tgt := 41) dX10_add_22 rfl (fun c => ?_) (fun c => ?_)
    · have hT := hT.1 c
      refine x_aload_n dX10_add_41 rfl rfl rfl ?_
      refine x_iload_n dX10_add_42 rfl rfl ?_
      refine m_inv (vs := [.int y3]) dX10_add_43 oX10_sizeAt q2735 q2733 qs107 rfl rfl (Nat.le_of_ble_eq_true rfl) rfl hW hF hT ?_
      rintro _ s4 ⟨v5, rfl, hT⟩ h hW hF
      refine x_bipush (v := 64) dX10_add_46 rfl ?_
      refine x_icmp_ne (tgt := 53) dX10_add_48 rfl (fun c => ?_) (fun c => ?_)
      · have hT := hT.1 c
        refine x_aload_n dX10_add_53 rfl rfl rfl ?_
        refine m_geta dX10_add_54 f_TallySlateModel_183 (by decide) rfl hW ?_
        refine x_iload_n dX10_add_57 rfl rfl ?_
        refine x_iconst (v := 2) dX10_add_58 rfl ?_
        refine x_iadd dX10_add_59 ?_
        refine x_aload_n dX10_add_60 rfl rfl rfl ?_
        refine x_iload_n dX10_add_61 rfl rfl ?_
        refine m_inv (vs := [.int y3]) dX10_add_62 oX10_sizeAt q2735 q2733 qs107 rfl rfl (Nat.le_of_ble_eq_true rfl) rfl hW hF hT ?_
        rintro _ s6 ⟨v7, rfl, hT⟩ h hW hF
        refine x_iadd dX10_add_65 ?_
        refine x_iload_n dX10_add_66 rfl rfl ?_
        obtain ⟨hb, hT⟩ := hT
        refine m_iast dX10_add_67 rfl hb hW hF ?_
        intro h hW hF
        refine x_aload_n dX10_add_68 rfl rfl rfl ?_
        refine m_geta dX10_add_69 f_TallySlateModel_183 (by decide) rfl hW ?_
        refine x_iload_n dX10_add_72 rfl rfl ?_
        refine x_iconst (v := 1) dX10_add_73 rfl ?_
        refine x_iadd dX10_add_74 ?_
        refine x_dup2 dX10_add_75 rfl rfl ?_
        obtain ⟨hb, hT⟩ := hT
        refine m_iald (v := ((sA s6 104 ((y3 + 2) + v7).toNatClampNeg x2).2.2.1 104 (y3 + 1).toNatClampNeg)) dX10_add_76 rfl hb hW rfl ?_
        refine x_iconst (v := 1) dX10_add_77 rfl ?_
        refine x_iadd dX10_add_78 ?_
        obtain ⟨hb, hT⟩ := hT
        refine m_iast dX10_add_79 rfl hb hW hF ?_
        intro h hW hF
        refine x_iconst (v := 1) dX10_add_80 rfl ?_
        exact x_iret dX10_add_81 rfl rfl ⟨_, _, rfl, hW, hF, hT⟩
      · have hT := hT.2 c
        refine x_iconst (v := 0) dX10_add_51 rfl ?_
        exact x_iret dX10_add_52 rfl rfl ⟨_, _, rfl, hW, hF, hT⟩
    · have hT := hT.2 c
      refine x_aload_n dX10_add_25 rfl rfl rfl ?_
      refine m_geta dX10_add_26 f_TallySlateModel_183 (by decide) rfl hW ?_
      refine x_iload_n dX10_add_29 rfl rfl ?_
      refine x_iconst (v := 1) dX10_add_30 rfl ?_
      obtain ⟨hb, hT⟩ := hT
      refine m_iast dX10_add_31 rfl hb hW hF ?_
      intro h hW hF
      refine x_aload_n dX10_add_32 rfl rfl rfl ?_
      refine m_geta dX10_add_33 f_TallySlateModel_183 (by decide) rfl hW ?_
      refine x_iload_n dX10_add_36 rfl rfl ?_
      refine x_iconst (v := 1) dX10_add_37 rfl ?_
      refine x_iadd dX10_add_38 ?_
      refine x_iconst (v := 0) dX10_add_39 rfl ?_
      obtain ⟨hb, hT⟩ := hT
      refine m_iast dX10_add_40 rfl hb hW hF ?_
      intro h hW hF
      refine x_aload_n dX10_add_41 rfl rfl rfl ?_
      refine x_iload_n dX10_add_42 rfl rfl ?_
      refine m_inv (vs := [.int y3]) dX10_add_43 oX10_sizeAt q2735 q2733 qs107 rfl rfl (Nat.le_of_ble_eq_true rfl) rfl hW hF hT ?_
      rintro _ s8 ⟨v9, rfl, hT⟩ h hW hF
      refine x_bipush (v := 64) dX10_add_46 rfl ?_
      refine x_icmp_ne (tgt := 53) dX10_add_48 rfl (fun c => ?_) (fun c => ?_)
      · have hT := hT.1 c
        refine x_aload_n dX10_add_53 rfl rfl rfl ?_
        refine m_geta dX10_add_54 f_TallySlateModel_183 (by decide) rfl hW ?_
        refine x_iload_n dX10_add_57 rfl rfl ?_
        refine x_iconst (v := 2) dX10_add_58 rfl ?_
        refine x_iadd dX10_add_59 ?_
        refine x_aload_n dX10_add_60 rfl rfl rfl ?_
        refine x_iload_n dX10_add_61 rfl rfl ?_
        refine m_inv (vs := [.int y3]) dX10_add_62 oX10_sizeAt q2735 q2733 qs107 rfl rfl (Nat.le_of_ble_eq_true rfl) rfl hW hF hT ?_
        rintro _ s10 ⟨v11, rfl, hT⟩ h hW hF
        refine x_iadd dX10_add_65 ?_
        refine x_iload_n dX10_add_66 rfl rfl ?_
        obtain ⟨hb, hT⟩ := hT
        refine m_iast dX10_add_67 rfl hb hW hF ?_
        intro h hW hF
        refine x_aload_n dX10_add_68 rfl rfl rfl ?_
        refine m_geta dX10_add_69 f_TallySlateModel_183 (by decide) rfl hW ?_
        refine x_iload_n dX10_add_72 rfl rfl ?_
        refine x_iconst (v := 1) dX10_add_73 rfl ?_
        refine x_iadd dX10_add_74 ?_
        refine x_dup2 dX10_add_75 rfl rfl ?_
        obtain ⟨hb, hT⟩ := hT
        refine m_iald (v := ((sA s10 104 ((y3 + 2) + v11).toNatClampNeg x2).2.2.1 104 (y3 + 1).toNatClampNeg)) dX10_add_76 rfl hb hW rfl ?_
        refine x_iconst (v := 1) dX10_add_77 rfl ?_
        refine x_iadd dX10_add_78 ?_
        obtain ⟨hb, hT⟩ := hT
        refine m_iast dX10_add_79 rfl hb hW hF ?_
        intro h hW hF
        refine x_iconst (v := 1) dX10_add_80 rfl ?_
        exact x_iret dX10_add_81 rfl rfl ⟨_, _, rfl, hW, hF, hT⟩
      · have hT := hT.2 c
        refine x_iconst (v := 0) dX10_add_51 rfl ?_
        exact x_iret dX10_add_52 rfl rfl ⟨_, _, rfl, hW, hF, hT⟩
  · have hT := hT.2 c
    refine x_iconst (v := 0) dX10_add_7 rfl ?_
    exact x_iret dX10_add_8 rfl rfl ⟨_, _, rfl, hW, hF, hT⟩
theorem eX10_add {l : Launch} {E : EN} {w : MO} {d : Nat} {s : MS} {Q : Option Value → MS → Prop} {x1 : Int32} {x2 : Int32} (hst : l.stackTraces = false) (hT : (EvM l E w d MX10_isShelfAt [.int x1] s (fun r s1 => ∃ v2 : Int32, r = some (.int v2) ∧ ((¬ v2 = 0 → (∀ y3 : Int32, y3 = (2410 * x1) → (inB y3 166300 ∧ (((s1.2.2.1 104 y3.toNatClampNeg) = 1 → (EvM l E w d MX10_sizeAt [.ref w.1, .int y3] s1 (fun r s4 => ∃ v5 : Int32, r = some (.int v5) ∧ ((¬ v5 = 64 → (EvM l E w d MX10_sizeAt [.ref w.1, .int y3] s4 (fun r s6 => ∃ v7 : Int32, r = some (.int v7) ∧ (inB ((y3 + 2) + v7) 166300 ∧ (inB (y3 + 1) 166300 ∧ (inB (y3 + 1) 166300 ∧ Q (some (.int 1)) (sA (sA s6 104 ((y3 + 2) + v7).toNatClampNeg x2) 104 (y3 + 1).toNatClampNeg (((sA s6 104 ((y3 + 2) + v7).toNatClampNeg x2).2.2.1 104 (y3 + 1).toNatClampNeg) + 1)))))))) ∧ (v5 = 64 → Q (some (.int 0)) s4))))) ∧ (¬ (s1.2.2.1 104 y3.toNatClampNeg) = 1 → (inB y3 166300 ∧ (inB (y3 + 1) 166300 ∧ (EvM l E w d MX10_sizeAt [.ref w.1, .int y3] (sA (sA s1 104 y3.toNatClampNeg 1) 104 (y3 + 1).toNatClampNeg 0) (fun r s8 => ∃ v9 : Int32, r = some (.int v9) ∧ ((¬ v9 = 64 → (EvM l E w d MX10_sizeAt [.ref w.1, .int y3] s8 (fun r s10 => ∃ v11 : Int32, r = some (.int v11) ∧ (inB ((y3 + 2) + v11) 166300 ∧ (inB (y3 + 1) 166300 ∧ (inB (y3 + 1) 166300 ∧ Q (some (.int 1)) (sA (sA s10 104 ((y3 + 2) + v11).toNatClampNeg x2) 104 (y3 + 1).toNatClampNeg (((sA s10 104 ((y3 + 2) + v11).toNatClampNeg x2).2.2.1 104 (y3 + 1).toNatClampNeg) + 1)))))))) ∧ (v9 = 64 → Q (some (.int 0)) s8))))))))))) ∧ (v2 = 0 → Q (some (.int 0)) s1))))) : EvM l E w (d + 1) MX10_add [.ref w.1, .int x1, .int x2] s Q :=
  EvM.of hst (by decide) (Nat.le_of_ble_eq_true rfl) (vX10_add_0 hT)
theorem vX10_clear_0 {l : Launch} {E : EN} {w : MO} {d : Nat} {s : MS} {Q : Option Value → MS → Prop} {x1 : Int32} (hT : (EvM l E w d MX10_isShelfAt [.int x1] s (fun r s1 => ∃ v2 : Int32, r = some (.int v2) ∧ ((v2 = 0 → Q (some (.int 0)) s1) ∧ (¬ v2 = 0 → (inB (2410 * x1) 166300 ∧ ((¬ (s1.2.2.1 104 (2410 * x1).toNatClampNeg) = (-1) → (inB (2410 * x1) 166300 ∧ Q (some (.int 1)) (sA s1 104 (2410 * x1).toNatClampNeg (-1)))) ∧ ((s1.2.2.1 104 (2410 * x1).toNatClampNeg) = (-1) → Q (some (.int 0)) s1)))))))) : ExM l E w (d + 1) MX10_clear 0 [some (.ref w.1), some (.int x1)] [] s Q := by
  intro h0 h hW hF
  refine x_iload_n dX10_clear_0 rfl rfl ?_
  refine m_invS (vs := [.int x1]) dX10_clear_1 oX10_isShelfAt q2967 q2966 rfl rfl (Nat.le_of_ble_eq_true rfl) rfl hW hF hT ?_
  rintro _ s1 ⟨v2, rfl, hT⟩ h hW hF
  refine x_if_eq (tgt := 21) dX10_clear_4 rfl (fun c => ?_) (fun c => ?_)
  · have hT := hT.1 c
    refine x_iconst (v := 0) dX10_clear_21 rfl ?_
    exact x_iret dX10_clear_22 rfl rfl ⟨_, _, rfl, hW, hF, hT⟩
  · have hT := hT.2 c
    refine x_aload_n dX10_clear_7 rfl rfl rfl ?_
    refine m_geta dX10_clear_8 f_TallySlateModel_183 (by decide) rfl hW ?_
    refine x_sipush (v := 2410) dX10_clear_11 rfl ?_
    refine x_iload_n dX10_clear_14 rfl rfl ?_
    refine x_imul dX10_clear_15 ?_
    obtain ⟨hb, hT⟩ := hT
    refine m_iald (v := (s1.2.2.1 104 (2410 * x1).toNatClampNeg)) dX10_clear_16 rfl hb hW rfl ?_
    refine x_iconst (v := (-1)) dX10_clear_17 rfl ?_
    refine x_icmp_ne (tgt := 23) dX10_clear_18 rfl (fun c => ?_) (fun c => ?_)
    · have hT := hT.1 c
      refine x_aload_n dX10_clear_23 rfl rfl rfl ?_
      refine m_geta dX10_clear_24 f_TallySlateModel_183 (by decide) rfl hW ?_
      refine x_sipush (v := 2410) dX10_clear_27 rfl ?_
      refine x_iload_n dX10_clear_30 rfl rfl ?_
      refine x_imul dX10_clear_31 ?_
      refine x_iconst (v := (-1)) dX10_clear_32 rfl ?_
      obtain ⟨hb, hT⟩ := hT
      refine m_iast dX10_clear_33 rfl hb hW hF ?_
      intro h hW hF
      refine x_iconst (v := 1) dX10_clear_34 rfl ?_
      exact x_iret dX10_clear_35 rfl rfl ⟨_, _, rfl, hW, hF, hT⟩
    · have hT := hT.2 c
      refine x_iconst (v := 0) dX10_clear_21 rfl ?_
      exact x_iret dX10_clear_22 rfl rfl ⟨_, _, rfl, hW, hF, hT⟩
theorem eX10_clear {l : Launch} {E : EN} {w : MO} {d : Nat} {s : MS} {Q : Option Value → MS → Prop} {x1 : Int32} (hst : l.stackTraces = false) (hT : (EvM l E w d MX10_isShelfAt [.int x1] s (fun r s1 => ∃ v2 : Int32, r = some (.int v2) ∧ ((v2 = 0 → Q (some (.int 0)) s1) ∧ (¬ v2 = 0 → (inB (2410 * x1) 166300 ∧ ((¬ (s1.2.2.1 104 (2410 * x1).toNatClampNeg) = (-1) → (inB (2410 * x1) 166300 ∧ Q (some (.int 1)) (sA s1 104 (2410 * x1).toNatClampNeg (-1)))) ∧ ((s1.2.2.1 104 (2410 * x1).toNatClampNeg) = (-1) → Q (some (.int 0)) s1)))))))) : EvM l E w (d + 1) MX10_clear [.ref w.1, .int x1] s Q :=
  EvM.of hst (by decide) (Nat.le_of_ble_eq_true rfl) (vX10_clear_0 hT)
theorem vX10_kind_0 {l : Launch} {E : EN} {w : MO} {d : Nat} {s : MS} {Q : Option Value → MS → Prop} {x1 : Int32} (hT : (EvM l E w d MX10_isShelfAt [.int x1] s (fun r s1 => ∃ v2 : Int32, r = some (.int v2) ∧ ((v2 = 0 → Q (some (.int (-1))) s1) ∧ (¬ v2 = 0 → (inB (2410 * x1) 166300 ∧ Q (some (.int (s1.2.2.1 104 (2410 * x1).toNatClampNeg))) s1)))))) : ExM l E w (d + 1) MX10_kind 0 [some (.ref w.1), some (.int x1)] [] s Q := by
  intro h0 h hW hF
  refine x_iload_n dX10_kind_0 rfl rfl ?_
  refine m_invS (vs := [.int x1]) dX10_kind_1 oX10_isShelfAt q2967 q2966 rfl rfl (Nat.le_of_ble_eq_true rfl) rfl hW hF hT ?_
  rintro _ s1 ⟨v2, rfl, hT⟩ h hW hF
  refine x_if_eq (tgt := 20) dX10_kind_4 rfl (fun c => ?_) (fun c => ?_)
  · have hT := hT.1 c
    refine x_iconst (v := (-1)) dX10_kind_20 rfl ?_
    exact x_iret dX10_kind_21 rfl rfl ⟨_, _, rfl, hW, hF, hT⟩
  · have hT := hT.2 c
    refine x_aload_n dX10_kind_7 rfl rfl rfl ?_
    refine m_geta dX10_kind_8 f_TallySlateModel_183 (by decide) rfl hW ?_
    refine x_sipush (v := 2410) dX10_kind_11 rfl ?_
    refine x_iload_n dX10_kind_14 rfl rfl ?_
    refine x_imul dX10_kind_15 ?_
    obtain ⟨hb, hT⟩ := hT
    refine m_iald (v := (s1.2.2.1 104 (2410 * x1).toNatClampNeg)) dX10_kind_16 rfl hb hW rfl ?_
    refine x_goto (tgt := 21) dX10_kind_17 rfl ?_
    exact x_iret dX10_kind_21 rfl rfl ⟨_, _, rfl, hW, hF, hT⟩
theorem eX10_kind {l : Launch} {E : EN} {w : MO} {d : Nat} {s : MS} {Q : Option Value → MS → Prop} {x1 : Int32} (hst : l.stackTraces = false) (hT : (EvM l E w d MX10_isShelfAt [.int x1] s (fun r s1 => ∃ v2 : Int32, r = some (.int v2) ∧ ((v2 = 0 → Q (some (.int (-1))) s1) ∧ (¬ v2 = 0 → (inB (2410 * x1) 166300 ∧ Q (some (.int (s1.2.2.1 104 (2410 * x1).toNatClampNeg))) s1)))))) : EvM l E w (d + 1) MX10_kind [.ref w.1, .int x1] s Q :=
  EvM.of hst (by decide) (Nat.le_of_ble_eq_true rfl) (vX10_kind_0 hT)
set_option maxHeartbeats 16000000 in
theorem vX10_size_0 {l : Launch} {E : EN} {w : MO} {d : Nat} {s : MS} {Q : Option Value → MS → Prop} {x1 : Int32} {x2 : Int32} (hT : (EvM l E w d MX10_kind [.ref w.1, .int x1] s (fun r s1 => ∃ v2 : Int32, r = some (.int v2) ∧ ((0 ≤ v2 → (∀ y3 : Int32, y3 = (2410 * x1) → ((¬ x2 = (-1) → ((v2 < 2 → Q (some (.int (-1))) s1) ∧ (¬ v2 < 2 → ((x2 < 0 → Q (some (.int (-1))) s1) ∧ (¬ x2 < 0 → (EvM l E w d MX10_sizeAt [.ref w.1, .int y3] s1 (fun r s4 => ∃ v5 : Int32, r = some (.int v5) ∧ ((x2 < v5 → ((¬ v2 = 2 → (EvM l E w d MX10_isInt [.ref w.1, .int y3, .int x2] s4 (fun r s6 => ∃ v7 : Int32, r = some (.int v7) ∧ ((v7 = 0 → (EvM l E w d MX10_partAt [.ref w.1, .int y3, .int x2] s6 (fun r s8 => ∃ v9 : Int32, r = some (.int v9) ∧ (inB v9 166300 ∧ Q (some (.int (s8.2.2.1 104 v9.toNatClampNeg))) s8)))) ∧ (¬ v7 = 0 → Q (some (.int 0)) s6))))) ∧ (v2 = 2 → (EvM l E w d MX10_partAt [.ref w.1, .int y3, .int x2] s4 (fun r s10 => ∃ v11 : Int32, r = some (.int v11) ∧ (EvM l E w d MX10_sizeAt [.ref w.1, .int v11] s10 (fun r s12 => ∃ v13 : Int32, r = some (.int v13) ∧ Q (some (.int v13)) s12))))))) ∧ (¬ x2 < v5 → Q (some (.int (-1))) s4))))))))) ∧ (x2 = (-1) → ((¬ v2 = 0 → (EvM l E w d MX10_sizeAt [.ref w.1, .int y3] s1 (fun r s14 => ∃ v15 : Int32, r = some (.int v15) ∧ Q (some (.int v15)) s14))) ∧ (v2 = 0 → Q (some (.int 0)) s1)))))) ∧ (¬ 0 ≤ v2 → Q (some (.int (-1))) s1))))) : ExM l E w (d + 1) MX10_size 0 [some (.ref w.1), some (.int x1), some (.int x2), none, none] [] s Q := by
  intro h0 h hW hF
  refine x_aload_n dX10_size_0 rfl rfl rfl ?_
  refine x_iload_n dX10_size_1 rfl rfl ?_
  refine m_inv (vs := [.int x1]) dX10_size_2 oX10_kind q2982 q2989 q2983 rfl rfl (Nat.le_of_ble_eq_true rfl) rfl hW hF hT ?_
  rintro _ s1 ⟨v2, rfl, hT⟩ h hW hF
  refine x_istore_n (lo' := [some (.ref w.1), some (.int x1), some (.int x2), some (.int v2), none]) dX10_size_5 rfl (Nat.le_of_ble_eq_true rfl) rfl ?_
  refine x_iload_n dX10_size_6 rfl rfl ?_
  refine x_if_ge (tgt := 12) dX10_size_7 rfl (fun c => ?_) (fun c => ?_)
  · have hT := hT.1 c
    refine x_sipush (v := 2410) dX10_size_12 rfl ?_
    refine x_iload_n dX10_size_15 rfl rfl ?_
    refine x_imul dX10_size_16 ?_
    obtain ⟨y3, ey3⟩ : ∃ z : Int32, z = (2410 * x1) := ⟨_, rfl⟩
    have hT := hT y3 ey3
    refine x_istore (lo' := [some (.ref w.1), some (.int x1), some (.int x2), some (.int v2), some (.int y3)]) dX10_size_17 (Nat.le_of_ble_eq_true rfl) (by rw [ey3]; rfl) ?_
    refine x_iload_n dX10_size_19 rfl rfl ?_
    refine x_iconst (v := (-1)) dX10_size_20 rfl ?_
    refine x_icmp_ne (tgt := 39) dX10_size_21 rfl (fun c => ?_) (fun c => ?_)
    · have hT := hT.1 c
      refine x_iload_n dX10_size_39 rfl rfl ?_
      refine x_iconst (v := 2) dX10_size_40 rfl ?_
      refine x_icmp_lt (tgt := 58) dX10_size_41 rfl (fun c => ?_) (fun c => ?_)
      · have hT := hT.1 c
        refine x_iconst (v := (-1)) dX10_size_58 rfl ?_
        exact x_iret dX10_size_59 rfl rfl ⟨_, _, rfl, hW, hF, hT⟩
      · have hT := hT.2 c
        refine x_iload_n dX10_size_44 rfl rfl ?_
        refine x_if_lt (tgt := 58) dX10_size_45 rfl (fun c => ?_) (fun c => ?_)
        · have hT := hT.1 c
          refine x_iconst (v := (-1)) dX10_size_58 rfl ?_
          exact x_iret dX10_size_59 rfl rfl ⟨_, _, rfl, hW, hF, hT⟩
        · have hT := hT.2 c
          refine x_iload_n dX10_size_48 rfl rfl ?_
          refine x_aload_n dX10_size_49 rfl rfl rfl ?_
          refine x_iload dX10_size_50 rfl ?_
          refine m_inv (vs := [.int y3]) dX10_size_52 oX10_sizeAt q2735 q2733 qs107 rfl rfl (Nat.le_of_ble_eq_true rfl) rfl hW hF hT ?_
          rintro _ s4 ⟨v5, rfl, hT⟩ h hW hF
          refine x_icmp_lt (tgt := 60) dX10_size_55 rfl (fun c => ?_) (fun c => ?_)
          · have hT := hT.1 c
            refine x_iload_n dX10_size_60 rfl rfl ?_
            refine x_iconst (v := 2) dX10_size_61 rfl ?_
            refine x_icmp_ne (tgt := 77) dX10_size_62 rfl (fun c => ?_) (fun c => ?_)
            · have hT := hT.1 c
              refine x_aload_n dX10_size_77 rfl rfl rfl ?_
              refine x_iload dX10_size_78 rfl ?_
              refine x_iload_n dX10_size_80 rfl rfl ?_
              refine m_inv (vs := [.int y3, .int x2]) dX10_size_81 oX10_isInt q2759 q2757 qs113 rfl rfl (Nat.le_of_ble_eq_true rfl) rfl hW hF hT ?_
              rintro _ s6 ⟨v7, rfl, hT⟩ h hW hF
              refine x_if_eq (tgt := 91) dX10_size_84 rfl (fun c => ?_) (fun c => ?_)
              · have hT := hT.1 c
                refine x_aload_n dX10_size_91 rfl rfl rfl ?_
                refine m_geta dX10_size_92 f_TallySlateModel_183 (by decide) rfl hW ?_
                refine x_aload_n dX10_size_95 rfl rfl rfl ?_
                refine x_iload dX10_size_96 rfl ?_
                refine x_iload_n dX10_size_98 rfl rfl ?_
                refine m_inv (vs := [.int y3, .int x2]) dX10_size_99 oX10_partAt q2751 q2749 qs111 rfl rfl (Nat.le_of_ble_eq_true rfl) rfl hW hF hT ?_
                rintro _ s8 ⟨v9, rfl, hT⟩ h hW hF
                obtain ⟨hb, hT⟩ := hT
                refine m_iald (v := (s8.2.2.1 104 v9.toNatClampNeg)) dX10_size_102 rfl hb hW rfl ?_
                exact x_iret dX10_size_103 rfl rfl ⟨_, _, rfl, hW, hF, hT⟩
              · have hT := hT.2 c
                refine x_iconst (v := 0) dX10_size_87 rfl ?_
                refine x_goto (tgt := 103) dX10_size_88 rfl ?_
                exact x_iret dX10_size_103 rfl rfl ⟨_, _, rfl, hW, hF, hT⟩
            · have hT := hT.2 c
              refine x_aload_n dX10_size_65 rfl rfl rfl ?_
              refine x_aload_n dX10_size_66 rfl rfl rfl ?_
              refine x_iload dX10_size_67 rfl ?_
              refine x_iload_n dX10_size_69 rfl rfl ?_
              refine m_inv (vs := [.int y3, .int x2]) dX10_size_70 oX10_partAt q2751 q2749 qs111 rfl rfl (Nat.le_of_ble_eq_true rfl) rfl hW hF hT ?_
              rintro _ s10 ⟨v11, rfl, hT⟩ h hW hF
              refine m_inv (vs := [.int v11]) dX10_size_73 oX10_sizeAt q2735 q2733 qs107 rfl rfl (Nat.le_of_ble_eq_true rfl) rfl hW hF hT ?_
              rintro _ s12 ⟨v13, rfl, hT⟩ h hW hF
              exact x_iret dX10_size_76 rfl rfl ⟨_, _, rfl, hW, hF, hT⟩
          · have hT := hT.2 c
            refine x_iconst (v := (-1)) dX10_size_58 rfl ?_
            exact x_iret dX10_size_59 rfl rfl ⟨_, _, rfl, hW, hF, hT⟩
    · have hT := hT.2 c
      refine x_iload_n dX10_size_24 rfl rfl ?_
      refine x_if_ne (tgt := 32) dX10_size_25 rfl (fun c => ?_) (fun c => ?_)
      · have hT := hT.1 c
        refine x_aload_n dX10_size_32 rfl rfl rfl ?_
        refine x_iload dX10_size_33 rfl ?_
        refine m_inv (vs := [.int y3]) dX10_size_35 oX10_sizeAt q2735 q2733 qs107 rfl rfl (Nat.le_of_ble_eq_true rfl) rfl hW hF hT ?_
        rintro _ s14 ⟨v15, rfl, hT⟩ h hW hF
        exact x_iret dX10_size_38 rfl rfl ⟨_, _, rfl, hW, hF, hT⟩
      · have hT := hT.2 c
        refine x_iconst (v := 0) dX10_size_28 rfl ?_
        refine x_goto (tgt := 38) dX10_size_29 rfl ?_
        exact x_iret dX10_size_38 rfl rfl ⟨_, _, rfl, hW, hF, hT⟩
  · have hT := hT.2 c
    refine x_iconst (v := (-1)) dX10_size_10 rfl ?_
    exact x_iret dX10_size_11 rfl rfl ⟨_, _, rfl, hW, hF, hT⟩
theorem eX10_size {l : Launch} {E : EN} {w : MO} {d : Nat} {s : MS} {Q : Option Value → MS → Prop} {x1 : Int32} {x2 : Int32} (hst : l.stackTraces = false) (hT : (EvM l E w d MX10_kind [.ref w.1, .int x1] s (fun r s1 => ∃ v2 : Int32, r = some (.int v2) ∧ ((0 ≤ v2 → (∀ y3 : Int32, y3 = (2410 * x1) → ((¬ x2 = (-1) → ((v2 < 2 → Q (some (.int (-1))) s1) ∧ (¬ v2 < 2 → ((x2 < 0 → Q (some (.int (-1))) s1) ∧ (¬ x2 < 0 → (EvM l E w d MX10_sizeAt [.ref w.1, .int y3] s1 (fun r s4 => ∃ v5 : Int32, r = some (.int v5) ∧ ((x2 < v5 → ((¬ v2 = 2 → (EvM l E w d MX10_isInt [.ref w.1, .int y3, .int x2] s4 (fun r s6 => ∃ v7 : Int32, r = some (.int v7) ∧ ((v7 = 0 → (EvM l E w d MX10_partAt [.ref w.1, .int y3, .int x2] s6 (fun r s8 => ∃ v9 : Int32, r = some (.int v9) ∧ (inB v9 166300 ∧ Q (some (.int (s8.2.2.1 104 v9.toNatClampNeg))) s8)))) ∧ (¬ v7 = 0 → Q (some (.int 0)) s6))))) ∧ (v2 = 2 → (EvM l E w d MX10_partAt [.ref w.1, .int y3, .int x2] s4 (fun r s10 => ∃ v11 : Int32, r = some (.int v11) ∧ (EvM l E w d MX10_sizeAt [.ref w.1, .int v11] s10 (fun r s12 => ∃ v13 : Int32, r = some (.int v13) ∧ Q (some (.int v13)) s12))))))) ∧ (¬ x2 < v5 → Q (some (.int (-1))) s4))))))))) ∧ (x2 = (-1) → ((¬ v2 = 0 → (EvM l E w d MX10_sizeAt [.ref w.1, .int y3] s1 (fun r s14 => ∃ v15 : Int32, r = some (.int v15) ∧ Q (some (.int v15)) s14))) ∧ (v2 = 0 → Q (some (.int 0)) s1)))))) ∧ (¬ 0 ≤ v2 → Q (some (.int (-1))) s1))))) : EvM l E w (d + 1) MX10_size [.ref w.1, .int x1, .int x2] s Q :=
  EvM.of hst (by decide) (Nat.le_of_ble_eq_true rfl) (vX10_size_0 hT)
set_option maxHeartbeats 16000000 in
theorem vX10_cell_0 {l : Launch} {E : EN} {w : MO} {d : Nat} {s : MS} {Q : Option Value → MS → Prop} {x1 : Int32} {x2 : Int32} {x3 : Int32} (hT : (EvM l E w d MX10_kind [.ref w.1, .int x1] s (fun r s1 => ∃ v2 : Int32, r = some (.int v2) ∧ ((0 ≤ v2 → (∀ y3 : Int32, y3 = (2410 * x1) → ((¬ v2 = 0 → ((x2 < 0 → Q (some (.int 0)) s1) ∧ (¬ x2 < 0 → (EvM l E w d MX10_sizeAt [.ref w.1, .int y3] s1 (fun r s4 => ∃ v5 : Int32, r = some (.int v5) ∧ ((x2 < v5 → ((¬ v2 = 1 → ((¬ v2 = 3 → (EvM l E w d MX10_partAt [.ref w.1, .int y3, .int x2] s4 (fun r s6 => ∃ v7 : Int32, r = some (.int v7) ∧ (inB v7 166300 ∧ ((¬ (s6.2.2.1 104 v7.toNatClampNeg) = 1 → Q (some (.int 0)) s6) ∧ ((s6.2.2.1 104 v7.toNatClampNeg) = 1 → ((x3 < 0 → Q (some (.int 0)) s6) ∧ (¬ x3 < 0 → (EvM l E w d MX10_sizeAt [.ref w.1, .int v7] s6 (fun r s8 => ∃ v9 : Int32, r = some (.int v9) ∧ ((v9 ≤ x3 → Q (some (.int 0)) s8) ∧ (¬ v9 ≤ x3 → (inB ((v7 + 2) + x3) 166300 ∧ Q (some (.int (s8.2.2.1 104 ((v7 + 2) + x3).toNatClampNeg))) s8))))))))))))) ∧ (v2 = 3 → (EvM l E w d MX10_isInt [.ref w.1, .int y3, .int x2] s4 (fun r s10 => ∃ v11 : Int32, r = some (.int v11) ∧ ((v11 = 0 → (EvM l E w d MX10_partAt [.ref w.1, .int y3, .int x2] s10 (fun r s12 => ∃ v13 : Int32, r = some (.int v13) ∧ (inB v13 166300 ∧ ((¬ (s12.2.2.1 104 v13.toNatClampNeg) = 1 → Q (some (.int 0)) s12) ∧ ((s12.2.2.1 104 v13.toNatClampNeg) = 1 → ((x3 < 0 → Q (some (.int 0)) s12) ∧ (¬ x3 < 0 → (EvM l E w d MX10_sizeAt [.ref w.1, .int v13] s12 (fun r s14 => ∃ v15 : Int32, r = some (.int v15) ∧ ((v15 ≤ x3 → Q (some (.int 0)) s14) ∧ (¬ v15 ≤ x3 → (inB ((v13 + 2) + x3) 166300 ∧ Q (some (.int (s14.2.2.1 104 ((v13 + 2) + x3).toNatClampNeg))) s14))))))))))))) ∧ (¬ v11 = 0 → (inB ((y3 + 3) + (2 * x2)) 166300 ∧ Q (some (.int (s10.2.2.1 104 ((y3 + 3) + (2 * x2)).toNatClampNeg))) s10)))))))) ∧ (v2 = 1 → (inB ((y3 + 2) + x2) 166300 ∧ Q (some (.int (s4.2.2.1 104 ((y3 + 2) + x2).toNatClampNeg))) s4)))) ∧ (¬ x2 < v5 → Q (some (.int 0)) s4))))))) ∧ (v2 = 0 → (inB (y3 + 1) 166300 ∧ Q (some (.int (s1.2.2.1 104 (y3 + 1).toNatClampNeg))) s1))))) ∧ (¬ 0 ≤ v2 → Q (some (.int 0)) s1))))) : ExM l E w (d + 1) MX10_cell 0 [some (.ref w.1), some (.int x1), some (.int x2), some (.int x3), none, none, none] [] s Q := by
  intro h0 h hW hF
  refine x_aload_n dX10_cell_0 rfl rfl rfl ?_
  refine x_iload_n dX10_cell_1 rfl rfl ?_
  refine m_inv (vs := [.int x1]) dX10_cell_2 oX10_kind q2982 q2989 q2983 rfl rfl (Nat.le_of_ble_eq_true rfl) rfl hW hF hT ?_
  rintro _ s1 ⟨v2, rfl, hT⟩ h hW hF
  refine x_istore (lo' := [some (.ref w.1), some (.int x1), some (.int x2), some (.int x3), some (.int v2), none, none]) dX10_cell_5 (Nat.le_of_ble_eq_true rfl) rfl ?_
  refine x_iload dX10_cell_7 rfl ?_
  refine x_if_ge (tgt := 14) dX10_cell_9 rfl (fun c => ?_) (fun c => ?_)
  · have hT := hT.1 c
    refine x_sipush (v := 2410) dX10_cell_14 rfl ?_
    refine x_iload_n dX10_cell_17 rfl rfl ?_
    refine x_imul dX10_cell_18 ?_
    obtain ⟨y3, ey3⟩ : ∃ z : Int32, z = (2410 * x1) := ⟨_, rfl⟩
    have hT := hT y3 ey3
    refine x_istore (lo' := [some (.ref w.1), some (.int x1), some (.int x2), some (.int x3), some (.int v2), some (.int y3), none]) dX10_cell_19 (Nat.le_of_ble_eq_true rfl) (by rw [ey3]; rfl) ?_
    refine x_iload dX10_cell_21 rfl ?_
    refine x_if_ne (tgt := 36) dX10_cell_23 rfl (fun c => ?_) (fun c => ?_)
    · have hT := hT.1 c
      refine x_iload_n dX10_cell_36 rfl rfl ?_
      refine x_if_lt (tgt := 50) dX10_cell_37 rfl (fun c => ?_) (fun c => ?_)
      · have hT := hT.1 c
        refine x_iconst (v := 0) dX10_cell_50 rfl ?_
        exact x_iret dX10_cell_51 rfl rfl ⟨_, _, rfl, hW, hF, hT⟩
      · have hT := hT.2 c
        refine x_iload_n dX10_cell_40 rfl rfl ?_
        refine x_aload_n dX10_cell_41 rfl rfl rfl ?_
        refine x_iload dX10_cell_42 rfl ?_
        refine m_inv (vs := [.int y3]) dX10_cell_44 oX10_sizeAt q2735 q2733 qs107 rfl rfl (Nat.le_of_ble_eq_true rfl) rfl hW hF hT ?_
        rintro _ s4 ⟨v5, rfl, hT⟩ h hW hF
        refine x_icmp_lt (tgt := 52) dX10_cell_47 rfl (fun c => ?_) (fun c => ?_)
        · have hT := hT.1 c
          refine x_iload dX10_cell_52 rfl ?_
          refine x_iconst (v := 1) dX10_cell_54 rfl ?_
          refine x_icmp_ne (tgt := 70) dX10_cell_55 rfl (fun c => ?_) (fun c => ?_)
          · have hT := hT.1 c
            refine x_iload dX10_cell_70 rfl ?_
            refine x_iconst (v := 3) dX10_cell_72 rfl ?_
            refine x_icmp_ne (tgt := 100) dX10_cell_73 rfl (fun c => ?_) (fun c => ?_)
            · have hT := hT.1 c
              refine x_aload_n dX10_cell_100 rfl rfl rfl ?_
              refine x_iload dX10_cell_101 rfl ?_
              refine x_iload_n dX10_cell_103 rfl rfl ?_
              refine m_inv (vs := [.int y3, .int x2]) dX10_cell_104 oX10_partAt q2751 q2749 qs111 rfl rfl (Nat.le_of_ble_eq_true rfl) rfl hW hF hT ?_
              rintro _ s6 ⟨v7, rfl, hT⟩ h hW hF
              refine x_istore (lo' := [some (.ref w.1), some (.int x1), some (.int x2), some (.int x3), some (.int v2), some (.int y3), some (.int v7)]) dX10_cell_107 (Nat.le_of_ble_eq_true rfl) rfl ?_
              refine x_aload_n dX10_cell_109 rfl rfl rfl ?_
              refine m_geta dX10_cell_110 f_TallySlateModel_183 (by decide) rfl hW ?_
              refine x_iload dX10_cell_113 rfl ?_
              obtain ⟨hb, hT⟩ := hT
              refine m_iald (v := (s6.2.2.1 104 v7.toNatClampNeg)) dX10_cell_115 rfl hb hW rfl ?_
              refine x_iconst (v := 1) dX10_cell_116 rfl ?_
              refine x_icmp_ne (tgt := 148) dX10_cell_117 rfl (fun c => ?_) (fun c => ?_)
              · have hT := hT.1 c
                refine x_iconst (v := 0) dX10_cell_148 rfl ?_
                exact x_iret dX10_cell_149 rfl rfl ⟨_, _, rfl, hW, hF, hT⟩
              · have hT := hT.2 c
                refine x_iload_n dX10_cell_120 rfl rfl ?_
                refine x_if_lt (tgt := 148) dX10_cell_121 rfl (fun c => ?_) (fun c => ?_)
                · have hT := hT.1 c
                  refine x_iconst (v := 0) dX10_cell_148 rfl ?_
                  exact x_iret dX10_cell_149 rfl rfl ⟨_, _, rfl, hW, hF, hT⟩
                · have hT := hT.2 c
                  refine x_iload_n dX10_cell_124 rfl rfl ?_
                  refine x_aload_n dX10_cell_125 rfl rfl rfl ?_
                  refine x_iload dX10_cell_126 rfl ?_
                  refine m_inv (vs := [.int v7]) dX10_cell_128 oX10_sizeAt q2735 q2733 qs107 rfl rfl (Nat.le_of_ble_eq_true rfl) rfl hW hF hT ?_
                  rintro _ s8 ⟨v9, rfl, hT⟩ h hW hF
                  refine x_icmp_ge (tgt := 148) dX10_cell_131 rfl (fun c => ?_) (fun c => ?_)
                  · have hT := hT.1 c
                    refine x_iconst (v := 0) dX10_cell_148 rfl ?_
                    exact x_iret dX10_cell_149 rfl rfl ⟨_, _, rfl, hW, hF, hT⟩
                  · have hT := hT.2 c
                    refine x_aload_n dX10_cell_134 rfl rfl rfl ?_
                    refine m_geta dX10_cell_135 f_TallySlateModel_183 (by decide) rfl hW ?_
                    refine x_iload dX10_cell_138 rfl ?_
                    refine x_iconst (v := 2) dX10_cell_140 rfl ?_
                    refine x_iadd dX10_cell_141 ?_
                    refine x_iload_n dX10_cell_142 rfl rfl ?_
                    refine x_iadd dX10_cell_143 ?_
                    obtain ⟨hb, hT⟩ := hT
                    refine m_iald (v := (s8.2.2.1 104 ((v7 + 2) + x3).toNatClampNeg)) dX10_cell_144 rfl hb hW rfl ?_
                    refine x_goto (tgt := 149) dX10_cell_145 rfl ?_
                    exact x_iret dX10_cell_149 rfl rfl ⟨_, _, rfl, hW, hF, hT⟩
            · have hT := hT.2 c
              refine x_aload_n dX10_cell_76 rfl rfl rfl ?_
              refine x_iload dX10_cell_77 rfl ?_
              refine x_iload_n dX10_cell_79 rfl rfl ?_
              refine m_inv (vs := [.int y3, .int x2]) dX10_cell_80 oX10_isInt q2759 q2757 qs113 rfl rfl (Nat.le_of_ble_eq_true rfl) rfl hW hF hT ?_
              rintro _ s10 ⟨v11, rfl, hT⟩ h hW hF
              refine x_if_eq (tgt := 100) dX10_cell_83 rfl (fun c => ?_) (fun c => ?_)
              · have hT := hT.1 c
                refine x_aload_n dX10_cell_100 rfl rfl rfl ?_
                refine x_iload dX10_cell_101 rfl ?_
                refine x_iload_n dX10_cell_103 rfl rfl ?_
                refine m_inv (vs := [.int y3, .int x2]) dX10_cell_104 oX10_partAt q2751 q2749 qs111 rfl rfl (Nat.le_of_ble_eq_true rfl) rfl hW hF hT ?_
                rintro _ s12 ⟨v13, rfl, hT⟩ h hW hF
                refine x_istore (lo' := [some (.ref w.1), some (.int x1), some (.int x2), some (.int x3), some (.int v2), some (.int y3), some (.int v13)]) dX10_cell_107 (Nat.le_of_ble_eq_true rfl) rfl ?_
                refine x_aload_n dX10_cell_109 rfl rfl rfl ?_
                refine m_geta dX10_cell_110 f_TallySlateModel_183 (by decide) rfl hW ?_
                refine x_iload dX10_cell_113 rfl ?_
                obtain ⟨hb, hT⟩ := hT
                refine m_iald (v := (s12.2.2.1 104 v13.toNatClampNeg)) dX10_cell_115 rfl hb hW rfl ?_
                refine x_iconst (v := 1) dX10_cell_116 rfl ?_
                refine x_icmp_ne (tgt := 148) dX10_cell_117 rfl (fun c => ?_) (fun c => ?_)
                · have hT := hT.1 c
                  refine x_iconst (v := 0) dX10_cell_148 rfl ?_
                  exact x_iret dX10_cell_149 rfl rfl ⟨_, _, rfl, hW, hF, hT⟩
                · have hT := hT.2 c
                  refine x_iload_n dX10_cell_120 rfl rfl ?_
                  refine x_if_lt (tgt := 148) dX10_cell_121 rfl (fun c => ?_) (fun c => ?_)
                  · have hT := hT.1 c
                    refine x_iconst (v := 0) dX10_cell_148 rfl ?_
                    exact x_iret dX10_cell_149 rfl rfl ⟨_, _, rfl, hW, hF, hT⟩
                  · have hT := hT.2 c
                    refine x_iload_n dX10_cell_124 rfl rfl ?_
                    refine x_aload_n dX10_cell_125 rfl rfl rfl ?_
                    refine x_iload dX10_cell_126 rfl ?_
                    refine m_inv (vs := [.int v13]) dX10_cell_128 oX10_sizeAt q2735 q2733 qs107 rfl rfl (Nat.le_of_ble_eq_true rfl) rfl hW hF hT ?_
                    rintro _ s14 ⟨v15, rfl, hT⟩ h hW hF
                    refine x_icmp_ge (tgt := 148) dX10_cell_131 rfl (fun c => ?_) (fun c => ?_)
                    · have hT := hT.1 c
                      refine x_iconst (v := 0) dX10_cell_148 rfl ?_
                      exact x_iret dX10_cell_149 rfl rfl ⟨_, _, rfl, hW, hF, hT⟩
                    · have hT := hT.2 c
                      refine x_aload_n dX10_cell_134 rfl rfl rfl ?_
                      refine m_geta dX10_cell_135 f_TallySlateModel_183 (by decide) rfl hW ?_
                      refine x_iload dX10_cell_138 rfl ?_
                      refine x_iconst (v := 2) dX10_cell_140 rfl ?_
                      refine x_iadd dX10_cell_141 ?_
                      refine x_iload_n dX10_cell_142 rfl rfl ?_
                      refine x_iadd dX10_cell_143 ?_
                      obtain ⟨hb, hT⟩ := hT
                      refine m_iald (v := (s14.2.2.1 104 ((v13 + 2) + x3).toNatClampNeg)) dX10_cell_144 rfl hb hW rfl ?_
                      refine x_goto (tgt := 149) dX10_cell_145 rfl ?_
                      exact x_iret dX10_cell_149 rfl rfl ⟨_, _, rfl, hW, hF, hT⟩
              · have hT := hT.2 c
                refine x_aload_n dX10_cell_86 rfl rfl rfl ?_
                refine m_geta dX10_cell_87 f_TallySlateModel_183 (by decide) rfl hW ?_
                refine x_iload dX10_cell_90 rfl ?_
                refine x_iconst (v := 3) dX10_cell_92 rfl ?_
                refine x_iadd dX10_cell_93 ?_
                refine x_iconst (v := 2) dX10_cell_94 rfl ?_
                refine x_iload_n dX10_cell_95 rfl rfl ?_
                refine x_imul dX10_cell_96 ?_
                refine x_iadd dX10_cell_97 ?_
                obtain ⟨hb, hT⟩ := hT
                refine m_iald (v := (s10.2.2.1 104 ((y3 + 3) + (2 * x2)).toNatClampNeg)) dX10_cell_98 rfl hb hW rfl ?_
                exact x_iret dX10_cell_99 rfl rfl ⟨_, _, rfl, hW, hF, hT⟩
          · have hT := hT.2 c
            refine x_aload_n dX10_cell_58 rfl rfl rfl ?_
            refine m_geta dX10_cell_59 f_TallySlateModel_183 (by decide) rfl hW ?_
            refine x_iload dX10_cell_62 rfl ?_
            refine x_iconst (v := 2) dX10_cell_64 rfl ?_
            refine x_iadd dX10_cell_65 ?_
            refine x_iload_n dX10_cell_66 rfl rfl ?_
            refine x_iadd dX10_cell_67 ?_
            obtain ⟨hb, hT⟩ := hT
            refine m_iald (v := (s4.2.2.1 104 ((y3 + 2) + x2).toNatClampNeg)) dX10_cell_68 rfl hb hW rfl ?_
            exact x_iret dX10_cell_69 rfl rfl ⟨_, _, rfl, hW, hF, hT⟩
        · have hT := hT.2 c
          refine x_iconst (v := 0) dX10_cell_50 rfl ?_
          exact x_iret dX10_cell_51 rfl rfl ⟨_, _, rfl, hW, hF, hT⟩
    · have hT := hT.2 c
      refine x_aload_n dX10_cell_26 rfl rfl rfl ?_
      refine m_geta dX10_cell_27 f_TallySlateModel_183 (by decide) rfl hW ?_
      refine x_iload dX10_cell_30 rfl ?_
      refine x_iconst (v := 1) dX10_cell_32 rfl ?_
      refine x_iadd dX10_cell_33 ?_
      obtain ⟨hb, hT⟩ := hT
      refine m_iald (v := (s1.2.2.1 104 (y3 + 1).toNatClampNeg)) dX10_cell_34 rfl hb hW rfl ?_
      exact x_iret dX10_cell_35 rfl rfl ⟨_, _, rfl, hW, hF, hT⟩
  · have hT := hT.2 c
    refine x_iconst (v := 0) dX10_cell_12 rfl ?_
    exact x_iret dX10_cell_13 rfl rfl ⟨_, _, rfl, hW, hF, hT⟩
theorem eX10_cell {l : Launch} {E : EN} {w : MO} {d : Nat} {s : MS} {Q : Option Value → MS → Prop} {x1 : Int32} {x2 : Int32} {x3 : Int32} (hst : l.stackTraces = false) (hT : (EvM l E w d MX10_kind [.ref w.1, .int x1] s (fun r s1 => ∃ v2 : Int32, r = some (.int v2) ∧ ((0 ≤ v2 → (∀ y3 : Int32, y3 = (2410 * x1) → ((¬ v2 = 0 → ((x2 < 0 → Q (some (.int 0)) s1) ∧ (¬ x2 < 0 → (EvM l E w d MX10_sizeAt [.ref w.1, .int y3] s1 (fun r s4 => ∃ v5 : Int32, r = some (.int v5) ∧ ((x2 < v5 → ((¬ v2 = 1 → ((¬ v2 = 3 → (EvM l E w d MX10_partAt [.ref w.1, .int y3, .int x2] s4 (fun r s6 => ∃ v7 : Int32, r = some (.int v7) ∧ (inB v7 166300 ∧ ((¬ (s6.2.2.1 104 v7.toNatClampNeg) = 1 → Q (some (.int 0)) s6) ∧ ((s6.2.2.1 104 v7.toNatClampNeg) = 1 → ((x3 < 0 → Q (some (.int 0)) s6) ∧ (¬ x3 < 0 → (EvM l E w d MX10_sizeAt [.ref w.1, .int v7] s6 (fun r s8 => ∃ v9 : Int32, r = some (.int v9) ∧ ((v9 ≤ x3 → Q (some (.int 0)) s8) ∧ (¬ v9 ≤ x3 → (inB ((v7 + 2) + x3) 166300 ∧ Q (some (.int (s8.2.2.1 104 ((v7 + 2) + x3).toNatClampNeg))) s8))))))))))))) ∧ (v2 = 3 → (EvM l E w d MX10_isInt [.ref w.1, .int y3, .int x2] s4 (fun r s10 => ∃ v11 : Int32, r = some (.int v11) ∧ ((v11 = 0 → (EvM l E w d MX10_partAt [.ref w.1, .int y3, .int x2] s10 (fun r s12 => ∃ v13 : Int32, r = some (.int v13) ∧ (inB v13 166300 ∧ ((¬ (s12.2.2.1 104 v13.toNatClampNeg) = 1 → Q (some (.int 0)) s12) ∧ ((s12.2.2.1 104 v13.toNatClampNeg) = 1 → ((x3 < 0 → Q (some (.int 0)) s12) ∧ (¬ x3 < 0 → (EvM l E w d MX10_sizeAt [.ref w.1, .int v13] s12 (fun r s14 => ∃ v15 : Int32, r = some (.int v15) ∧ ((v15 ≤ x3 → Q (some (.int 0)) s14) ∧ (¬ v15 ≤ x3 → (inB ((v13 + 2) + x3) 166300 ∧ Q (some (.int (s14.2.2.1 104 ((v13 + 2) + x3).toNatClampNeg))) s14))))))))))))) ∧ (¬ v11 = 0 → (inB ((y3 + 3) + (2 * x2)) 166300 ∧ Q (some (.int (s10.2.2.1 104 ((y3 + 3) + (2 * x2)).toNatClampNeg))) s10)))))))) ∧ (v2 = 1 → (inB ((y3 + 2) + x2) 166300 ∧ Q (some (.int (s4.2.2.1 104 ((y3 + 2) + x2).toNatClampNeg))) s4)))) ∧ (¬ x2 < v5 → Q (some (.int 0)) s4))))))) ∧ (v2 = 0 → (inB (y3 + 1) 166300 ∧ Q (some (.int (s1.2.2.1 104 (y3 + 1).toNatClampNeg))) s1))))) ∧ (¬ 0 ≤ v2 → Q (some (.int 0)) s1))))) : EvM l E w (d + 1) MX10_cell [.ref w.1, .int x1, .int x2, .int x3] s Q :=
  EvM.of hst (by decide) (Nat.le_of_ble_eq_true rfl) (vX10_cell_0 hT)
set_option maxHeartbeats 16000000 in
theorem vX10_same_0 {l : Launch} {E : EN} {w : MO} {d : Nat} {s : MS} {Q : Option Value → MS → Prop} {x1 : Int32} {x2 : Int32} (hT : (EvM l E w d MX10_isShelfAt [.int x1] s (fun r s1 => ∃ v2 : Int32, r = some (.int v2) ∧ ((v2 = 0 → Q (some (.int 0)) s1) ∧ (¬ v2 = 0 → (EvM l E w d MX10_isShelfAt [.int x2] s1 (fun r s3 => ∃ v4 : Int32, r = some (.int v4) ∧ ((¬ v4 = 0 → (∀ y5 : Int32, y5 = (2410 * x1) → (∀ y6 : Int32, y6 = (2410 * x2) → (inB y5 166300 ∧ (((s3.2.2.1 104 y5.toNatClampNeg) ≤ 0 → (inB y5 166300 ∧ (inB y6 166300 ∧ ((¬ (s3.2.2.1 104 y5.toNatClampNeg) = (s3.2.2.1 104 y6.toNatClampNeg) → Q (some (.int 0)) s3) ∧ ((s3.2.2.1 104 y5.toNatClampNeg) = (s3.2.2.1 104 y6.toNatClampNeg) → (inB y5 166300 ∧ (((s3.2.2.1 104 y5.toNatClampNeg) < 0 → Q (some (.int 1)) s3) ∧ (¬ (s3.2.2.1 104 y5.toNatClampNeg) < 0 → (inB (y5 + 1) 166300 ∧ (inB (y6 + 1) 166300 ∧ ((¬ (s3.2.2.1 104 (y5 + 1).toNatClampNeg) = (s3.2.2.1 104 (y6 + 1).toNatClampNeg) → Q (some (.int 0)) s3) ∧ ((s3.2.2.1 104 (y5 + 1).toNatClampNeg) = (s3.2.2.1 104 (y6 + 1).toNatClampNeg) → Q (some (.int 1)) s3)))))))))))) ∧ (¬ (s3.2.2.1 104 y5.toNatClampNeg) ≤ 0 → (inB y6 166300 ∧ ((0 < (s3.2.2.1 104 y6.toNatClampNeg) → (EvM l E w d MX10_areSame [.ref w.1, .int y5, .int y6] s3 (fun r s7 => ∃ v8 : Int32, r = some (.int v8) ∧ (narrow .boolean (.int v8) = .int v8 ∧ Q (some (.int v8)) s7)))) ∧ (¬ 0 < (s3.2.2.1 104 y6.toNatClampNeg) → (inB y5 166300 ∧ (inB y6 166300 ∧ ((¬ (s3.2.2.1 104 y5.toNatClampNeg) = (s3.2.2.1 104 y6.toNatClampNeg) → Q (some (.int 0)) s3) ∧ ((s3.2.2.1 104 y5.toNatClampNeg) = (s3.2.2.1 104 y6.toNatClampNeg) → (inB y5 166300 ∧ (((s3.2.2.1 104 y5.toNatClampNeg) < 0 → Q (some (.int 1)) s3) ∧ (¬ (s3.2.2.1 104 y5.toNatClampNeg) < 0 → (inB (y5 + 1) 166300 ∧ (inB (y6 + 1) 166300 ∧ ((¬ (s3.2.2.1 104 (y5 + 1).toNatClampNeg) = (s3.2.2.1 104 (y6 + 1).toNatClampNeg) → Q (some (.int 0)) s3) ∧ ((s3.2.2.1 104 (y5 + 1).toNatClampNeg) = (s3.2.2.1 104 (y6 + 1).toNatClampNeg) → Q (some (.int 1)) s3)))))))))))))))))))) ∧ (v4 = 0 → Q (some (.int 0)) s3))))))))) : ExM l E w (d + 1) MX10_same 0 [some (.ref w.1), some (.int x1), some (.int x2), none, none] [] s Q := by
  intro h0 h hW hF
  refine x_iload_n dX10_same_0 rfl rfl ?_
  refine m_invS (vs := [.int x1]) dX10_same_1 oX10_isShelfAt q2967 q2966 rfl rfl (Nat.le_of_ble_eq_true rfl) rfl hW hF hT ?_
  rintro _ s1 ⟨v2, rfl, hT⟩ h hW hF
  refine x_if_eq (tgt := 14) dX10_same_4 rfl (fun c => ?_) (fun c => ?_)
  · have hT := hT.1 c
    refine x_iconst (v := 0) dX10_same_14 rfl ?_
    exact x_iret dX10_same_15 rfl rfl ⟨_, _, rfl, hW, hF, hT⟩
  · have hT := hT.2 c
    refine x_iload_n dX10_same_7 rfl rfl ?_
    refine m_invS (vs := [.int x2]) dX10_same_8 oX10_isShelfAt q2967 q2966 rfl rfl (Nat.le_of_ble_eq_true rfl) rfl hW hF hT ?_
    rintro _ s3 ⟨v4, rfl, hT⟩ h hW hF
    refine x_if_ne (tgt := 16) dX10_same_11 rfl (fun c => ?_) (fun c => ?_)
    · have hT := hT.1 c
      refine x_sipush (v := 2410) dX10_same_16 rfl ?_
      refine x_iload_n dX10_same_19 rfl rfl ?_
      refine x_imul dX10_same_20 ?_
      obtain ⟨y5, ey5⟩ : ∃ z : Int32, z = (2410 * x1) := ⟨_, rfl⟩
      have hT := hT y5 ey5
      refine x_istore_n (lo' := [some (.ref w.1), some (.int x1), some (.int x2), some (.int y5), none]) dX10_same_21 rfl (Nat.le_of_ble_eq_true rfl) (by rw [ey5]; rfl) ?_
      refine x_sipush (v := 2410) dX10_same_22 rfl ?_
      refine x_iload_n dX10_same_25 rfl rfl ?_
      refine x_imul dX10_same_26 ?_
      obtain ⟨y6, ey6⟩ : ∃ z : Int32, z = (2410 * x2) := ⟨_, rfl⟩
      have hT := hT y6 ey6
      refine x_istore (lo' := [some (.ref w.1), some (.int x1), some (.int x2), some (.int y5), some (.int y6)]) dX10_same_27 (Nat.le_of_ble_eq_true rfl) (by rw [ey6]; rfl) ?_
      refine x_aload_n dX10_same_29 rfl rfl rfl ?_
      refine m_geta dX10_same_30 f_TallySlateModel_183 (by decide) rfl hW ?_
      refine x_iload_n dX10_same_33 rfl rfl ?_
      obtain ⟨hb, hT⟩ := hT
      refine m_iald (v := (s3.2.2.1 104 y5.toNatClampNeg)) dX10_same_34 rfl hb hW rfl ?_
      refine x_if_le (tgt := 48) dX10_same_35 rfl (fun c => ?_) (fun c => ?_)
      · have hT := hT.1 c
        refine x_aload_n dX10_same_48 rfl rfl rfl ?_
        refine m_geta dX10_same_49 f_TallySlateModel_183 (by decide) rfl hW ?_
        refine x_iload_n dX10_same_52 rfl rfl ?_
        obtain ⟨hb, hT⟩ := hT
        refine m_iald (v := (s3.2.2.1 104 y5.toNatClampNeg)) dX10_same_53 rfl hb hW rfl ?_
        refine x_aload_n dX10_same_54 rfl rfl rfl ?_
        refine m_geta dX10_same_55 f_TallySlateModel_183 (by decide) rfl hW ?_
        refine x_iload dX10_same_58 rfl ?_
        obtain ⟨hb, hT⟩ := hT
        refine m_iald (v := (s3.2.2.1 104 y6.toNatClampNeg)) dX10_same_60 rfl hb hW rfl ?_
        refine x_icmp_ne (tgt := 97) dX10_same_61 rfl (fun c => ?_) (fun c => ?_)
        · have hT := hT.1 c
          refine x_iconst (v := 0) dX10_same_97 rfl ?_
          exact x_iret dX10_same_98 rfl rfl ⟨_, _, rfl, hW, hF, hT⟩
        · have hT := hT.2 c
          refine x_aload_n dX10_same_64 rfl rfl rfl ?_
          refine m_geta dX10_same_65 f_TallySlateModel_183 (by decide) rfl hW ?_
          refine x_iload_n dX10_same_68 rfl rfl ?_
          obtain ⟨hb, hT⟩ := hT
          refine m_iald (v := (s3.2.2.1 104 y5.toNatClampNeg)) dX10_same_69 rfl hb hW rfl ?_
          refine x_if_lt (tgt := 93) dX10_same_70 rfl (fun c => ?_) (fun c => ?_)
          · have hT := hT.1 c
            refine x_iconst (v := 1) dX10_same_93 rfl ?_
            refine x_goto (tgt := 98) dX10_same_94 rfl ?_
            exact x_iret dX10_same_98 rfl rfl ⟨_, _, rfl, hW, hF, hT⟩
          · have hT := hT.2 c
            refine x_aload_n dX10_same_73 rfl rfl rfl ?_
            refine m_geta dX10_same_74 f_TallySlateModel_183 (by decide) rfl hW ?_
            refine x_iload_n dX10_same_77 rfl rfl ?_
            refine x_iconst (v := 1) dX10_same_78 rfl ?_
            refine x_iadd dX10_same_79 ?_
            obtain ⟨hb, hT⟩ := hT
            refine m_iald (v := (s3.2.2.1 104 (y5 + 1).toNatClampNeg)) dX10_same_80 rfl hb hW rfl ?_
            refine x_aload_n dX10_same_81 rfl rfl rfl ?_
            refine m_geta dX10_same_82 f_TallySlateModel_183 (by decide) rfl hW ?_
            refine x_iload dX10_same_85 rfl ?_
            refine x_iconst (v := 1) dX10_same_87 rfl ?_
            refine x_iadd dX10_same_88 ?_
            obtain ⟨hb, hT⟩ := hT
            refine m_iald (v := (s3.2.2.1 104 (y6 + 1).toNatClampNeg)) dX10_same_89 rfl hb hW rfl ?_
            refine x_icmp_ne (tgt := 97) dX10_same_90 rfl (fun c => ?_) (fun c => ?_)
            · have hT := hT.1 c
              refine x_iconst (v := 0) dX10_same_97 rfl ?_
              exact x_iret dX10_same_98 rfl rfl ⟨_, _, rfl, hW, hF, hT⟩
            · have hT := hT.2 c
              refine x_iconst (v := 1) dX10_same_93 rfl ?_
              refine x_goto (tgt := 98) dX10_same_94 rfl ?_
              exact x_iret dX10_same_98 rfl rfl ⟨_, _, rfl, hW, hF, hT⟩
      · have hT := hT.2 c
        refine x_aload_n dX10_same_38 rfl rfl rfl ?_
        refine m_geta dX10_same_39 f_TallySlateModel_183 (by decide) rfl hW ?_
        refine x_iload dX10_same_42 rfl ?_
        obtain ⟨hb, hT⟩ := hT
        refine m_iald (v := (s3.2.2.1 104 y6.toNatClampNeg)) dX10_same_44 rfl hb hW rfl ?_
        refine x_if_gt (tgt := 99) dX10_same_45 rfl (fun c => ?_) (fun c => ?_)
        · have hT := hT.1 c
          refine x_aload_n dX10_same_99 rfl rfl rfl ?_
          refine x_iload_n dX10_same_100 rfl rfl ?_
          refine x_iload dX10_same_101 rfl ?_
          refine m_inv (vs := [.int y5, .int y6]) dX10_same_103 oX10_areSame q2879 q2877 qs140 rfl rfl (Nat.le_of_ble_eq_true rfl) rfl hW hF hT ?_
          rintro _ s7 ⟨v8, rfl, hT⟩ h hW hF
          exact x_iret dX10_same_106 rfl hT.1 ⟨_, _, rfl, hW, hF, hT.2⟩
        · have hT := hT.2 c
          refine x_aload_n dX10_same_48 rfl rfl rfl ?_
          refine m_geta dX10_same_49 f_TallySlateModel_183 (by decide) rfl hW ?_
          refine x_iload_n dX10_same_52 rfl rfl ?_
          obtain ⟨hb, hT⟩ := hT
          refine m_iald (v := (s3.2.2.1 104 y5.toNatClampNeg)) dX10_same_53 rfl hb hW rfl ?_
          refine x_aload_n dX10_same_54 rfl rfl rfl ?_
          refine m_geta dX10_same_55 f_TallySlateModel_183 (by decide) rfl hW ?_
          refine x_iload dX10_same_58 rfl ?_
          obtain ⟨hb, hT⟩ := hT
          refine m_iald (v := (s3.2.2.1 104 y6.toNatClampNeg)) dX10_same_60 rfl hb hW rfl ?_
          refine x_icmp_ne (tgt := 97) dX10_same_61 rfl (fun c => ?_) (fun c => ?_)
          · have hT := hT.1 c
            refine x_iconst (v := 0) dX10_same_97 rfl ?_
            exact x_iret dX10_same_98 rfl rfl ⟨_, _, rfl, hW, hF, hT⟩
          · have hT := hT.2 c
            refine x_aload_n dX10_same_64 rfl rfl rfl ?_
            refine m_geta dX10_same_65 f_TallySlateModel_183 (by decide) rfl hW ?_
            refine x_iload_n dX10_same_68 rfl rfl ?_
            obtain ⟨hb, hT⟩ := hT
            refine m_iald (v := (s3.2.2.1 104 y5.toNatClampNeg)) dX10_same_69 rfl hb hW rfl ?_
            refine x_if_lt (tgt := 93) dX10_same_70 rfl (fun c => ?_) (fun c => ?_)
            · have hT := hT.1 c
              refine x_iconst (v := 1) dX10_same_93 rfl ?_
              refine x_goto (tgt := 98) dX10_same_94 rfl ?_
              exact x_iret dX10_same_98 rfl rfl ⟨_, _, rfl, hW, hF, hT⟩
            · have hT := hT.2 c
              refine x_aload_n dX10_same_73 rfl rfl rfl ?_
              refine m_geta dX10_same_74 f_TallySlateModel_183 (by decide) rfl hW ?_
              refine x_iload_n dX10_same_77 rfl rfl ?_
              refine x_iconst (v := 1) dX10_same_78 rfl ?_
              refine x_iadd dX10_same_79 ?_
              obtain ⟨hb, hT⟩ := hT
              refine m_iald (v := (s3.2.2.1 104 (y5 + 1).toNatClampNeg)) dX10_same_80 rfl hb hW rfl ?_
              refine x_aload_n dX10_same_81 rfl rfl rfl ?_
              refine m_geta dX10_same_82 f_TallySlateModel_183 (by decide) rfl hW ?_
              refine x_iload dX10_same_85 rfl ?_
              refine x_iconst (v := 1) dX10_same_87 rfl ?_
              refine x_iadd dX10_same_88 ?_
              obtain ⟨hb, hT⟩ := hT
              refine m_iald (v := (s3.2.2.1 104 (y6 + 1).toNatClampNeg)) dX10_same_89 rfl hb hW rfl ?_
              refine x_icmp_ne (tgt := 97) dX10_same_90 rfl (fun c => ?_) (fun c => ?_)
              · have hT := hT.1 c
                refine x_iconst (v := 0) dX10_same_97 rfl ?_
                exact x_iret dX10_same_98 rfl rfl ⟨_, _, rfl, hW, hF, hT⟩
              · have hT := hT.2 c
                refine x_iconst (v := 1) dX10_same_93 rfl ?_
                refine x_goto (tgt := 98) dX10_same_94 rfl ?_
                exact x_iret dX10_same_98 rfl rfl ⟨_, _, rfl, hW, hF, hT⟩
    · have hT := hT.2 c
      refine x_iconst (v := 0) dX10_same_14 rfl ?_
      exact x_iret dX10_same_15 rfl rfl ⟨_, _, rfl, hW, hF, hT⟩
theorem eX10_same {l : Launch} {E : EN} {w : MO} {d : Nat} {s : MS} {Q : Option Value → MS → Prop} {x1 : Int32} {x2 : Int32} (hst : l.stackTraces = false) (hT : (EvM l E w d MX10_isShelfAt [.int x1] s (fun r s1 => ∃ v2 : Int32, r = some (.int v2) ∧ ((v2 = 0 → Q (some (.int 0)) s1) ∧ (¬ v2 = 0 → (EvM l E w d MX10_isShelfAt [.int x2] s1 (fun r s3 => ∃ v4 : Int32, r = some (.int v4) ∧ ((¬ v4 = 0 → (∀ y5 : Int32, y5 = (2410 * x1) → (∀ y6 : Int32, y6 = (2410 * x2) → (inB y5 166300 ∧ (((s3.2.2.1 104 y5.toNatClampNeg) ≤ 0 → (inB y5 166300 ∧ (inB y6 166300 ∧ ((¬ (s3.2.2.1 104 y5.toNatClampNeg) = (s3.2.2.1 104 y6.toNatClampNeg) → Q (some (.int 0)) s3) ∧ ((s3.2.2.1 104 y5.toNatClampNeg) = (s3.2.2.1 104 y6.toNatClampNeg) → (inB y5 166300 ∧ (((s3.2.2.1 104 y5.toNatClampNeg) < 0 → Q (some (.int 1)) s3) ∧ (¬ (s3.2.2.1 104 y5.toNatClampNeg) < 0 → (inB (y5 + 1) 166300 ∧ (inB (y6 + 1) 166300 ∧ ((¬ (s3.2.2.1 104 (y5 + 1).toNatClampNeg) = (s3.2.2.1 104 (y6 + 1).toNatClampNeg) → Q (some (.int 0)) s3) ∧ ((s3.2.2.1 104 (y5 + 1).toNatClampNeg) = (s3.2.2.1 104 (y6 + 1).toNatClampNeg) → Q (some (.int 1)) s3)))))))))))) ∧ (¬ (s3.2.2.1 104 y5.toNatClampNeg) ≤ 0 → (inB y6 166300 ∧ ((0 < (s3.2.2.1 104 y6.toNatClampNeg) → (EvM l E w d MX10_areSame [.ref w.1, .int y5, .int y6] s3 (fun r s7 => ∃ v8 : Int32, r = some (.int v8) ∧ (narrow .boolean (.int v8) = .int v8 ∧ Q (some (.int v8)) s7)))) ∧ (¬ 0 < (s3.2.2.1 104 y6.toNatClampNeg) → (inB y5 166300 ∧ (inB y6 166300 ∧ ((¬ (s3.2.2.1 104 y5.toNatClampNeg) = (s3.2.2.1 104 y6.toNatClampNeg) → Q (some (.int 0)) s3) ∧ ((s3.2.2.1 104 y5.toNatClampNeg) = (s3.2.2.1 104 y6.toNatClampNeg) → (inB y5 166300 ∧ (((s3.2.2.1 104 y5.toNatClampNeg) < 0 → Q (some (.int 1)) s3) ∧ (¬ (s3.2.2.1 104 y5.toNatClampNeg) < 0 → (inB (y5 + 1) 166300 ∧ (inB (y6 + 1) 166300 ∧ ((¬ (s3.2.2.1 104 (y5 + 1).toNatClampNeg) = (s3.2.2.1 104 (y6 + 1).toNatClampNeg) → Q (some (.int 0)) s3) ∧ ((s3.2.2.1 104 (y5 + 1).toNatClampNeg) = (s3.2.2.1 104 (y6 + 1).toNatClampNeg) → Q (some (.int 1)) s3)))))))))))))))))))) ∧ (v4 = 0 → Q (some (.int 0)) s3))))))))) : EvM l E w (d + 1) MX10_same [.ref w.1, .int x1, .int x2] s Q :=
  EvM.of hst (by decide) (Nat.le_of_ble_eq_true rfl) (vX10_same_0 hT)
theorem vX10_mark_0 {l : Launch} {E : EN} {w : MO} {d : Nat} {s : MS} {Q : Option Value → MS → Prop}  (hT : ((¬ (s.1 145) = 6 → ExM l E w (d + 1) MX10_mark 48 [some (.ref w.1), some (.int 0)] [] s Q) ∧ ((s.1 145) = 6 → ExM l E w (d + 1) MX10_mark 12 [some (.ref w.1), some (.int 8)] [] s Q))) : ExM l E w (d + 1) MX10_mark 0 [some (.ref w.1), none] [] s Q := by
  intro h0 h hW hF
  refine x_aload_n dX10_mark_0 rfl rfl rfl ?_
  refine m_geti (v := (s.1 145)) dX10_mark_1 f_TallySlateModel_730 (by decide) rfl hW rfl ?_
  refine x_bipush (v := 6) dX10_mark_4 rfl ?_
  refine x_icmp_ne (tgt := 46) dX10_mark_6 rfl (fun c => ?_) (fun c => ?_)
  · have hT := hT.1 c
    refine x_iconst (v := 0) dX10_mark_46 rfl ?_
    refine x_istore_n (lo' := [some (.ref w.1), some (.int 0)]) dX10_mark_47 rfl (Nat.le_of_ble_eq_true rfl) rfl ?_
    exact hT h0 h hW hF
  · have hT := hT.2 c
    refine x_bipush (v := 8) dX10_mark_9 rfl ?_
    refine x_istore_n (lo' := [some (.ref w.1), some (.int 8)]) dX10_mark_11 rfl (Nat.le_of_ble_eq_true rfl) rfl ?_
    exact hT h0 h hW hF
theorem eX10_mark {l : Launch} {E : EN} {w : MO} {d : Nat} {s : MS} {Q : Option Value → MS → Prop}  (hst : l.stackTraces = false) (hT : ((¬ (s.1 145) = 6 → ExM l E w (d + 1) MX10_mark 48 [some (.ref w.1), some (.int 0)] [] s Q) ∧ ((s.1 145) = 6 → ExM l E w (d + 1) MX10_mark 12 [some (.ref w.1), some (.int 8)] [] s Q))) : EvM l E w (d + 1) MX10_mark [.ref w.1] s Q :=
  EvM.of hst (by decide) (Nat.le_of_ble_eq_true rfl) (vX10_mark_0 hT)
theorem vX10_mark_48 {l : Launch} {E : EN} {w : MO} {d : Nat} {s : MS} {Q : Option Value → MS → Prop} {a1 : Int32} (hT : ((8 ≤ a1 → Q (some (.int ((s.1 145) + 1))) (sI s 145 ((s.1 145) + 1))) ∧ (¬ 8 ≤ a1 → (EvM l E w d MX10_copy [.ref w.1, .int (2410 * a1), .int (2410 * ((8 + (8 * (s.1 145))) + a1))] s (fun r s1 => r = none ∧ ExM l E w (d + 1) MX10_mark 48 [some (.ref w.1), some (.int (a1 + 1))] [] s1 Q))))) : ExM l E w (d + 1) MX10_mark 48 [some (.ref w.1), some (.int a1)] [] s Q := by
  intro h0 h hW hF
  refine x_iload_n dX10_mark_48 rfl rfl ?_
  refine x_bipush (v := 8) dX10_mark_49 rfl ?_
  refine x_icmp_ge (tgt := 85) dX10_mark_51 rfl (fun c => ?_) (fun c => ?_)
  · have hT := hT.1 c
    refine x_aload_n dX10_mark_85 rfl rfl rfl ?_
    refine x_dup dX10_mark_86 rfl ?_
    refine m_geti (v := (s.1 145)) dX10_mark_87 f_TallySlateModel_730 (by decide) rfl hW rfl ?_
    refine x_iconst (v := 1) dX10_mark_90 rfl ?_
    refine x_iadd dX10_mark_91 ?_
    refine m_puti dX10_mark_92 f_TallySlateModel_730 (by decide) rfl rfl rfl rfl hW hF ?_
    intro h hW hF
    refine x_aload_n dX10_mark_95 rfl rfl rfl ?_
    refine m_geti (v := ((s.1 145) + 1)) dX10_mark_96 f_TallySlateModel_730 (by decide) rfl hW rfl ?_
    exact x_iret dX10_mark_99 rfl rfl ⟨_, _, rfl, hW, hF, hT⟩
  · have hT := hT.2 c
    refine x_aload_n dX10_mark_54 rfl rfl rfl ?_
    refine x_sipush (v := 2410) dX10_mark_55 rfl ?_
    refine x_iload_n dX10_mark_58 rfl rfl ?_
    refine x_imul dX10_mark_59 ?_
    refine x_sipush (v := 2410) dX10_mark_60 rfl ?_
    refine x_bipush (v := 8) dX10_mark_63 rfl ?_
    refine x_bipush (v := 8) dX10_mark_65 rfl ?_
    refine x_aload_n dX10_mark_67 rfl rfl rfl ?_
    refine m_geti (v := (s.1 145)) dX10_mark_68 f_TallySlateModel_730 (by decide) rfl hW rfl ?_
    refine x_imul dX10_mark_71 ?_
    refine x_iadd dX10_mark_72 ?_
    refine x_iload_n dX10_mark_73 rfl rfl ?_
    refine x_iadd dX10_mark_74 ?_
    refine x_imul dX10_mark_75 ?_
    refine m_inv (vs := [.int (2410 * a1), .int (2410 * ((8 + (8 * (s.1 145))) + a1))]) dX10_mark_76 oX10_copy q2948 q2946 qs157 rfl rfl (Nat.le_of_ble_eq_true rfl) rfl hW hF hT ?_
    rintro _ s1 ⟨rfl, hT⟩ h hW hF
    refine x_iinc (lo' := [some (.ref w.1), some (.int (a1 + 1))]) dX10_mark_79 rfl (show _ = (a1 + 1) from rfl) rfl ?_
    refine x_goto (tgt := 48) dX10_mark_82 rfl ?_
    exact hT h0 h hW hF
theorem vX10_mark_12 {l : Launch} {E : EN} {w : MO} {d : Nat} {s : MS} {Q : Option Value → MS → Prop} {a1 : Int32} (hT : ((48 ≤ a1 → ExM l E w (d + 1) MX10_mark 48 [some (.ref w.1), some (.int 0)] [] (sI s 145 5) Q) ∧ (¬ 48 ≤ a1 → (EvM l E w d MX10_copy [.ref w.1, .int (2410 * (a1 + 8)), .int (2410 * a1)] s (fun r s1 => r = none ∧ ExM l E w (d + 1) MX10_mark 12 [some (.ref w.1), some (.int (a1 + 1))] [] s1 Q))))) : ExM l E w (d + 1) MX10_mark 12 [some (.ref w.1), some (.int a1)] [] s Q := by
  intro h0 h hW hF
  refine x_iload_n dX10_mark_12 rfl rfl ?_
  refine x_bipush (v := 48) dX10_mark_13 rfl ?_
  refine x_icmp_ge (tgt := 41) dX10_mark_15 rfl (fun c => ?_) (fun c => ?_)
  · have hT := hT.1 c
    refine x_aload_n dX10_mark_41 rfl rfl rfl ?_
    refine x_iconst (v := 5) dX10_mark_42 rfl ?_
    refine m_puti dX10_mark_43 f_TallySlateModel_730 (by decide) rfl rfl rfl rfl hW hF ?_
    intro h hW hF
    refine x_iconst (v := 0) dX10_mark_46 rfl ?_
    refine x_istore_n (lo' := [some (.ref w.1), some (.int 0)]) dX10_mark_47 rfl (Nat.le_of_ble_eq_true rfl) rfl ?_
    exact hT h0 h hW hF
  · have hT := hT.2 c
    refine x_aload_n dX10_mark_18 rfl rfl rfl ?_
    refine x_sipush (v := 2410) dX10_mark_19 rfl ?_
    refine x_iload_n dX10_mark_22 rfl rfl ?_
    refine x_bipush (v := 8) dX10_mark_23 rfl ?_
    refine x_iadd dX10_mark_25 ?_
    refine x_imul dX10_mark_26 ?_
    refine x_sipush (v := 2410) dX10_mark_27 rfl ?_
    refine x_iload_n dX10_mark_30 rfl rfl ?_
    refine x_imul dX10_mark_31 ?_
    refine m_inv (vs := [.int (2410 * (a1 + 8)), .int (2410 * a1)]) dX10_mark_32 oX10_copy q2948 q2946 qs157 rfl rfl (Nat.le_of_ble_eq_true rfl) rfl hW hF hT ?_
    rintro _ s1 ⟨rfl, hT⟩ h hW hF
    refine x_iinc (lo' := [some (.ref w.1), some (.int (a1 + 1))]) dX10_mark_35 rfl (show _ = (a1 + 1) from rfl) rfl ?_
    refine x_goto (tgt := 12) dX10_mark_38 rfl ?_
    exact hT h0 h hW hF
theorem vX10_back_0 {l : Launch} {E : EN} {w : MO} {d : Nat} {s : MS} {Q : Option Value → MS → Prop}  (hT : ((¬ (s.1 145) = 0 → ExM l E w (d + 1) MX10_back 21 [some (.ref w.1), some (.int 0)] [] (sI s 145 ((s.1 145) - 1)) Q) ∧ ((s.1 145) = 0 → Q (some (.int 0)) s))) : ExM l E w (d + 1) MX10_back 0 [some (.ref w.1), none] [] s Q := by
  intro h0 h hW hF
  refine x_aload_n dX10_back_0 rfl rfl rfl ?_
  refine m_geti (v := (s.1 145)) dX10_back_1 f_TallySlateModel_730 (by decide) rfl hW rfl ?_
  refine x_if_ne (tgt := 9) dX10_back_4 rfl (fun c => ?_) (fun c => ?_)
  · have hT := hT.1 c
    refine x_aload_n dX10_back_9 rfl rfl rfl ?_
    refine x_dup dX10_back_10 rfl ?_
    refine m_geti (v := (s.1 145)) dX10_back_11 f_TallySlateModel_730 (by decide) rfl hW rfl ?_
    refine x_iconst (v := 1) dX10_back_14 rfl ?_
    refine x_isub dX10_back_15 ?_
    refine m_puti dX10_back_16 f_TallySlateModel_730 (by decide) rfl rfl rfl rfl hW hF ?_
    intro h hW hF
    refine x_iconst (v := 0) dX10_back_19 rfl ?_
    refine x_istore_n (lo' := [some (.ref w.1), some (.int 0)]) dX10_back_20 rfl (Nat.le_of_ble_eq_true rfl) rfl ?_
    exact hT h0 h hW hF
  · have hT := hT.2 c
    refine x_iconst (v := 0) dX10_back_7 rfl ?_
    exact x_iret dX10_back_8 rfl rfl ⟨_, _, rfl, hW, hF, hT⟩
theorem eX10_back {l : Launch} {E : EN} {w : MO} {d : Nat} {s : MS} {Q : Option Value → MS → Prop}  (hst : l.stackTraces = false) (hT : ((¬ (s.1 145) = 0 → ExM l E w (d + 1) MX10_back 21 [some (.ref w.1), some (.int 0)] [] (sI s 145 ((s.1 145) - 1)) Q) ∧ ((s.1 145) = 0 → Q (some (.int 0)) s))) : EvM l E w (d + 1) MX10_back [.ref w.1] s Q :=
  EvM.of hst (by decide) (Nat.le_of_ble_eq_true rfl) (vX10_back_0 hT)
theorem vX10_back_21 {l : Launch} {E : EN} {w : MO} {d : Nat} {s : MS} {Q : Option Value → MS → Prop} {a1 : Int32} (hT : ((8 ≤ a1 → Q (some (.int 1)) s) ∧ (¬ 8 ≤ a1 → (EvM l E w d MX10_copy [.ref w.1, .int (2410 * ((8 + (8 * (s.1 145))) + a1)), .int (2410 * a1)] s (fun r s1 => r = none ∧ ExM l E w (d + 1) MX10_back 21 [some (.ref w.1), some (.int (a1 + 1))] [] s1 Q))))) : ExM l E w (d + 1) MX10_back 21 [some (.ref w.1), some (.int a1)] [] s Q := by
  intro h0 h hW hF
  refine x_iload_n dX10_back_21 rfl rfl ?_
  refine x_bipush (v := 8) dX10_back_22 rfl ?_
  refine x_icmp_ge (tgt := 58) dX10_back_24 rfl (fun c => ?_) (fun c => ?_)
  · have hT := hT.1 c
    refine x_iconst (v := 1) dX10_back_58 rfl ?_
    exact x_iret dX10_back_59 rfl rfl ⟨_, _, rfl, hW, hF, hT⟩
  · have hT := hT.2 c
    refine x_aload_n dX10_back_27 rfl rfl rfl ?_
    refine x_sipush (v := 2410) dX10_back_28 rfl ?_
    refine x_bipush (v := 8) dX10_back_31 rfl ?_
    refine x_bipush (v := 8) dX10_back_33 rfl ?_
    refine x_aload_n dX10_back_35 rfl rfl rfl ?_
    refine m_geti (v := (s.1 145)) dX10_back_36 f_TallySlateModel_730 (by decide) rfl hW rfl ?_
    refine x_imul dX10_back_39 ?_
    refine x_iadd dX10_back_40 ?_
    refine x_iload_n dX10_back_41 rfl rfl ?_
    refine x_iadd dX10_back_42 ?_
    refine x_imul dX10_back_43 ?_
    refine x_sipush (v := 2410) dX10_back_44 rfl ?_
    refine x_iload_n dX10_back_47 rfl rfl ?_
    refine x_imul dX10_back_48 ?_
    refine m_inv (vs := [.int (2410 * ((8 + (8 * (s.1 145))) + a1)), .int (2410 * a1)]) dX10_back_49 oX10_copy q2948 q2946 qs157 rfl rfl (Nat.le_of_ble_eq_true rfl) rfl hW hF hT ?_
    rintro _ s1 ⟨rfl, hT⟩ h hW hF
    refine x_iinc (lo' := [some (.ref w.1), some (.int (a1 + 1))]) dX10_back_52 rfl (show _ = (a1 + 1) from rfl) rfl ?_
    refine x_goto (tgt := 21) dX10_back_55 rfl ?_
    exact hT h0 h hW hF
theorem vX10_sum_0 {l : Launch} {E : EN} {w : MO} {d : Nat} {s : MS} {Q : Option Value → MS → Prop}  (hT : ExM l E w (d + 1) MX10_sum 7 [some (.ref w.1), some (.int 0)] [] (sL s 146 0) Q) : ExM l E w (d + 1) MX10_sum 0 [some (.ref w.1), none] [] s Q := by
  intro h0 h hW hF
  refine x_aload_n dX10_sum_0 rfl rfl rfl ?_
  refine x_lconst (v := 0) dX10_sum_1 rfl ?_
  refine m_putl dX10_sum_2 f_TallySlateModel_733 (by decide) rfl rfl rfl rfl hW hF ?_
  intro h hW hF
  refine x_iconst (v := 0) dX10_sum_5 rfl ?_
  refine x_istore_n (lo' := [some (.ref w.1), some (.int 0)]) dX10_sum_6 rfl (Nat.le_of_ble_eq_true rfl) rfl ?_
  exact hT h0 h hW hF
theorem eX10_sum {l : Launch} {E : EN} {w : MO} {d : Nat} {s : MS} {Q : Option Value → MS → Prop}  (hst : l.stackTraces = false) (hT : ExM l E w (d + 1) MX10_sum 7 [some (.ref w.1), some (.int 0)] [] (sL s 146 0) Q) : EvM l E w (d + 1) MX10_sum [.ref w.1] s Q :=
  EvM.of hst (by decide) (Nat.le_of_ble_eq_true rfl) (vX10_sum_0 hT)
set_option maxHeartbeats 16000000 in
theorem vX10_sum_7 {l : Launch} {E : EN} {w : MO} {d : Nat} {s : MS} {Q : Option Value → MS → Prop} {a1 : Int32} (hT : ((8 ≤ a1 → Q (some (.long (s.2.1 146))) s) ∧ (¬ 8 ≤ a1 → (inB (2410 * a1) 166300 ∧ ((¬ (s.2.2.1 104 (2410 * a1).toNatClampNeg) = (-1) → (inB (2410 * a1) 166300 ∧ ((¬ (s.2.2.1 104 (2410 * a1).toNatClampNeg) = 0 → (EvM l E w d MX10_mixThing [.ref w.1, .int (2410 * a1)] s (fun r s1 => r = none ∧ ExM l E w (d + 1) MX10_sum 7 [some (.ref w.1), some (.int (a1 + 1))] [] s1 Q))) ∧ ((s.2.2.1 104 (2410 * a1).toNatClampNeg) = 0 → (EvM l E w d MX10_mix [.ref w.1, .int 0] s (fun r s2 => r = none ∧ (inB ((2410 * a1) + 1) 166300 ∧ (EvM l E w d MX10_mix [.ref w.1, .int (s2.2.2.1 104 ((2410 * a1) + 1).toNatClampNeg)] s2 (fun r s3 => r = none ∧ ExM l E w (d + 1) MX10_sum 7 [some (.ref w.1), some (.int (a1 + 1))] [] s3 Q))))))))) ∧ ((s.2.2.1 104 (2410 * a1).toNatClampNeg) = (-1) → (EvM l E w d MX10_mix [.ref w.1, .int (-1)] s (fun r s4 => r = none ∧ ExM l E w (d + 1) MX10_sum 7 [some (.ref w.1), some (.int (a1 + 1))] [] s4 Q)))))))) : ExM l E w (d + 1) MX10_sum 7 [some (.ref w.1), some (.int a1)] [] s Q := by
  intro h0 h hW hF
  refine x_iload_n dX10_sum_7 rfl rfl ?_
  refine x_bipush (v := 8) dX10_sum_8 rfl ?_
  refine x_icmp_ge (tgt := 87) dX10_sum_10 rfl (fun c => ?_) (fun c => ?_)
  · have hT := hT.1 c
    refine x_aload_n dX10_sum_87 rfl rfl rfl ?_
    refine m_getl (v := (s.2.1 146)) dX10_sum_88 f_TallySlateModel_733 (by decide) rfl hW rfl ?_
    exact x_lret dX10_sum_91 rfl ⟨_, _, rfl, hW, hF, hT⟩
  · have hT := hT.2 c
    refine x_aload_n dX10_sum_13 rfl rfl rfl ?_
    refine m_geta dX10_sum_14 f_TallySlateModel_183 (by decide) rfl hW ?_
    refine x_sipush (v := 2410) dX10_sum_17 rfl ?_
    refine x_iload_n dX10_sum_20 rfl rfl ?_
    refine x_imul dX10_sum_21 ?_
    obtain ⟨hb, hT⟩ := hT
    refine m_iald (v := (s.2.2.1 104 (2410 * a1).toNatClampNeg)) dX10_sum_22 rfl hb hW rfl ?_
    refine x_iconst (v := (-1)) dX10_sum_23 rfl ?_
    refine x_icmp_ne (tgt := 35) dX10_sum_24 rfl (fun c => ?_) (fun c => ?_)
    · have hT := hT.1 c
      refine x_aload_n dX10_sum_35 rfl rfl rfl ?_
      refine m_geta dX10_sum_36 f_TallySlateModel_183 (by decide) rfl hW ?_
      refine x_sipush (v := 2410) dX10_sum_39 rfl ?_
      refine x_iload_n dX10_sum_42 rfl rfl ?_
      refine x_imul dX10_sum_43 ?_
      obtain ⟨hb, hT⟩ := hT
      refine m_iald (v := (s.2.2.1 104 (2410 * a1).toNatClampNeg)) dX10_sum_44 rfl hb hW rfl ?_
      refine x_if_ne (tgt := 72) dX10_sum_45 rfl (fun c => ?_) (fun c => ?_)
      · have hT := hT.1 c
        refine x_aload_n dX10_sum_72 rfl rfl rfl ?_
        refine x_sipush (v := 2410) dX10_sum_73 rfl ?_
        refine x_iload_n dX10_sum_76 rfl rfl ?_
        refine x_imul dX10_sum_77 ?_
        refine m_inv (vs := [.int (2410 * a1)]) dX10_sum_78 oX10_mixThing q3017 q3015 qs159 rfl rfl (Nat.le_of_ble_eq_true rfl) rfl hW hF hT ?_
        rintro _ s1 ⟨rfl, hT⟩ h hW hF
        refine x_iinc (lo' := [some (.ref w.1), some (.int (a1 + 1))]) dX10_sum_81 rfl (show _ = (a1 + 1) from rfl) rfl ?_
        refine x_goto (tgt := 7) dX10_sum_84 rfl ?_
        exact hT h0 h hW hF
      · have hT := hT.2 c
        refine x_aload_n dX10_sum_48 rfl rfl rfl ?_
        refine x_iconst (v := 0) dX10_sum_49 rfl ?_
        refine m_inv (vs := [.int 0]) dX10_sum_50 oX10_mix q3012 q3010 qs158 rfl rfl (Nat.le_of_ble_eq_true rfl) rfl hW hF hT ?_
        rintro _ s2 ⟨rfl, hT⟩ h hW hF
        refine x_aload_n dX10_sum_53 rfl rfl rfl ?_
        refine x_aload_n dX10_sum_54 rfl rfl rfl ?_
        refine m_geta dX10_sum_55 f_TallySlateModel_183 (by decide) rfl hW ?_
        refine x_sipush (v := 2410) dX10_sum_58 rfl ?_
        refine x_iload_n dX10_sum_61 rfl rfl ?_
        refine x_imul dX10_sum_62 ?_
        refine x_iconst (v := 1) dX10_sum_63 rfl ?_
        refine x_iadd dX10_sum_64 ?_
        obtain ⟨hb, hT⟩ := hT
        refine m_iald (v := (s2.2.2.1 104 ((2410 * a1) + 1).toNatClampNeg)) dX10_sum_65 rfl hb hW rfl ?_
        refine m_inv (vs := [.int (s2.2.2.1 104 ((2410 * a1) + 1).toNatClampNeg)]) dX10_sum_66 oX10_mix q3012 q3010 qs158 rfl rfl (Nat.le_of_ble_eq_true rfl) rfl hW hF hT ?_
        rintro _ s3 ⟨rfl, hT⟩ h hW hF
        refine x_goto (tgt := 81) dX10_sum_69 rfl ?_
        refine x_iinc (lo' := [some (.ref w.1), some (.int (a1 + 1))]) dX10_sum_81 rfl (show _ = (a1 + 1) from rfl) rfl ?_
        refine x_goto (tgt := 7) dX10_sum_84 rfl ?_
        exact hT h0 h hW hF
    · have hT := hT.2 c
      refine x_aload_n dX10_sum_27 rfl rfl rfl ?_
      refine x_iconst (v := (-1)) dX10_sum_28 rfl ?_
      refine m_inv (vs := [.int (-1)]) dX10_sum_29 oX10_mix q3012 q3010 qs158 rfl rfl (Nat.le_of_ble_eq_true rfl) rfl hW hF hT ?_
      rintro _ s4 ⟨rfl, hT⟩ h hW hF
      refine x_goto (tgt := 81) dX10_sum_32 rfl ?_
      refine x_iinc (lo' := [some (.ref w.1), some (.int (a1 + 1))]) dX10_sum_81 rfl (show _ = (a1 + 1) from rfl) rfl ?_
      refine x_goto (tgt := 7) dX10_sum_84 rfl ?_
      exact hT h0 h hW hF
theorem vX10_mix_0 {l : Launch} {E : EN} {w : MO} {d : Nat} {s : MS} {Q : Option Value → MS → Prop} {x1 : Int32} (hT : Q none (sL s 146 (((s.2.1 146) * 1000003) ^^^ x1.toInt64))) : ExM l E w d MX10_mix 0 [some (.ref w.1), some (.int x1)] [] s Q := by
  intro h0 h hW hF
  refine x_aload_n dX10_mix_0 rfl rfl rfl ?_
  refine x_aload_n dX10_mix_1 rfl rfl rfl ?_
  refine m_getl (v := (s.2.1 146)) dX10_mix_2 f_TallySlateModel_733 (by decide) rfl hW rfl ?_
  refine x_ldc2 dX10_mix_5 q3014 ?_
  refine x_lmul dX10_mix_8 ?_
  refine x_iload_n dX10_mix_9 rfl rfl ?_
  refine x_i2l dX10_mix_10 ?_
  refine x_lxor dX10_mix_11 ?_
  refine m_putl dX10_mix_12 f_TallySlateModel_733 (by decide) rfl rfl rfl rfl hW hF ?_
  intro h hW hF
  exact x_vret dX10_mix_15 rfl ⟨_, _, rfl, hW, hF, hT⟩
theorem eX10_mix {l : Launch} {E : EN} {w : MO} {d : Nat} {s : MS} {Q : Option Value → MS → Prop} {x1 : Int32} (hst : l.stackTraces = false) (hT : Q none (sL s 146 (((s.2.1 146) * 1000003) ^^^ x1.toInt64))) : EvM l E w d MX10_mix [.ref w.1, .int x1] s Q :=
  EvM.of hst (by decide) (Nat.le_of_ble_eq_true rfl) (vX10_mix_0 hT)
theorem vX10_mixThing_0 {l : Launch} {E : EN} {w : MO} {d : Nat} {s : MS} {Q : Option Value → MS → Prop} {x1 : Int32} (hT : (inB x1 166300 ∧ (((s.2.2.1 104 x1.toNatClampNeg) = 3 → (EvM l E w d MX10_mix [.ref w.1, .int 3] s (fun r s1 => r = none ∧ (EvM l E w d MX10_sizeAt [.ref w.1, .int x1] s1 (fun r s2 => ∃ v3 : Int32, r = some (.int v3) ∧ (EvM l E w d MX10_mix [.ref w.1, .int v3] s2 (fun r s4 => r = none ∧ (EvM l E w d MX10_goesIn [.ref w.1, .int x1, .int 0] (sI s4 112 0) (fun r s5 => r = none ∧ ExM l E w (d + 1) MX10_mixThing 41 [some (.ref w.1), none, none, none] [] s5 Q))))))))) ∧ (¬ (s.2.2.1 104 x1.toNatClampNeg) = 3 → (EvM l E w d MX10_mixPlain [.ref w.1, .int x1] s (fun r s6 => r = none ∧ Q none s6)))))) : ExM l E w (d + 1) MX10_mixThing 0 [some (.ref w.1), some (.int x1), none, none] [] s Q := by
  intro h0 h hW hF
  refine x_aload_n dX10_mixThing_0 rfl rfl rfl ?_
  refine m_geta dX10_mixThing_1 f_TallySlateModel_183 (by decide) rfl hW ?_
  refine x_iload_n dX10_mixThing_4 rfl rfl ?_
  obtain ⟨hb, hT⟩ := hT
  refine m_iald (v := (s.2.2.1 104 x1.toNatClampNeg)) dX10_mixThing_5 rfl hb hW rfl ?_
  refine x_iconst (v := 3) dX10_mixThing_6 rfl ?_
  refine x_icmp_eq (tgt := 16) dX10_mixThing_7 rfl (fun c => ?_) (fun c => ?_)
  · have hT := hT.1 c
    refine x_aload_n dX10_mixThing_16 rfl rfl rfl ?_
    refine x_iconst (v := 3) dX10_mixThing_17 rfl ?_
    refine m_inv (vs := [.int 3]) dX10_mixThing_18 oX10_mix q3012 q3010 qs158 rfl rfl (Nat.le_of_ble_eq_true rfl) rfl hW hF hT ?_
    rintro _ s1 ⟨rfl, hT⟩ h hW hF
    refine x_aload_n dX10_mixThing_21 rfl rfl rfl ?_
    refine x_aload_n dX10_mixThing_22 rfl rfl rfl ?_
    refine x_iload_n dX10_mixThing_23 rfl rfl ?_
    refine m_inv (vs := [.int x1]) dX10_mixThing_24 oX10_sizeAt q2735 q2733 qs107 rfl rfl (Nat.le_of_ble_eq_true rfl) rfl hW hF hT ?_
    rintro _ s2 ⟨v3, rfl, hT⟩ h hW hF
    refine m_inv (vs := [.int v3]) dX10_mixThing_27 oX10_mix q3012 q3010 qs158 rfl rfl (Nat.le_of_ble_eq_true rfl) rfl hW hF hT ?_
    rintro _ s4 ⟨rfl, hT⟩ h hW hF
    refine x_aload_n dX10_mixThing_30 rfl rfl rfl ?_
    refine x_iconst (v := 0) dX10_mixThing_31 rfl ?_
    refine m_puti dX10_mixThing_32 f_TallySlateModel_474 (by decide) rfl rfl rfl rfl hW hF ?_
    intro h hW hF
    refine x_aload_n dX10_mixThing_35 rfl rfl rfl ?_
    refine x_iload_n dX10_mixThing_36 rfl rfl ?_
    refine x_iconst (v := 0) dX10_mixThing_37 rfl ?_
    refine m_inv (vs := [.int x1, .int 0]) dX10_mixThing_38 oX10_goesIn q2755 q2753 qs112 rfl rfl (Nat.le_of_ble_eq_true rfl) rfl hW hF hT ?_
    rintro _ s5 ⟨rfl, hT⟩ h hW hF
    refine Ex.wkl (lo' := [some (.ref w.1), none, none, none]) ⟨rfl, trivial⟩ ?_
    exact hT h0 h hW hF
  · have hT := hT.2 c
    refine x_aload_n dX10_mixThing_10 rfl rfl rfl ?_
    refine x_iload_n dX10_mixThing_11 rfl rfl ?_
    refine m_inv (vs := [.int x1]) dX10_mixThing_12 oX10_mixPlain q3021 q3019 qs160 rfl rfl (Nat.le_of_ble_eq_true rfl) rfl hW hF hT ?_
    rintro _ s6 ⟨rfl, hT⟩ h hW hF
    exact x_vret dX10_mixThing_15 rfl ⟨_, _, rfl, hW, hF, hT⟩
theorem eX10_mixThing {l : Launch} {E : EN} {w : MO} {d : Nat} {s : MS} {Q : Option Value → MS → Prop} {x1 : Int32} (hst : l.stackTraces = false) (hT : (inB x1 166300 ∧ (((s.2.2.1 104 x1.toNatClampNeg) = 3 → (EvM l E w d MX10_mix [.ref w.1, .int 3] s (fun r s1 => r = none ∧ (EvM l E w d MX10_sizeAt [.ref w.1, .int x1] s1 (fun r s2 => ∃ v3 : Int32, r = some (.int v3) ∧ (EvM l E w d MX10_mix [.ref w.1, .int v3] s2 (fun r s4 => r = none ∧ (EvM l E w d MX10_goesIn [.ref w.1, .int x1, .int 0] (sI s4 112 0) (fun r s5 => r = none ∧ ExM l E w (d + 1) MX10_mixThing 41 [some (.ref w.1), none, none, none] [] s5 Q))))))))) ∧ (¬ (s.2.2.1 104 x1.toNatClampNeg) = 3 → (EvM l E w d MX10_mixPlain [.ref w.1, .int x1] s (fun r s6 => r = none ∧ Q none s6)))))) : EvM l E w (d + 1) MX10_mixThing [.ref w.1, .int x1] s Q :=
  EvM.of hst (by decide) (Nat.le_of_ble_eq_true rfl) (vX10_mixThing_0 hT)
set_option maxHeartbeats 16000000 in
theorem vX10_mixThing_41 {l : Launch} {E : EN} {w : MO} {d : Nat} {s : MS} {Q : Option Value → MS → Prop}  (hT : (((s.1 112) ≤ 0 → Q none s) ∧ (¬ (s.1 112) ≤ 0 → (inB ((s.1 112) - 1) 8 ∧ (∀ y1 : Int32, y1 = (s.2.2.1 109 ((s.1 112) - 1).toNatClampNeg) → (inB ((s.1 112) - 1) 8 ∧ (∀ y2 : Int32, y2 = (s.2.2.1 111 ((s.1 112) - 1).toNatClampNeg) → (EvM l E w d MX10_sizeAt [.ref w.1, .int y1] s (fun r s3 => ∃ v4 : Int32, r = some (.int v4) ∧ ((¬ y2 = v4 → (inB ((s3.1 112) - 1) 8 ∧ (inB ((s3.1 112) - 1) 8 ∧ (EvM l E w d MX10_isInt [.ref w.1, .int y1, .int y2] (sA s3 111 ((s3.1 112) - 1).toNatClampNeg ((s3.2.2.1 111 ((s3.1 112) - 1).toNatClampNeg) + 1)) (fun r s5 => ∃ v6 : Int32, r = some (.int v6) ∧ ((v6 = 0 → (EvM l E w d MX10_partAt [.ref w.1, .int y1, .int y2] s5 (fun r s7 => ∃ v8 : Int32, r = some (.int v8) ∧ (inB v8 166300 ∧ ((¬ (s7.2.2.1 104 v8.toNatClampNeg) = 3 → (EvM l E w d MX10_partAt [.ref w.1, .int y1, .int y2] s7 (fun r s9 => ∃ v10 : Int32, r = some (.int v10) ∧ (EvM l E w d MX10_mixPlain [.ref w.1, .int v10] s9 (fun r s11 => r = none ∧ ExM l E w (d + 1) MX10_mixThing 41 [some (.ref w.1), none, none, none] [] s11 Q))))) ∧ ((s7.2.2.1 104 v8.toNatClampNeg) = 3 → (EvM l E w d MX10_mix [.ref w.1, .int 3] s7 (fun r s12 => r = none ∧ (EvM l E w d MX10_partAt [.ref w.1, .int y1, .int y2] s12 (fun r s13 => ∃ v14 : Int32, r = some (.int v14) ∧ (EvM l E w d MX10_sizeAt [.ref w.1, .int v14] s13 (fun r s15 => ∃ v16 : Int32, r = some (.int v16) ∧ (EvM l E w d MX10_mix [.ref w.1, .int v16] s15 (fun r s17 => r = none ∧ (EvM l E w d MX10_partAt [.ref w.1, .int y1, .int y2] s17 (fun r s18 => ∃ v19 : Int32, r = some (.int v19) ∧ (EvM l E w d MX10_goesIn [.ref w.1, .int v19, .int 0] s18 (fun r s20 => r = none ∧ ExM l E w (d + 1) MX10_mixThing 41 [some (.ref w.1), none, none, none] [] s20 Q)))))))))))))))))) ∧ (¬ v6 = 0 → (EvM l E w d MX10_mix [.ref w.1, .int 0] s5 (fun r s21 => r = none ∧ (inB ((y1 + 3) + (2 * y2)) 166300 ∧ (EvM l E w d MX10_mix [.ref w.1, .int (s21.2.2.1 104 ((y1 + 3) + (2 * y2)).toNatClampNeg)] s21 (fun r s22 => r = none ∧ ExM l E w (d + 1) MX10_mixThing 41 [some (.ref w.1), none, none, none] [] s22 Q)))))))))))) ∧ (y2 = v4 → ExM l E w (d + 1) MX10_mixThing 41 [some (.ref w.1), none, none, none] [] (sI s3 112 ((s3.1 112) - 1)) Q))))))))))) : ExM l E w (d + 1) MX10_mixThing 41 [some (.ref w.1), none, none, none] [] s Q := by
  intro h0 h hW hF
  refine x_aload_n dX10_mixThing_41 rfl rfl rfl ?_
  refine m_geti (v := (s.1 112)) dX10_mixThing_42 f_TallySlateModel_474 (by decide) rfl hW rfl ?_
  refine x_if_le (tgt := 203) dX10_mixThing_45 rfl (fun c => ?_) (fun c => ?_)
  · have hT := hT.1 c
    exact x_vret dX10_mixThing_203 rfl ⟨_, _, rfl, hW, hF, hT⟩
  · have hT := hT.2 c
    refine x_aload_n dX10_mixThing_48 rfl rfl rfl ?_
    refine m_geta dX10_mixThing_49 f_TallySlateModel_192 (by decide) rfl hW ?_
    refine x_aload_n dX10_mixThing_52 rfl rfl rfl ?_
    refine m_geti (v := (s.1 112)) dX10_mixThing_53 f_TallySlateModel_474 (by decide) rfl hW rfl ?_
    refine x_iconst (v := 1) dX10_mixThing_56 rfl ?_
    refine x_isub dX10_mixThing_57 ?_
    obtain ⟨hb, hT⟩ := hT
    refine m_iald (v := (s.2.2.1 109 ((s.1 112) - 1).toNatClampNeg)) dX10_mixThing_58 rfl hb hW rfl ?_
    obtain ⟨y1, ey1⟩ : ∃ z : Int32, z = (s.2.2.1 109 ((s.1 112) - 1).toNatClampNeg) := ⟨_, rfl⟩
    have hT := hT y1 ey1
    refine x_istore_n (lo' := [some (.ref w.1), none, some (.int y1), none]) dX10_mixThing_59 rfl (Nat.le_of_ble_eq_true rfl) (by rw [ey1]; rfl) ?_
    refine x_aload_n dX10_mixThing_60 rfl rfl rfl ?_
    refine m_geta dX10_mixThing_61 f_TallySlateModel_198 (by decide) rfl hW ?_
    refine x_aload_n dX10_mixThing_64 rfl rfl rfl ?_
    refine m_geti (v := (s.1 112)) dX10_mixThing_65 f_TallySlateModel_474 (by decide) rfl hW rfl ?_
    refine x_iconst (v := 1) dX10_mixThing_68 rfl ?_
    refine x_isub dX10_mixThing_69 ?_
    obtain ⟨hb, hT⟩ := hT
    refine m_iald (v := (s.2.2.1 111 ((s.1 112) - 1).toNatClampNeg)) dX10_mixThing_70 rfl hb hW rfl ?_
    obtain ⟨y2, ey2⟩ : ∃ z : Int32, z = (s.2.2.1 111 ((s.1 112) - 1).toNatClampNeg) := ⟨_, rfl⟩
    have hT := hT y2 ey2
    refine x_istore_n (lo' := [some (.ref w.1), none, some (.int y1), some (.int y2)]) dX10_mixThing_71 rfl (Nat.le_of_ble_eq_true rfl) (by rw [ey2]; rfl) ?_
    refine x_iload_n dX10_mixThing_72 rfl rfl ?_
    refine x_aload_n dX10_mixThing_73 rfl rfl rfl ?_
    refine x_iload_n dX10_mixThing_74 rfl rfl ?_
    refine m_inv (vs := [.int y1]) dX10_mixThing_75 oX10_sizeAt q2735 q2733 qs107 rfl rfl (Nat.le_of_ble_eq_true rfl) rfl hW hF hT ?_
    rintro _ s3 ⟨v4, rfl, hT⟩ h hW hF
    refine x_icmp_ne (tgt := 94) dX10_mixThing_78 rfl (fun c => ?_) (fun c => ?_)
    · have hT := hT.1 c
      refine x_aload_n dX10_mixThing_94 rfl rfl rfl ?_
      refine m_geta dX10_mixThing_95 f_TallySlateModel_198 (by decide) rfl hW ?_
      refine x_aload_n dX10_mixThing_98 rfl rfl rfl ?_
      refine m_geti (v := (s3.1 112)) dX10_mixThing_99 f_TallySlateModel_474 (by decide) rfl hW rfl ?_
      refine x_iconst (v := 1) dX10_mixThing_102 rfl ?_
      refine x_isub dX10_mixThing_103 ?_
      refine x_dup2 dX10_mixThing_104 rfl rfl ?_
      obtain ⟨hb, hT⟩ := hT
      refine m_iald (v := (s3.2.2.1 111 ((s3.1 112) - 1).toNatClampNeg)) dX10_mixThing_105 rfl hb hW rfl ?_
      refine x_iconst (v := 1) dX10_mixThing_106 rfl ?_
      refine x_iadd dX10_mixThing_107 ?_
      obtain ⟨hb, hT⟩ := hT
      refine m_iast dX10_mixThing_108 rfl hb hW hF ?_
      intro h hW hF
      refine x_aload_n dX10_mixThing_109 rfl rfl rfl ?_
      refine x_iload_n dX10_mixThing_110 rfl rfl ?_
      refine x_iload_n dX10_mixThing_111 rfl rfl ?_
      refine m_inv (vs := [.int y1, .int y2]) dX10_mixThing_112 oX10_isInt q2759 q2757 qs113 rfl rfl (Nat.le_of_ble_eq_true rfl) rfl hW hF hT ?_
      rintro _ s5 ⟨v6, rfl, hT⟩ h hW hF
      refine x_if_eq (tgt := 142) dX10_mixThing_115 rfl (fun c => ?_) (fun c => ?_)
      · have hT := hT.1 c
        refine x_aload_n dX10_mixThing_142 rfl rfl rfl ?_
        refine m_geta dX10_mixThing_143 f_TallySlateModel_183 (by decide) rfl hW ?_
        refine x_aload_n dX10_mixThing_146 rfl rfl rfl ?_
        refine x_iload_n dX10_mixThing_147 rfl rfl ?_
        refine x_iload_n dX10_mixThing_148 rfl rfl ?_
        refine m_inv (vs := [.int y1, .int y2]) dX10_mixThing_149 oX10_partAt q2751 q2749 qs111 rfl rfl (Nat.le_of_ble_eq_true rfl) rfl hW hF hT ?_
        rintro _ s7 ⟨v8, rfl, hT⟩ h hW hF
        obtain ⟨hb, hT⟩ := hT
        refine m_iald (v := (s7.2.2.1 104 v8.toNatClampNeg)) dX10_mixThing_152 rfl hb hW rfl ?_
        refine x_iconst (v := 3) dX10_mixThing_153 rfl ?_
        refine x_icmp_ne (tgt := 190) dX10_mixThing_154 rfl (fun c => ?_) (fun c => ?_)
        · have hT := hT.1 c
          refine x_aload_n dX10_mixThing_190 rfl rfl rfl ?_
          refine x_aload_n dX10_mixThing_191 rfl rfl rfl ?_
          refine x_iload_n dX10_mixThing_192 rfl rfl ?_
          refine x_iload_n dX10_mixThing_193 rfl rfl ?_
          refine m_inv (vs := [.int y1, .int y2]) dX10_mixThing_194 oX10_partAt q2751 q2749 qs111 rfl rfl (Nat.le_of_ble_eq_true rfl) rfl hW hF hT ?_
          rintro _ s9 ⟨v10, rfl, hT⟩ h hW hF
          refine m_inv (vs := [.int v10]) dX10_mixThing_197 oX10_mixPlain q3021 q3019 qs160 rfl rfl (Nat.le_of_ble_eq_true rfl) rfl hW hF hT ?_
          rintro _ s11 ⟨rfl, hT⟩ h hW hF
          refine x_goto (tgt := 41) dX10_mixThing_200 rfl ?_
          refine Ex.wkl (lo' := [some (.ref w.1), none, none, none]) ⟨rfl, trivial⟩ ?_
          exact hT h0 h hW hF
        · have hT := hT.2 c
          refine x_aload_n dX10_mixThing_157 rfl rfl rfl ?_
          refine x_iconst (v := 3) dX10_mixThing_158 rfl ?_
          refine m_inv (vs := [.int 3]) dX10_mixThing_159 oX10_mix q3012 q3010 qs158 rfl rfl (Nat.le_of_ble_eq_true rfl) rfl hW hF hT ?_
          rintro _ s12 ⟨rfl, hT⟩ h hW hF
          refine x_aload_n dX10_mixThing_162 rfl rfl rfl ?_
          refine x_aload_n dX10_mixThing_163 rfl rfl rfl ?_
          refine x_aload_n dX10_mixThing_164 rfl rfl rfl ?_
          refine x_iload_n dX10_mixThing_165 rfl rfl ?_
          refine x_iload_n dX10_mixThing_166 rfl rfl ?_
          refine m_inv (vs := [.int y1, .int y2]) dX10_mixThing_167 oX10_partAt q2751 q2749 qs111 rfl rfl (Nat.le_of_ble_eq_true rfl) rfl hW hF hT ?_
          rintro _ s13 ⟨v14, rfl, hT⟩ h hW hF
          refine m_inv (vs := [.int v14]) dX10_mixThing_170 oX10_sizeAt q2735 q2733 qs107 rfl rfl (Nat.le_of_ble_eq_true rfl) rfl hW hF hT ?_
          rintro _ s15 ⟨v16, rfl, hT⟩ h hW hF
          refine m_inv (vs := [.int v16]) dX10_mixThing_173 oX10_mix q3012 q3010 qs158 rfl rfl (Nat.le_of_ble_eq_true rfl) rfl hW hF hT ?_
          rintro _ s17 ⟨rfl, hT⟩ h hW hF
          refine x_aload_n dX10_mixThing_176 rfl rfl rfl ?_
          refine x_aload_n dX10_mixThing_177 rfl rfl rfl ?_
          refine x_iload_n dX10_mixThing_178 rfl rfl ?_
          refine x_iload_n dX10_mixThing_179 rfl rfl ?_
          refine m_inv (vs := [.int y1, .int y2]) dX10_mixThing_180 oX10_partAt q2751 q2749 qs111 rfl rfl (Nat.le_of_ble_eq_true rfl) rfl hW hF hT ?_
          rintro _ s18 ⟨v19, rfl, hT⟩ h hW hF
          refine x_iconst (v := 0) dX10_mixThing_183 rfl ?_
          refine m_inv (vs := [.int v19, .int 0]) dX10_mixThing_184 oX10_goesIn q2755 q2753 qs112 rfl rfl (Nat.le_of_ble_eq_true rfl) rfl hW hF hT ?_
          rintro _ s20 ⟨rfl, hT⟩ h hW hF
          refine x_goto (tgt := 200) dX10_mixThing_187 rfl ?_
          refine x_goto (tgt := 41) dX10_mixThing_200 rfl ?_
          refine Ex.wkl (lo' := [some (.ref w.1), none, none, none]) ⟨rfl, trivial⟩ ?_
          exact hT h0 h hW hF
      · have hT := hT.2 c
        refine x_aload_n dX10_mixThing_118 rfl rfl rfl ?_
        refine x_iconst (v := 0) dX10_mixThing_119 rfl ?_
        refine m_inv (vs := [.int 0]) dX10_mixThing_120 oX10_mix q3012 q3010 qs158 rfl rfl (Nat.le_of_ble_eq_true rfl) rfl hW hF hT ?_
        rintro _ s21 ⟨rfl, hT⟩ h hW hF
        refine x_aload_n dX10_mixThing_123 rfl rfl rfl ?_
        refine x_aload_n dX10_mixThing_124 rfl rfl rfl ?_
        refine m_geta dX10_mixThing_125 f_TallySlateModel_183 (by decide) rfl hW ?_
        refine x_iload_n dX10_mixThing_128 rfl rfl ?_
        refine x_iconst (v := 3) dX10_mixThing_129 rfl ?_
        refine x_iadd dX10_mixThing_130 ?_
        refine x_iconst (v := 2) dX10_mixThing_131 rfl ?_
        refine x_iload_n dX10_mixThing_132 rfl rfl ?_
        refine x_imul dX10_mixThing_133 ?_
        refine x_iadd dX10_mixThing_134 ?_
        obtain ⟨hb, hT⟩ := hT
        refine m_iald (v := (s21.2.2.1 104 ((y1 + 3) + (2 * y2)).toNatClampNeg)) dX10_mixThing_135 rfl hb hW rfl ?_
        refine m_inv (vs := [.int (s21.2.2.1 104 ((y1 + 3) + (2 * y2)).toNatClampNeg)]) dX10_mixThing_136 oX10_mix q3012 q3010 qs158 rfl rfl (Nat.le_of_ble_eq_true rfl) rfl hW hF hT ?_
        rintro _ s22 ⟨rfl, hT⟩ h hW hF
        refine x_goto (tgt := 200) dX10_mixThing_139 rfl ?_
        refine x_goto (tgt := 41) dX10_mixThing_200 rfl ?_
        refine Ex.wkl (lo' := [some (.ref w.1), none, none, none]) ⟨rfl, trivial⟩ ?_
        exact hT h0 h hW hF
    · have hT := hT.2 c
      refine x_aload_n dX10_mixThing_81 rfl rfl rfl ?_
      refine x_dup dX10_mixThing_82 rfl ?_
      refine m_geti (v := (s3.1 112)) dX10_mixThing_83 f_TallySlateModel_474 (by decide) rfl hW rfl ?_
      refine x_iconst (v := 1) dX10_mixThing_86 rfl ?_
      refine x_isub dX10_mixThing_87 ?_
      refine m_puti dX10_mixThing_88 f_TallySlateModel_474 (by decide) rfl rfl rfl rfl hW hF ?_
      intro h hW hF
      refine x_goto (tgt := 41) dX10_mixThing_91 rfl ?_
      refine Ex.wkl (lo' := [some (.ref w.1), none, none, none]) ⟨rfl, trivial⟩ ?_
      exact hT h0 h hW hF
theorem vX10_mixPlain_0 {l : Launch} {E : EN} {w : MO} {d : Nat} {s : MS} {Q : Option Value → MS → Prop} {x1 : Int32} (hT : (inB x1 166300 ∧ (EvM l E w d MX10_mix [.ref w.1, .int (s.2.2.1 104 x1.toNatClampNeg)] s (fun r s1 => r = none ∧ (inB x1 166300 ∧ ((¬ (s1.2.2.1 104 x1.toNatClampNeg) = 1 → (EvM l E w d MX10_sizeAt [.ref w.1, .int x1] s1 (fun r s2 => ∃ v3 : Int32, r = some (.int v3) ∧ (EvM l E w d MX10_mix [.ref w.1, .int v3] s2 (fun r s4 => r = none ∧ ExM l E w (d + 1) MX10_mixPlain 37 [some (.ref w.1), some (.int x1), some (.int 0)] [] s4 Q))))) ∧ ((s1.2.2.1 104 x1.toNatClampNeg) = 1 → (EvM l E w d MX10_mixRow [.ref w.1, .int x1] s1 (fun r s5 => r = none ∧ Q none s5))))))))) : ExM l E w (d + 1) MX10_mixPlain 0 [some (.ref w.1), some (.int x1), none] [] s Q := by
  intro h0 h hW hF
  refine x_aload_n dX10_mixPlain_0 rfl rfl rfl ?_
  refine x_aload_n dX10_mixPlain_1 rfl rfl rfl ?_
  refine m_geta dX10_mixPlain_2 f_TallySlateModel_183 (by decide) rfl hW ?_
  refine x_iload_n dX10_mixPlain_5 rfl rfl ?_
  obtain ⟨hb, hT⟩ := hT
  refine m_iald (v := (s.2.2.1 104 x1.toNatClampNeg)) dX10_mixPlain_6 rfl hb hW rfl ?_
  refine m_inv (vs := [.int (s.2.2.1 104 x1.toNatClampNeg)]) dX10_mixPlain_7 oX10_mix q3012 q3010 qs158 rfl rfl (Nat.le_of_ble_eq_true rfl) rfl hW hF hT ?_
  rintro _ s1 ⟨rfl, hT⟩ h hW hF
  refine x_aload_n dX10_mixPlain_10 rfl rfl rfl ?_
  refine m_geta dX10_mixPlain_11 f_TallySlateModel_183 (by decide) rfl hW ?_
  refine x_iload_n dX10_mixPlain_14 rfl rfl ?_
  obtain ⟨hb, hT⟩ := hT
  refine m_iald (v := (s1.2.2.1 104 x1.toNatClampNeg)) dX10_mixPlain_15 rfl hb hW rfl ?_
  refine x_iconst (v := 1) dX10_mixPlain_16 rfl ?_
  refine x_icmp_ne (tgt := 26) dX10_mixPlain_17 rfl (fun c => ?_) (fun c => ?_)
  · have hT := hT.1 c
    refine x_aload_n dX10_mixPlain_26 rfl rfl rfl ?_
    refine x_aload_n dX10_mixPlain_27 rfl rfl rfl ?_
    refine x_iload_n dX10_mixPlain_28 rfl rfl ?_
    refine m_inv (vs := [.int x1]) dX10_mixPlain_29 oX10_sizeAt q2735 q2733 qs107 rfl rfl (Nat.le_of_ble_eq_true rfl) rfl hW hF hT ?_
    rintro _ s2 ⟨v3, rfl, hT⟩ h hW hF
    refine m_inv (vs := [.int v3]) dX10_mixPlain_32 oX10_mix q3012 q3010 qs158 rfl rfl (Nat.le_of_ble_eq_true rfl) rfl hW hF hT ?_
    rintro _ s4 ⟨rfl, hT⟩ h hW hF
    refine x_iconst (v := 0) dX10_mixPlain_35 rfl ?_
    refine x_istore_n (lo' := [some (.ref w.1), some (.int x1), some (.int 0)]) dX10_mixPlain_36 rfl (Nat.le_of_ble_eq_true rfl) rfl ?_
    exact hT h0 h hW hF
  · have hT := hT.2 c
    refine x_aload_n dX10_mixPlain_20 rfl rfl rfl ?_
    refine x_iload_n dX10_mixPlain_21 rfl rfl ?_
    refine m_inv (vs := [.int x1]) dX10_mixPlain_22 oX10_mixRow q3025 q3023 qs161 rfl rfl (Nat.le_of_ble_eq_true rfl) rfl hW hF hT ?_
    rintro _ s5 ⟨rfl, hT⟩ h hW hF
    exact x_vret dX10_mixPlain_25 rfl ⟨_, _, rfl, hW, hF, hT⟩
theorem eX10_mixPlain {l : Launch} {E : EN} {w : MO} {d : Nat} {s : MS} {Q : Option Value → MS → Prop} {x1 : Int32} (hst : l.stackTraces = false) (hT : (inB x1 166300 ∧ (EvM l E w d MX10_mix [.ref w.1, .int (s.2.2.1 104 x1.toNatClampNeg)] s (fun r s1 => r = none ∧ (inB x1 166300 ∧ ((¬ (s1.2.2.1 104 x1.toNatClampNeg) = 1 → (EvM l E w d MX10_sizeAt [.ref w.1, .int x1] s1 (fun r s2 => ∃ v3 : Int32, r = some (.int v3) ∧ (EvM l E w d MX10_mix [.ref w.1, .int v3] s2 (fun r s4 => r = none ∧ ExM l E w (d + 1) MX10_mixPlain 37 [some (.ref w.1), some (.int x1), some (.int 0)] [] s4 Q))))) ∧ ((s1.2.2.1 104 x1.toNatClampNeg) = 1 → (EvM l E w d MX10_mixRow [.ref w.1, .int x1] s1 (fun r s5 => r = none ∧ Q none s5))))))))) : EvM l E w (d + 1) MX10_mixPlain [.ref w.1, .int x1] s Q :=
  EvM.of hst (by decide) (Nat.le_of_ble_eq_true rfl) (vX10_mixPlain_0 hT)
theorem vX10_mixPlain_37 {l : Launch} {E : EN} {w : MO} {d : Nat} {s : MS} {Q : Option Value → MS → Prop} {a1 : Int32} {a2 : Int32} (hT : (EvM l E w d MX10_sizeAt [.ref w.1, .int a1] s (fun r s1 => ∃ v2 : Int32, r = some (.int v2) ∧ ((v2 ≤ a2 → Q none s1) ∧ (¬ v2 ≤ a2 → (EvM l E w d MX10_partAt [.ref w.1, .int a1, .int a2] s1 (fun r s3 => ∃ v4 : Int32, r = some (.int v4) ∧ (EvM l E w d MX10_mixRow [.ref w.1, .int v4] s3 (fun r s5 => r = none ∧ ExM l E w (d + 1) MX10_mixPlain 37 [some (.ref w.1), some (.int a1), some (.int (a2 + 1))] [] s5 Q))))))))) : ExM l E w (d + 1) MX10_mixPlain 37 [some (.ref w.1), some (.int a1), some (.int a2)] [] s Q := by
  intro h0 h hW hF
  refine x_iload_n dX10_mixPlain_37 rfl rfl ?_
  refine x_aload_n dX10_mixPlain_38 rfl rfl rfl ?_
  refine x_iload_n dX10_mixPlain_39 rfl rfl ?_
  refine m_inv (vs := [.int a1]) dX10_mixPlain_40 oX10_sizeAt q2735 q2733 qs107 rfl rfl (Nat.le_of_ble_eq_true rfl) rfl hW hF hT ?_
  rintro _ s1 ⟨v2, rfl, hT⟩ h hW hF
  refine x_icmp_ge (tgt := 62) dX10_mixPlain_43 rfl (fun c => ?_) (fun c => ?_)
  · have hT := hT.1 c
    exact x_vret dX10_mixPlain_62 rfl ⟨_, _, rfl, hW, hF, hT⟩
  · have hT := hT.2 c
    refine x_aload_n dX10_mixPlain_46 rfl rfl rfl ?_
    refine x_aload_n dX10_mixPlain_47 rfl rfl rfl ?_
    refine x_iload_n dX10_mixPlain_48 rfl rfl ?_
    refine x_iload_n dX10_mixPlain_49 rfl rfl ?_
    refine m_inv (vs := [.int a1, .int a2]) dX10_mixPlain_50 oX10_partAt q2751 q2749 qs111 rfl rfl (Nat.le_of_ble_eq_true rfl) rfl hW hF hT ?_
    rintro _ s3 ⟨v4, rfl, hT⟩ h hW hF
    refine m_inv (vs := [.int v4]) dX10_mixPlain_53 oX10_mixRow q3025 q3023 qs161 rfl rfl (Nat.le_of_ble_eq_true rfl) rfl hW hF hT ?_
    rintro _ s5 ⟨rfl, hT⟩ h hW hF
    refine x_iinc (lo' := [some (.ref w.1), some (.int a1), some (.int (a2 + 1))]) dX10_mixPlain_56 rfl (show _ = (a2 + 1) from rfl) rfl ?_
    refine x_goto (tgt := 37) dX10_mixPlain_59 rfl ?_
    exact hT h0 h hW hF
theorem vX10_mixRow_0 {l : Launch} {E : EN} {w : MO} {d : Nat} {s : MS} {Q : Option Value → MS → Prop} {x1 : Int32} (hT : (EvM l E w d MX10_sizeAt [.ref w.1, .int x1] s (fun r s1 => ∃ v2 : Int32, r = some (.int v2) ∧ (EvM l E w d MX10_mix [.ref w.1, .int v2] s1 (fun r s3 => r = none ∧ ExM l E w (d + 1) MX10_mixRow 11 [some (.ref w.1), some (.int x1), some (.int 0)] [] s3 Q))))) : ExM l E w (d + 1) MX10_mixRow 0 [some (.ref w.1), some (.int x1), none] [] s Q := by
  intro h0 h hW hF
  refine x_aload_n dX10_mixRow_0 rfl rfl rfl ?_
  refine x_aload_n dX10_mixRow_1 rfl rfl rfl ?_
  refine x_iload_n dX10_mixRow_2 rfl rfl ?_
  refine m_inv (vs := [.int x1]) dX10_mixRow_3 oX10_sizeAt q2735 q2733 qs107 rfl rfl (Nat.le_of_ble_eq_true rfl) rfl hW hF hT ?_
  rintro _ s1 ⟨v2, rfl, hT⟩ h hW hF
  refine m_inv (vs := [.int v2]) dX10_mixRow_6 oX10_mix q3012 q3010 qs158 rfl rfl (Nat.le_of_ble_eq_true rfl) rfl hW hF hT ?_
  rintro _ s3 ⟨rfl, hT⟩ h hW hF
  refine x_iconst (v := 0) dX10_mixRow_9 rfl ?_
  refine x_istore_n (lo' := [some (.ref w.1), some (.int x1), some (.int 0)]) dX10_mixRow_10 rfl (Nat.le_of_ble_eq_true rfl) rfl ?_
  exact hT h0 h hW hF
theorem eX10_mixRow {l : Launch} {E : EN} {w : MO} {d : Nat} {s : MS} {Q : Option Value → MS → Prop} {x1 : Int32} (hst : l.stackTraces = false) (hT : (EvM l E w d MX10_sizeAt [.ref w.1, .int x1] s (fun r s1 => ∃ v2 : Int32, r = some (.int v2) ∧ (EvM l E w d MX10_mix [.ref w.1, .int v2] s1 (fun r s3 => r = none ∧ ExM l E w (d + 1) MX10_mixRow 11 [some (.ref w.1), some (.int x1), some (.int 0)] [] s3 Q))))) : EvM l E w (d + 1) MX10_mixRow [.ref w.1, .int x1] s Q :=
  EvM.of hst (by decide) (Nat.le_of_ble_eq_true rfl) (vX10_mixRow_0 hT)
theorem vX10_mixRow_11 {l : Launch} {E : EN} {w : MO} {d : Nat} {s : MS} {Q : Option Value → MS → Prop} {a1 : Int32} {a2 : Int32} (hT : (EvM l E w d MX10_sizeAt [.ref w.1, .int a1] s (fun r s1 => ∃ v2 : Int32, r = some (.int v2) ∧ ((v2 ≤ a2 → Q none s1) ∧ (¬ v2 ≤ a2 → (inB ((a1 + 2) + a2) 166300 ∧ (EvM l E w d MX10_mix [.ref w.1, .int (s1.2.2.1 104 ((a1 + 2) + a2).toNatClampNeg)] s1 (fun r s3 => r = none ∧ ExM l E w (d + 1) MX10_mixRow 11 [some (.ref w.1), some (.int a1), some (.int (a2 + 1))] [] s3 Q)))))))) : ExM l E w (d + 1) MX10_mixRow 11 [some (.ref w.1), some (.int a1), some (.int a2)] [] s Q := by
  intro h0 h hW hF
  refine x_iload_n dX10_mixRow_11 rfl rfl ?_
  refine x_aload_n dX10_mixRow_12 rfl rfl rfl ?_
  refine x_iload_n dX10_mixRow_13 rfl rfl ?_
  refine m_inv (vs := [.int a1]) dX10_mixRow_14 oX10_sizeAt q2735 q2733 qs107 rfl rfl (Nat.le_of_ble_eq_true rfl) rfl hW hF hT ?_
  rintro _ s1 ⟨v2, rfl, hT⟩ h hW hF
  refine x_icmp_ge (tgt := 40) dX10_mixRow_17 rfl (fun c => ?_) (fun c => ?_)
  · have hT := hT.1 c
    exact x_vret dX10_mixRow_40 rfl ⟨_, _, rfl, hW, hF, hT⟩
  · have hT := hT.2 c
    refine x_aload_n dX10_mixRow_20 rfl rfl rfl ?_
    refine x_aload_n dX10_mixRow_21 rfl rfl rfl ?_
    refine m_geta dX10_mixRow_22 f_TallySlateModel_183 (by decide) rfl hW ?_
    refine x_iload_n dX10_mixRow_25 rfl rfl ?_
    refine x_iconst (v := 2) dX10_mixRow_26 rfl ?_
    refine x_iadd dX10_mixRow_27 ?_
    refine x_iload_n dX10_mixRow_28 rfl rfl ?_
    refine x_iadd dX10_mixRow_29 ?_
    obtain ⟨hb, hT⟩ := hT
    refine m_iald (v := (s1.2.2.1 104 ((a1 + 2) + a2).toNatClampNeg)) dX10_mixRow_30 rfl hb hW rfl ?_
    refine m_inv (vs := [.int (s1.2.2.1 104 ((a1 + 2) + a2).toNatClampNeg)]) dX10_mixRow_31 oX10_mix q3012 q3010 qs158 rfl rfl (Nat.le_of_ble_eq_true rfl) rfl hW hF hT ?_
    rintro _ s3 ⟨rfl, hT⟩ h hW hF
    refine x_iinc (lo' := [some (.ref w.1), some (.int a1), some (.int (a2 + 1))]) dX10_mixRow_34 rfl (show _ = (a2 + 1) from rfl) rfl ?_
    refine x_goto (tgt := 11) dX10_mixRow_37 rfl ?_
    exact hT h0 h hW hF
