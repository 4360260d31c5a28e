/-! weakest preconditions of methods of the model: printed by wp.py -/
set_option maxRecDepth 100000
set_option maxHeartbeats 16000000 in
theorem vX10_ends1_0 {l : Launch} {E : EN} {w : MO} {d : Nat} {s : MS} {Q : Option Value → MS → Prop}  (hT : (∀ y1 : Int32, y1 = ((s.1 101) - 1) → (inB y1 80 ∧ (inB y1 80 ∧ (inB y1 80 ∧ (∀ y2 : Int32, y2 = (s.2.2.1 95 y1.toNatClampNeg) → (EvM l E w d MX10_isSign [.ref w.1, .int 44] (sA s 97 y1.toNatClampNeg ((s.2.2.1 97 y1.toNatClampNeg) + 1)) (fun r s3 => ∃ v4 : Int32, r = some (.int v4) ∧ ((y2 = 3 → ((¬ y2 = 3 → (EvM l E w d MX10_sign [.ref w.1, .int 93] (sI s3 101 ((s3.1 101) - 1)) (fun r s5 => r = none ∧ ((¬ y2 = 4 → Q (some (.int 1)) s5) ∧ (y2 = 4 → (inB y1 80 ∧ (EvM l E w d MX10_order [.ref w.1, .int 7, .int 0, .int 0, .int (s5.2.2.1 98 y1.toNatClampNeg)] s5 (fun r s6 => ∃ v7 : Int32, r = some (.int v7) ∧ Q (some (.int 1)) s6)))))))) ∧ (y2 = 3 → (EvM l E w d MX10_sign [.ref w.1, .int 41] (sI s3 101 ((s3.1 101) - 1)) (fun r s8 => r = none ∧ ((¬ y2 = 4 → Q (some (.int 1)) s8) ∧ (y2 = 4 → (inB y1 80 ∧ (EvM l E w d MX10_order [.ref w.1, .int 7, .int 0, .int 0, .int (s8.2.2.1 98 y1.toNatClampNeg)] s8 (fun r s9 => ∃ v10 : Int32, r = some (.int v10) ∧ Q (some (.int 1)) s9)))))))))) ∧ (¬ y2 = 3 → ((¬ y2 = 4 → ((¬ y2 = 8 → ((¬ y2 = 7 → ExM l E w (d + 1) MX10_ends1 162 [some (.ref w.1), none, some (.int y2), some (.int v4)] [] s3 Q) ∧ (y2 = 7 → ((v4 = 0 → ExM l E w (d + 1) MX10_ends1 162 [some (.ref w.1), none, some (.int y2), some (.int v4)] [] s3 Q) ∧ (¬ v4 = 0 → (inB y1 80 ∧ (inB y1 80 ∧ (EvM l E w d MX10_most0 [.ref w.1, .int (s3.2.2.1 96 y1.toNatClampNeg)] s3 (fun r s11 => ∃ v12 : Int32, r = some (.int v12) ∧ (((s3.2.2.1 97 y1.toNatClampNeg) < v12 → ExM l E w (d + 1) MX10_ends1 162 [some (.ref w.1), none, some (.int y2), some (.int v4)] [] s11 Q) ∧ (¬ (s3.2.2.1 97 y1.toNatClampNeg) < v12 → (EvM l E w d MX10_breaks [.ref w.1, .int 5, .int (s11.1 63)] s11 (fun r s13 => r = none ∧ ExM l E w (d + 1) MX10_ends1 162 [some (.ref w.1), none, some (.int y2), some (.int v4)] [] s13 Q))))))))))))) ∧ (y2 = 8 → (inB y1 80 ∧ ((¬ (s3.2.2.1 96 y1.toNatClampNeg) = 29 → ((¬ y2 = 7 → ExM l E w (d + 1) MX10_ends1 162 [some (.ref w.1), none, some (.int y2), some (.int v4)] [] s3 Q) ∧ (y2 = 7 → ((v4 = 0 → ExM l E w (d + 1) MX10_ends1 162 [some (.ref w.1), none, some (.int y2), some (.int v4)] [] s3 Q) ∧ (¬ v4 = 0 → (inB y1 80 ∧ (inB y1 80 ∧ (EvM l E w d MX10_most0 [.ref w.1, .int (s3.2.2.1 96 y1.toNatClampNeg)] s3 (fun r s14 => ∃ v15 : Int32, r = some (.int v15) ∧ (((s3.2.2.1 97 y1.toNatClampNeg) < v15 → ExM l E w (d + 1) MX10_ends1 162 [some (.ref w.1), none, some (.int y2), some (.int v4)] [] s14 Q) ∧ (¬ (s3.2.2.1 97 y1.toNatClampNeg) < v15 → (EvM l E w d MX10_breaks [.ref w.1, .int 5, .int (s14.1 63)] s14 (fun r s16 => r = none ∧ ExM l E w (d + 1) MX10_ends1 162 [some (.ref w.1), none, some (.int y2), some (.int v4)] [] s16 Q))))))))))))) ∧ ((s3.2.2.1 96 y1.toNatClampNeg) = 29 → (inB y1 80 ∧ ((¬ (s3.2.2.1 97 y1.toNatClampNeg) = 1 → ((¬ y2 = 7 → ExM l E w (d + 1) MX10_ends1 162 [some (.ref w.1), none, some (.int y2), some (.int v4)] [] s3 Q) ∧ (y2 = 7 → ((v4 = 0 → ExM l E w (d + 1) MX10_ends1 162 [some (.ref w.1), none, some (.int y2), some (.int v4)] [] s3 Q) ∧ (¬ v4 = 0 → (inB y1 80 ∧ (inB y1 80 ∧ (EvM l E w d MX10_most0 [.ref w.1, .int (s3.2.2.1 96 y1.toNatClampNeg)] s3 (fun r s17 => ∃ v18 : Int32, r = some (.int v18) ∧ (((s3.2.2.1 97 y1.toNatClampNeg) < v18 → ExM l E w (d + 1) MX10_ends1 162 [some (.ref w.1), none, some (.int y2), some (.int v4)] [] s17 Q) ∧ (¬ (s3.2.2.1 97 y1.toNatClampNeg) < v18 → (EvM l E w d MX10_breaks [.ref w.1, .int 5, .int (s17.1 63)] s17 (fun r s19 => r = none ∧ ExM l E w (d + 1) MX10_ends1 162 [some (.ref w.1), none, some (.int y2), some (.int v4)] [] s19 Q))))))))))))) ∧ ((s3.2.2.1 97 y1.toNatClampNeg) = 1 → (EvM l E w d MX10_sign [.ref w.1, .int 44] s3 (fun r s20 => r = none ∧ Q (some (.int 0)) s20))))))))))) ∧ (y2 = 4 → ((¬ y2 = 3 → (EvM l E w d MX10_sign [.ref w.1, .int 93] (sI s3 101 ((s3.1 101) - 1)) (fun r s21 => r = none ∧ ((¬ y2 = 4 → Q (some (.int 1)) s21) ∧ (y2 = 4 → (inB y1 80 ∧ (EvM l E w d MX10_order [.ref w.1, .int 7, .int 0, .int 0, .int (s21.2.2.1 98 y1.toNatClampNeg)] s21 (fun r s22 => ∃ v23 : Int32, r = some (.int v23) ∧ Q (some (.int 1)) s22)))))))) ∧ (y2 = 3 → (EvM l E w d MX10_sign [.ref w.1, .int 41] (sI s3 101 ((s3.1 101) - 1)) (fun r s24 => r = none ∧ ((¬ y2 = 4 → Q (some (.int 1)) s24) ∧ (y2 = 4 → (inB y1 80 ∧ (EvM l E w d MX10_order [.ref w.1, .int 7, .int 0, .int 0, .int (s24.2.2.1 98 y1.toNatClampNeg)] s24 (fun r s25 => ∃ v26 : Int32, r = some (.int v26) ∧ Q (some (.int 1)) s25))))))))))))))))))))) : ExM l E w (d + 1) MX10_ends1 0 [some (.ref w.1), none, none, none] [] s Q := by
  intro h0 h hW hF
  refine x_aload_n dX10_ends1_0 rfl rfl rfl ?_
  refine m_geti (v := (s.1 101)) dX10_ends1_1 f_TallySlateModel_413 (by decide) rfl hW rfl ?_
  refine x_iconst (v := 1) dX10_ends1_4 rfl ?_
  refine x_isub dX10_ends1_5 ?_
  obtain ⟨y1, ey1⟩ : ∃ z : Int32, z = ((s.1 101) - 1) := ⟨_, rfl⟩
  have hT := hT y1 ey1
  refine x_istore_n (lo' := [some (.ref w.1), some (.int y1), none, none]) dX10_ends1_6 rfl (Nat.le_of_ble_eq_true rfl) (by rw [ey1]; rfl) ?_
  refine x_aload_n dX10_ends1_7 rfl rfl rfl ?_
  refine m_geta dX10_ends1_8 f_TallySlateModel_163 (by decide) rfl hW ?_
  refine x_iload_n dX10_ends1_11 rfl rfl ?_
  refine x_dup2 dX10_ends1_12 rfl rfl ?_
  obtain ⟨hb, hT⟩ := hT
  refine m_iald (v := (s.2.2.1 97 y1.toNatClampNeg)) dX10_ends1_13 rfl hb hW rfl ?_
  refine x_iconst (v := 1) dX10_ends1_14 rfl ?_
  refine x_iadd dX10_ends1_15 ?_
  obtain ⟨hb, hT⟩ := hT
  refine m_iast dX10_ends1_16 rfl hb hW hF ?_
  intro h hW hF
  refine x_aload_n dX10_ends1_17 rfl rfl rfl ?_
  refine m_geta dX10_ends1_18 f_TallySlateModel_157 (by decide) rfl hW ?_
  refine x_iload_n dX10_ends1_21 rfl rfl ?_
  obtain ⟨hb, hT⟩ := hT
  refine m_iald (v := (s.2.2.1 95 y1.toNatClampNeg)) dX10_ends1_22 rfl hb hW rfl ?_
  obtain ⟨y2, ey2⟩ : ∃ z : Int32, z = (s.2.2.1 95 y1.toNatClampNeg) := ⟨_, rfl⟩
  have hT := hT y2 ey2
  refine x_istore_n (lo' := [some (.ref w.1), some (.int y1), some (.int y2), none]) dX10_ends1_23 rfl (Nat.le_of_ble_eq_true rfl) (by rw [ey2]; rfl) ?_
  refine x_aload_n dX10_ends1_24 rfl rfl rfl ?_
  refine x_bipush (v := 44) dX10_ends1_25 rfl ?_
  refine m_inv (vs := [.int 44]) dX10_ends1_27 oX10_isSign q2590 q2588 qs76 rfl rfl (Nat.le_of_ble_eq_true rfl) rfl hW hF hT ?_
  rintro _ s3 ⟨v4, rfl, hT⟩ h hW hF
  refine x_istore_n (lo' := [some (.ref w.1), some (.int y1), some (.int y2), some (.int v4)]) dX10_ends1_30 rfl (Nat.le_of_ble_eq_true rfl) rfl ?_
  refine x_iload_n dX10_ends1_31 rfl rfl ?_
  refine x_iconst (v := 3) dX10_ends1_32 rfl ?_
  refine x_icmp_eq (tgt := 41) dX10_ends1_33 rfl (fun c => ?_) (fun c => ?_)
  · have hT := hT.1 c
    refine x_aload_n dX10_ends1_41 rfl rfl rfl ?_
    refine x_dup dX10_ends1_42 rfl ?_
    refine m_geti (v := (s3.1 101)) dX10_ends1_43 f_TallySlateModel_413 (by decide) rfl hW rfl ?_
    refine x_iconst (v := 1) dX10_ends1_46 rfl ?_
    refine x_isub dX10_ends1_47 ?_
    refine m_puti dX10_ends1_48 f_TallySlateModel_413 (by decide) rfl rfl rfl rfl hW hF ?_
    intro h hW hF
    refine x_aload_n dX10_ends1_51 rfl rfl rfl ?_
    refine x_iload_n dX10_ends1_52 rfl rfl ?_
    refine x_iconst (v := 3) dX10_ends1_53 rfl ?_
    refine x_icmp_ne (tgt := 62) dX10_ends1_54 rfl (fun c => ?_) (fun c => ?_)
    · have hT := hT.1 c
      refine x_bipush (v := 93) dX10_ends1_62 rfl ?_
      refine m_inv (vs := [.int 93]) dX10_ends1_64 oX10_sign q2594 q2592 qs77 rfl rfl (Nat.le_of_ble_eq_true rfl) rfl hW hF hT ?_
      rintro _ s5 ⟨rfl, hT⟩ h hW hF
      refine x_iload_n dX10_ends1_67 rfl rfl ?_
      refine x_iconst (v := 4) dX10_ends1_68 rfl ?_
      refine x_icmp_ne (tgt := 87) dX10_ends1_69 rfl (fun c => ?_) (fun c => ?_)
      · have hT := hT.1 c
        refine x_iconst (v := 1) dX10_ends1_87 rfl ?_
        exact x_iret dX10_ends1_88 rfl rfl ⟨_, _, rfl, hW, hF, hT⟩
      · have hT := hT.2 c
        refine x_aload_n dX10_ends1_72 rfl rfl rfl ?_
        refine x_bipush (v := 7) dX10_ends1_73 rfl ?_
        refine x_iconst (v := 0) dX10_ends1_75 rfl ?_
        refine x_iconst (v := 0) dX10_ends1_76 rfl ?_
        refine x_aload_n dX10_ends1_77 rfl rfl rfl ?_
        refine m_geta dX10_ends1_78 f_TallySlateModel_166 (by decide) rfl hW ?_
        refine x_iload_n dX10_ends1_81 rfl rfl ?_
        obtain ⟨hb, hT⟩ := hT
        refine m_iald (v := (s5.2.2.1 98 y1.toNatClampNeg)) dX10_ends1_82 rfl hb hW rfl ?_
        refine m_inv (vs := [.int 7, .int 0, .int 0, .int (s5.2.2.1 98 y1.toNatClampNeg)]) dX10_ends1_83 oX10_order q2610 q2608 qs81 rfl rfl (Nat.le_of_ble_eq_true rfl) rfl hW hF hT ?_
        rintro _ s6 ⟨v7, rfl, hT⟩ h hW hF
        refine x_pop dX10_ends1_86 rfl ?_
        refine x_iconst (v := 1) dX10_ends1_87 rfl ?_
        exact x_iret dX10_ends1_88 rfl rfl ⟨_, _, rfl, hW, hF, hT⟩
    · have hT := hT.2 c
      refine x_bipush (v := 41) dX10_ends1_57 rfl ?_
      refine x_goto (tgt := 64) dX10_ends1_59 rfl ?_
      refine m_inv (vs := [.int 41]) dX10_ends1_64 oX10_sign q2594 q2592 qs77 rfl rfl (Nat.le_of_ble_eq_true rfl) rfl hW hF hT ?_
      rintro _ s8 ⟨rfl, hT⟩ h hW hF
      refine x_iload_n dX10_ends1_67 rfl rfl ?_
      refine x_iconst (v := 4) dX10_ends1_68 rfl ?_
      refine x_icmp_ne (tgt := 87) dX10_ends1_69 rfl (fun c => ?_) (fun c => ?_)
      · have hT := hT.1 c
        refine x_iconst (v := 1) dX10_ends1_87 rfl ?_
        exact x_iret dX10_ends1_88 rfl rfl ⟨_, _, rfl, hW, hF, hT⟩
      · have hT := hT.2 c
        refine x_aload_n dX10_ends1_72 rfl rfl rfl ?_
        refine x_bipush (v := 7) dX10_ends1_73 rfl ?_
        refine x_iconst (v := 0) dX10_ends1_75 rfl ?_
        refine x_iconst (v := 0) dX10_ends1_76 rfl ?_
        refine x_aload_n dX10_ends1_77 rfl rfl rfl ?_
        refine m_geta dX10_ends1_78 f_TallySlateModel_166 (by decide) rfl hW ?_
        refine x_iload_n dX10_ends1_81 rfl rfl ?_
        obtain ⟨hb, hT⟩ := hT
        refine m_iald (v := (s8.2.2.1 98 y1.toNatClampNeg)) dX10_ends1_82 rfl hb hW rfl ?_
        refine m_inv (vs := [.int 7, .int 0, .int 0, .int (s8.2.2.1 98 y1.toNatClampNeg)]) dX10_ends1_83 oX10_order q2610 q2608 qs81 rfl rfl (Nat.le_of_ble_eq_true rfl) rfl hW hF hT ?_
        rintro _ s9 ⟨v10, rfl, hT⟩ h hW hF
        refine x_pop dX10_ends1_86 rfl ?_
        refine x_iconst (v := 1) dX10_ends1_87 rfl ?_
        exact x_iret dX10_ends1_88 rfl rfl ⟨_, _, rfl, hW, hF, hT⟩
  · have hT := hT.2 c
    refine x_iload_n dX10_ends1_36 rfl rfl ?_
    refine x_iconst (v := 4) dX10_ends1_37 rfl ?_
    refine x_icmp_ne (tgt := 89) dX10_ends1_38 rfl (fun c => ?_) (fun c => ?_)
    · have hT := hT.1 c
      refine x_iload_n dX10_ends1_89 rfl rfl ?_
      refine x_bipush (v := 8) dX10_ends1_90 rfl ?_
      refine x_icmp_ne (tgt := 124) dX10_ends1_92 rfl (fun c => ?_) (fun c => ?_)
      · have hT := hT.1 c
        refine x_iload_n dX10_ends1_124 rfl rfl ?_
        refine x_bipush (v := 7) dX10_ends1_125 rfl ?_
        refine x_icmp_ne (tgt := 162) dX10_ends1_127 rfl (fun c => ?_) (fun c => ?_)
        · have hT := hT.1 c
          refine Ex.wkl (lo' := [some (.ref w.1), none, some (.int y2), some (.int v4)]) ⟨rfl, rfl, rfl, trivial⟩ ?_
          exact hT h0 h hW hF
        · have hT := hT.2 c
          refine x_iload_n dX10_ends1_130 rfl rfl ?_
          refine x_if_eq (tgt := 162) dX10_ends1_131 rfl (fun c => ?_) (fun c => ?_)
          · have hT := hT.1 c
            refine Ex.wkl (lo' := [some (.ref w.1), none, some (.int y2), some (.int v4)]) ⟨rfl, rfl, rfl, trivial⟩ ?_
            exact hT h0 h hW hF
          · have hT := hT.2 c
            refine x_aload_n dX10_ends1_134 rfl rfl rfl ?_
            refine m_geta dX10_ends1_135 f_TallySlateModel_163 (by decide) rfl hW ?_
            refine x_iload_n dX10_ends1_138 rfl rfl ?_
            obtain ⟨hb, hT⟩ := hT
            refine m_iald (v := (s3.2.2.1 97 y1.toNatClampNeg)) dX10_ends1_139 rfl hb hW rfl ?_
            refine x_aload_n dX10_ends1_140 rfl rfl rfl ?_
            refine x_aload_n dX10_ends1_141 rfl rfl rfl ?_
            refine m_geta dX10_ends1_142 f_TallySlateModel_160 (by decide) rfl hW ?_
            refine x_iload_n dX10_ends1_145 rfl rfl ?_
            obtain ⟨hb, hT⟩ := hT
            refine m_iald (v := (s3.2.2.1 96 y1.toNatClampNeg)) dX10_ends1_146 rfl hb hW rfl ?_
            refine m_inv (vs := [.int (s3.2.2.1 96 y1.toNatClampNeg)]) dX10_ends1_147 oX10_most0 q2646 q2644 qs90 rfl rfl (Nat.le_of_ble_eq_true rfl) rfl hW hF hT ?_
            rintro _ s11 ⟨v12, rfl, hT⟩ h hW hF
            refine x_icmp_lt (tgt := 162) dX10_ends1_150 rfl (fun c => ?_) (fun c => ?_)
            · have hT := hT.1 c
              refine Ex.wkl (lo' := [some (.ref w.1), none, some (.int y2), some (.int v4)]) ⟨rfl, rfl, rfl, trivial⟩ ?_
              exact hT h0 h hW hF
            · have hT := hT.2 c
              refine x_aload_n dX10_ends1_153 rfl rfl rfl ?_
              refine x_iconst (v := 5) dX10_ends1_154 rfl ?_
              refine x_aload_n dX10_ends1_155 rfl rfl rfl ?_
              refine m_geti (v := (s11.1 63)) dX10_ends1_156 f_TallySlateModel_269 (by decide) rfl hW rfl ?_
              refine m_inv (vs := [.int 5, .int (s11.1 63)]) dX10_ends1_159 oX10_breaks q2512 q2510 qs61 rfl rfl (Nat.le_of_ble_eq_true rfl) rfl hW hF hT ?_
              rintro _ s13 ⟨rfl, hT⟩ h hW hF
              refine Ex.wkl (lo' := [some (.ref w.1), none, some (.int y2), some (.int v4)]) ⟨rfl, rfl, rfl, trivial⟩ ?_
              exact hT h0 h hW hF
      · have hT := hT.2 c
        refine x_aload_n dX10_ends1_95 rfl rfl rfl ?_
        refine m_geta dX10_ends1_96 f_TallySlateModel_160 (by decide) rfl hW ?_
        refine x_iload_n dX10_ends1_99 rfl rfl ?_
        obtain ⟨hb, hT⟩ := hT
        refine m_iald (v := (s3.2.2.1 96 y1.toNatClampNeg)) dX10_ends1_100 rfl hb hW rfl ?_
        refine x_bipush (v := 29) dX10_ends1_101 rfl ?_
        refine x_icmp_ne (tgt := 124) dX10_ends1_103 rfl (fun c => ?_) (fun c => ?_)
        · have hT := hT.1 c
          refine x_iload_n dX10_ends1_124 rfl rfl ?_
          refine x_bipush (v := 7) dX10_ends1_125 rfl ?_
          refine x_icmp_ne (tgt := 162) dX10_ends1_127 rfl (fun c => ?_) (fun c => ?_)
          · have hT := hT.1 c
            refine Ex.wkl (lo' := [some (.ref w.1), none, some (.int y2), some (.int v4)]) ⟨rfl, rfl, rfl, trivial⟩ ?_
            exact hT h0 h hW hF
          · have hT := hT.2 c
            refine x_iload_n dX10_ends1_130 rfl rfl ?_
            refine x_if_eq (tgt := 162) dX10_ends1_131 rfl (fun c => ?_) (fun c => ?_)
            · have hT := hT.1 c
              refine Ex.wkl (lo' := [some (.ref w.1), none, some (.int y2), some (.int v4)]) ⟨rfl, rfl, rfl, trivial⟩ ?_
              exact hT h0 h hW hF
            · have hT := hT.2 c
              refine x_aload_n dX10_ends1_134 rfl rfl rfl ?_
              refine m_geta dX10_ends1_135 f_TallySlateModel_163 (by decide) rfl hW ?_
              refine x_iload_n dX10_ends1_138 rfl rfl ?_
              obtain ⟨hb, hT⟩ := hT
              refine m_iald (v := (s3.2.2.1 97 y1.toNatClampNeg)) dX10_ends1_139 rfl hb hW rfl ?_
              refine x_aload_n dX10_ends1_140 rfl rfl rfl ?_
              refine x_aload_n dX10_ends1_141 rfl rfl rfl ?_
              refine m_geta dX10_ends1_142 f_TallySlateModel_160 (by decide) rfl hW ?_
              refine x_iload_n dX10_ends1_145 rfl rfl ?_
              obtain ⟨hb, hT⟩ := hT
              refine m_iald (v := (s3.2.2.1 96 y1.toNatClampNeg)) dX10_ends1_146 rfl hb hW rfl ?_
              refine m_inv (vs := [.int (s3.2.2.1 96 y1.toNatClampNeg)]) dX10_ends1_147 oX10_most0 q2646 q2644 qs90 rfl rfl (Nat.le_of_ble_eq_true rfl) rfl hW hF hT ?_
              rintro _ s14 ⟨v15, rfl, hT⟩ h hW hF
              refine x_icmp_lt (tgt := 162) dX10_ends1_150 rfl (fun c => ?_) (fun c => ?_)
              · have hT := hT.1 c
                refine Ex.wkl (lo' := [some (.ref w.1), none, some (.int y2), some (.int v4)]) ⟨rfl, rfl, rfl, trivial⟩ ?_
                exact hT h0 h hW hF
              · have hT := hT.2 c
                refine x_aload_n dX10_ends1_153 rfl rfl rfl ?_
                refine x_iconst (v := 5) dX10_ends1_154 rfl ?_
                refine x_aload_n dX10_ends1_155 rfl rfl rfl ?_
                refine m_geti (v := (s14.1 63)) dX10_ends1_156 f_TallySlateModel_269 (by decide) rfl hW rfl ?_
                refine m_inv (vs := [.int 5, .int (s14.1 63)]) dX10_ends1_159 oX10_breaks q2512 q2510 qs61 rfl rfl (Nat.le_of_ble_eq_true rfl) rfl hW hF hT ?_
                rintro _ s16 ⟨rfl, hT⟩ h hW hF
                refine Ex.wkl (lo' := [some (.ref w.1), none, some (.int y2), some (.int v4)]) ⟨rfl, rfl, rfl, trivial⟩ ?_
                exact hT h0 h hW hF
        · have hT := hT.2 c
          refine x_aload_n dX10_ends1_106 rfl rfl rfl ?_
          refine m_geta dX10_ends1_107 f_TallySlateModel_163 (by decide) rfl hW ?_
          refine x_iload_n dX10_ends1_110 rfl rfl ?_
          obtain ⟨hb, hT⟩ := hT
          refine m_iald (v := (s3.2.2.1 97 y1.toNatClampNeg)) dX10_ends1_111 rfl hb hW rfl ?_
          refine x_iconst (v := 1) dX10_ends1_112 rfl ?_
          refine x_icmp_ne (tgt := 124) dX10_ends1_113 rfl (fun c => ?_) (fun c => ?_)
          · have hT := hT.1 c
            refine x_iload_n dX10_ends1_124 rfl rfl ?_
            refine x_bipush (v := 7) dX10_ends1_125 rfl ?_
            refine x_icmp_ne (tgt := 162) dX10_ends1_127 rfl (fun c => ?_) (fun c => ?_)
            · have hT := hT.1 c
              refine Ex.wkl (lo' := [some (.ref w.1), none, some (.int y2), some (.int v4)]) ⟨rfl, rfl, rfl, trivial⟩ ?_
              exact hT h0 h hW hF
            · have hT := hT.2 c
              refine x_iload_n dX10_ends1_130 rfl rfl ?_
              refine x_if_eq (tgt := 162) dX10_ends1_131 rfl (fun c => ?_) (fun c => ?_)
              · have hT := hT.1 c
                refine Ex.wkl (lo' := [some (.ref w.1), none, some (.int y2), some (.int v4)]) ⟨rfl, rfl, rfl, trivial⟩ ?_
                exact hT h0 h hW hF
              · have hT := hT.2 c
                refine x_aload_n dX10_ends1_134 rfl rfl rfl ?_
                refine m_geta dX10_ends1_135 f_TallySlateModel_163 (by decide) rfl hW ?_
                refine x_iload_n dX10_ends1_138 rfl rfl ?_
                obtain ⟨hb, hT⟩ := hT
                refine m_iald (v := (s3.2.2.1 97 y1.toNatClampNeg)) dX10_ends1_139 rfl hb hW rfl ?_
                refine x_aload_n dX10_ends1_140 rfl rfl rfl ?_
                refine x_aload_n dX10_ends1_141 rfl rfl rfl ?_
                refine m_geta dX10_ends1_142 f_TallySlateModel_160 (by decide) rfl hW ?_
                refine x_iload_n dX10_ends1_145 rfl rfl ?_
                obtain ⟨hb, hT⟩ := hT
                refine m_iald (v := (s3.2.2.1 96 y1.toNatClampNeg)) dX10_ends1_146 rfl hb hW rfl ?_
                refine m_inv (vs := [.int (s3.2.2.1 96 y1.toNatClampNeg)]) dX10_ends1_147 oX10_most0 q2646 q2644 qs90 rfl rfl (Nat.le_of_ble_eq_true rfl) rfl hW hF hT ?_
                rintro _ s17 ⟨v18, rfl, hT⟩ h hW hF
                refine x_icmp_lt (tgt := 162) dX10_ends1_150 rfl (fun c => ?_) (fun c => ?_)
                · have hT := hT.1 c
                  refine Ex.wkl (lo' := [some (.ref w.1), none, some (.int y2), some (.int v4)]) ⟨rfl, rfl, rfl, trivial⟩ ?_
                  exact hT h0 h hW hF
                · have hT := hT.2 c
                  refine x_aload_n dX10_ends1_153 rfl rfl rfl ?_
                  refine x_iconst (v := 5) dX10_ends1_154 rfl ?_
                  refine x_aload_n dX10_ends1_155 rfl rfl rfl ?_
                  refine m_geti (v := (s17.1 63)) dX10_ends1_156 f_TallySlateModel_269 (by decide) rfl hW rfl ?_
                  refine m_inv (vs := [.int 5, .int (s17.1 63)]) dX10_ends1_159 oX10_breaks q2512 q2510 qs61 rfl rfl (Nat.le_of_ble_eq_true rfl) rfl hW hF hT ?_
                  rintro _ s19 ⟨rfl, hT⟩ h hW hF
                  refine Ex.wkl (lo' := [some (.ref w.1), none, some (.int y2), some (.int v4)]) ⟨rfl, rfl, rfl, trivial⟩ ?_
                  exact hT h0 h hW hF
          · have hT := hT.2 c
            refine x_aload_n dX10_ends1_116 rfl rfl rfl ?_
            refine x_bipush (v := 44) dX10_ends1_117 rfl ?_
            refine m_inv (vs := [.int 44]) dX10_ends1_119 oX10_sign q2594 q2592 qs77 rfl rfl (Nat.le_of_ble_eq_true rfl) rfl hW hF hT ?_
            rintro _ s20 ⟨rfl, hT⟩ h hW hF
            refine x_iconst (v := 0) dX10_ends1_122 rfl ?_
            exact x_iret dX10_ends1_123 rfl rfl ⟨_, _, rfl, hW, hF, hT⟩
    · have hT := hT.2 c
      refine x_aload_n dX10_ends1_41 rfl rfl rfl ?_
      refine x_dup dX10_ends1_42 rfl ?_
      refine m_geti (v := (s3.1 101)) dX10_ends1_43 f_TallySlateModel_413 (by decide) rfl hW rfl ?_
      refine x_iconst (v := 1) dX10_ends1_46 rfl ?_
      refine x_isub dX10_ends1_47 ?_
      refine m_puti dX10_ends1_48 f_TallySlateModel_413 (by decide) rfl rfl rfl rfl hW hF ?_
      intro h hW hF
      refine x_aload_n dX10_ends1_51 rfl rfl rfl ?_
      refine x_iload_n dX10_ends1_52 rfl rfl ?_
      refine x_iconst (v := 3) dX10_ends1_53 rfl ?_
      refine x_icmp_ne (tgt := 62) dX10_ends1_54 rfl (fun c => ?_) (fun c => ?_)
      · have hT := hT.1 c
        refine x_bipush (v := 93) dX10_ends1_62 rfl ?_
        refine m_inv (vs := [.int 93]) dX10_ends1_64 oX10_sign q2594 q2592 qs77 rfl rfl (Nat.le_of_ble_eq_true rfl) rfl hW hF hT ?_
        rintro _ s21 ⟨rfl, hT⟩ h hW hF
        refine x_iload_n dX10_ends1_67 rfl rfl ?_
        refine x_iconst (v := 4) dX10_ends1_68 rfl ?_
        refine x_icmp_ne (tgt := 87) dX10_ends1_69 rfl (fun c => ?_) (fun c => ?_)
        · have hT := hT.1 c
          refine x_iconst (v := 1) dX10_ends1_87 rfl ?_
          exact x_iret dX10_ends1_88 rfl rfl ⟨_, _, rfl, hW, hF, hT⟩
        · have hT := hT.2 c
          refine x_aload_n dX10_ends1_72 rfl rfl rfl ?_
          refine x_bipush (v := 7) dX10_ends1_73 rfl ?_
          refine x_iconst (v := 0) dX10_ends1_75 rfl ?_
          refine x_iconst (v := 0) dX10_ends1_76 rfl ?_
          refine x_aload_n dX10_ends1_77 rfl rfl rfl ?_
          refine m_geta dX10_ends1_78 f_TallySlateModel_166 (by decide) rfl hW ?_
          refine x_iload_n dX10_ends1_81 rfl rfl ?_
          obtain ⟨hb, hT⟩ := hT
          refine m_iald (v := (s21.2.2.1 98 y1.toNatClampNeg)) dX10_ends1_82 rfl hb hW rfl ?_
          refine m_inv (vs := [.int 7, .int 0, .int 0, .int (s21.2.2.1 98 y1.toNatClampNeg)]) dX10_ends1_83 oX10_order q2610 q2608 qs81 rfl rfl (Nat.le_of_ble_eq_true rfl) rfl hW hF hT ?_
          rintro _ s22 ⟨v23, rfl, hT⟩ h hW hF
          refine x_pop dX10_ends1_86 rfl ?_
          refine x_iconst (v := 1) dX10_ends1_87 rfl ?_
          exact x_iret dX10_ends1_88 rfl rfl ⟨_, _, rfl, hW, hF, hT⟩
      · have hT := hT.2 c
        refine x_bipush (v := 41) dX10_ends1_57 rfl ?_
        refine x_goto (tgt := 64) dX10_ends1_59 rfl ?_
        refine m_inv (vs := [.int 41]) dX10_ends1_64 oX10_sign q2594 q2592 qs77 rfl rfl (Nat.le_of_ble_eq_true rfl) rfl hW hF hT ?_
        rintro _ s24 ⟨rfl, hT⟩ h hW hF
        refine x_iload_n dX10_ends1_67 rfl rfl ?_
        refine x_iconst (v := 4) dX10_ends1_68 rfl ?_
        refine x_icmp_ne (tgt := 87) dX10_ends1_69 rfl (fun c => ?_) (fun c => ?_)
        · have hT := hT.1 c
          refine x_iconst (v := 1) dX10_ends1_87 rfl ?_
          exact x_iret dX10_ends1_88 rfl rfl ⟨_, _, rfl, hW, hF, hT⟩
        · have hT := hT.2 c
          refine x_aload_n dX10_ends1_72 rfl rfl rfl ?_
          refine x_bipush (v := 7) dX10_ends1_73 rfl ?_
          refine x_iconst (v := 0) dX10_ends1_75 rfl ?_
          refine x_iconst (v := 0) dX10_ends1_76 rfl ?_
          refine x_aload_n dX10_ends1_77 rfl rfl rfl ?_
          refine m_geta dX10_ends1_78 f_TallySlateModel_166 (by decide) rfl hW ?_
          refine x_iload_n dX10_ends1_81 rfl rfl ?_
          obtain ⟨hb, hT⟩ := hT
          refine m_iald (v := (s24.2.2.1 98 y1.toNatClampNeg)) dX10_ends1_82 rfl hb hW rfl ?_
          refine m_inv (vs := [.int 7, .int 0, .int 0, .int (s24.2.2.1 98 y1.toNatClampNeg)]) dX10_ends1_83 oX10_order q2610 q2608 qs81 rfl rfl (Nat.le_of_ble_eq_true rfl) rfl hW hF hT ?_
          rintro _ s25 ⟨v26, rfl, hT⟩ h hW hF
          refine x_pop dX10_ends1_86 rfl ?_
          refine x_iconst (v := 1) dX10_ends1_87 rfl ?_
          exact x_iret dX10_ends1_88 rfl rfl ⟨_, _, rfl, hW, hF, hT⟩
theorem eX10_ends1 {l : Launch} {E : EN} {w : MO} {d : Nat} {s : MS} {Q : Option Value → MS → Prop}  (hst : l.stackTraces = false) (hT : (∀ y1 : Int32, y1 = ((s.1 101) - 1) → (inB y1 80 ∧ (inB y1 80 ∧ (inB y1 80 ∧ (∀ y2 : Int32, y2 = (s.2.2.1 95 y1.toNatClampNeg) → (EvM l E w d MX10_isSign [.ref w.1, .int 44] (sA s 97 y1.toNatClampNeg ((s.2.2.1 97 y1.toNatClampNeg) + 1)) (fun r s3 => ∃ v4 : Int32, r = some (.int v4) ∧ ((y2 = 3 → ((¬ y2 = 3 → (EvM l E w d MX10_sign [.ref w.1, .int 93] (sI s3 101 ((s3.1 101) - 1)) (fun r s5 => r = none ∧ ((¬ y2 = 4 → Q (some (.int 1)) s5) ∧ (y2 = 4 → (inB y1 80 ∧ (EvM l E w d MX10_order [.ref w.1, .int 7, .int 0, .int 0, .int (s5.2.2.1 98 y1.toNatClampNeg)] s5 (fun r s6 => ∃ v7 : Int32, r = some (.int v7) ∧ Q (some (.int 1)) s6)))))))) ∧ (y2 = 3 → (EvM l E w d MX10_sign [.ref w.1, .int 41] (sI s3 101 ((s3.1 101) - 1)) (fun r s8 => r = none ∧ ((¬ y2 = 4 → Q (some (.int 1)) s8) ∧ (y2 = 4 → (inB y1 80 ∧ (EvM l E w d MX10_order [.ref w.1, .int 7, .int 0, .int 0, .int (s8.2.2.1 98 y1.toNatClampNeg)] s8 (fun r s9 => ∃ v10 : Int32, r = some (.int v10) ∧ Q (some (.int 1)) s9)))))))))) ∧ (¬ y2 = 3 → ((¬ y2 = 4 → ((¬ y2 = 8 → ((¬ y2 = 7 → ExM l E w (d + 1) MX10_ends1 162 [some (.ref w.1), none, some (.int y2), some (.int v4)] [] s3 Q) ∧ (y2 = 7 → ((v4 = 0 → ExM l E w (d + 1) MX10_ends1 162 [some (.ref w.1), none, some (.int y2), some (.int v4)] [] s3 Q) ∧ (¬ v4 = 0 → (inB y1 80 ∧ (inB y1 80 ∧ (EvM l E w d MX10_most0 [.ref w.1, .int (s3.2.2.1 96 y1.toNatClampNeg)] s3 (fun r s11 => ∃ v12 : Int32, r = some (.int v12) ∧ (((s3.2.2.1 97 y1.toNatClampNeg) < v12 → ExM l E w (d + 1) MX10_ends1 162 [some (.ref w.1), none, some (.int y2), some (.int v4)] [] s11 Q) ∧ (¬ (s3.2.2.1 97 y1.toNatClampNeg) < v12 → (EvM l E w d MX10_breaks [.ref w.1, .int 5, .int (s11.1 63)] s11 (fun r s13 => r = none ∧ ExM l E w (d + 1) MX10_ends1 162 [some (.ref w.1), none, some (.int y2), some (.int v4)] [] s13 Q))))))))))))) ∧ (y2 = 8 → (inB y1 80 ∧ ((¬ (s3.2.2.1 96 y1.toNatClampNeg) = 29 → ((¬ y2 = 7 → ExM l E w (d + 1) MX10_ends1 162 [some (.ref w.1), none, some (.int y2), some (.int v4)] [] s3 Q) ∧ (y2 = 7 → ((v4 = 0 → ExM l E w (d + 1) MX10_ends1 162 [some (.ref w.1), none, some (.int y2), some (.int v4)] [] s3 Q) ∧ (¬ v4 = 0 → (inB y1 80 ∧ (inB y1 80 ∧ (EvM l E w d MX10_most0 [.ref w.1, .int (s3.2.2.1 96 y1.toNatClampNeg)] s3 (fun r s14 => ∃ v15 : Int32, r = some (.int v15) ∧ (((s3.2.2.1 97 y1.toNatClampNeg) < v15 → ExM l E w (d + 1) MX10_ends1 162 [some (.ref w.1), none, some (.int y2), some (.int v4)] [] s14 Q) ∧ (¬ (s3.2.2.1 97 y1.toNatClampNeg) < v15 → (EvM l E w d MX10_breaks [.ref w.1, .int 5, .int (s14.1 63)] s14 (fun r s16 => r = none ∧ ExM l E w (d + 1) MX10_ends1 162 [some (.ref w.1), none, some (.int y2), some (.int v4)] [] s16 Q))))))))))))) ∧ ((s3.2.2.1 96 y1.toNatClampNeg) = 29 → (inB y1 80 ∧ ((¬ (s3.2.2.1 97 y1.toNatClampNeg) = 1 → ((¬ y2 = 7 → ExM l E w (d + 1) MX10_ends1 162 [some (.ref w.1), none, some (.int y2), some (.int v4)] [] s3 Q) ∧ (y2 = 7 → ((v4 = 0 → ExM l E w (d + 1) MX10_ends1 162 [some (.ref w.1), none, some (.int y2), some (.int v4)] [] s3 Q) ∧ (¬ v4 = 0 → (inB y1 80 ∧ (inB y1 80 ∧ (EvM l E w d MX10_most0 [.ref w.1, .int (s3.2.2.1 96 y1.toNatClampNeg)] s3 (fun r s17 => ∃ v18 : Int32, r = some (.int v18) ∧ (((s3.2.2.1 97 y1.toNatClampNeg) < v18 → ExM l E w (d + 1) MX10_ends1 162 [some (.ref w.1), none, some (.int y2), some (.int v4)] [] s17 Q) ∧ (¬ (s3.2.2.1 97 y1.toNatClampNeg) < v18 → (EvM l E w d MX10_breaks [.ref w.1, .int 5, .int (s17.1 63)] s17 (fun r s19 => r = none ∧ ExM l E w (d + 1) MX10_ends1 162 [some (.ref w.1), none, some (.int y2), some (.int v4)] [] s19 Q))))))))))))) ∧ ((s3.2.2.1 97 y1.toNatClampNeg) = 1 → (EvM l E w d MX10_sign [.ref w.1, .int 44] s3 (fun r s20 => r = none ∧ Q (some (.int 0)) s20))))))))))) ∧ (y2 = 4 → ((¬ y2 = 3 → (EvM l E w d MX10_sign [.ref w.1, .int 93] (sI s3 101 ((s3.1 101) - 1)) (fun r s21 => r = none ∧ ((¬ y2 = 4 → Q (some (.int 1)) s21) ∧ (y2 = 4 → (inB y1 80 ∧ (EvM l E w d MX10_order [.ref w.1, .int 7, .int 0, .int 0, .int (s21.2.2.1 98 y1.toNatClampNeg)] s21 (fun r s22 => ∃ v23 : Int32, r = some (.int v23) ∧ Q (some (.int 1)) s22)))))))) ∧ (y2 = 3 → (EvM l E w d MX10_sign [.ref w.1, .int 41] (sI s3 101 ((s3.1 101) - 1)) (fun r s24 => r = none ∧ ((¬ y2 = 4 → Q (some (.int 1)) s24) ∧ (y2 = 4 → (inB y1 80 ∧ (EvM l E w d MX10_order [.ref w.1, .int 7, .int 0, .int 0, .int (s24.2.2.1 98 y1.toNatClampNeg)] s24 (fun r s25 => ∃ v26 : Int32, r = some (.int v26) ∧ Q (some (.int 1)) s25))))))))))))))))))))) : EvM l E w (d + 1) MX10_ends1 [.ref w.1] s Q :=
  EvM.of hst (by decide) (Nat.le_of_ble_eq_true rfl) (vX10_ends1_0 hT)
theorem vX10_ends1_162 {l : Launch} {E : EN} {w : MO} {d : Nat} {s : MS} {Q : Option Value → MS → Prop} {a2 : Int32} {a3 : Int32} (hT : ((a3 = 0 → (EvM l E w d MX10_ends2 [.ref w.1] s (fun r s1 => ∃ v2 : Int32, r = some (.int v2) ∧ (narrow .boolean (.int v2) = .int v2 ∧ Q (some (.int v2)) s1)))) ∧ (¬ a3 = 0 → ((a2 = 8 → (EvM l E w d MX10_ends2 [.ref w.1] s (fun r s3 => ∃ v4 : Int32, r = some (.int v4) ∧ (narrow .boolean (.int v4) = .int v4 ∧ Q (some (.int v4)) s3)))) ∧ (¬ a2 = 8 → ((¬ (s.1 66) = 0 → Q (some (.int 0)) s) ∧ ((s.1 66) = 0 → (EvM l E w d MX10_take [.ref w.1] s (fun r s5 => r = none ∧ Q (some (.int 0)) s5))))))))) : ExM l E w (d + 1) MX10_ends1 162 [some (.ref w.1), none, some (.int a2), some (.int a3)] [] s Q := by
  intro h0 h hW hF
  refine x_iload_n dX10_ends1_162 rfl rfl ?_
  refine x_if_eq (tgt := 185) dX10_ends1_163 rfl (fun c => ?_) (fun c => ?_)
  · have hT := hT.1 c
    refine x_aload_n dX10_ends1_185 rfl rfl rfl ?_
    refine m_inv (vs := []) dX10_ends1_186 oX10_ends2 q2642 q2640 qs89 rfl rfl (Nat.le_of_ble_eq_true rfl) rfl hW hF hT ?_
    rintro _ s1 ⟨v2, rfl, hT⟩ h hW hF
    exact x_iret dX10_ends1_189 rfl hT.1 ⟨_, _, rfl, hW, hF, hT.2⟩
  · have hT := hT.2 c
    refine x_iload_n dX10_ends1_166 rfl rfl ?_
    refine x_bipush (v := 8) dX10_ends1_167 rfl ?_
    refine x_icmp_eq (tgt := 185) dX10_ends1_169 rfl (fun c => ?_) (fun c => ?_)
    · have hT := hT.1 c
      refine x_aload_n dX10_ends1_185 rfl rfl rfl ?_
      refine m_inv (vs := []) dX10_ends1_186 oX10_ends2 q2642 q2640 qs89 rfl rfl (Nat.le_of_ble_eq_true rfl) rfl hW hF hT ?_
      rintro _ s3 ⟨v4, rfl, hT⟩ h hW hF
      exact x_iret dX10_ends1_189 rfl hT.1 ⟨_, _, rfl, hW, hF, hT.2⟩
    · have hT := hT.2 c
      refine x_aload_n dX10_ends1_172 rfl rfl rfl ?_
      refine m_geti (v := (s.1 66)) dX10_ends1_173 f_TallySlateModel_311 (by decide) rfl hW rfl ?_
      refine x_if_ne (tgt := 183) dX10_ends1_176 rfl (fun c => ?_) (fun c => ?_)
      · have hT := hT.1 c
        refine x_iconst (v := 0) dX10_ends1_183 rfl ?_
        exact x_iret dX10_ends1_184 rfl rfl ⟨_, _, rfl, hW, hF, hT⟩
      · have hT := hT.2 c
        refine x_aload_n dX10_ends1_179 rfl rfl rfl ?_
        refine m_inv (vs := []) dX10_ends1_180 oX10_take q2558 q2556 qs69 rfl rfl (Nat.le_of_ble_eq_true rfl) rfl hW hF hT ?_
        rintro _ s5 ⟨rfl, hT⟩ h hW hF
        refine x_iconst (v := 0) dX10_ends1_183 rfl ?_
        exact x_iret dX10_ends1_184 rfl rfl ⟨_, _, rfl, hW, hF, hT⟩
set_option maxHeartbeats 16000000 in
theorem vX10_puts_0 {l : Launch} {E : EN} {w : MO} {d : Nat} {s : MS} {Q : Option Value → MS → Prop}  (hT : (∀ y1 : Int32, y1 = (s.1 63) → (EvM l E w d MX10_name [.ref w.1] s (fun r s2 => ∃ v3 : Int32, r = some (.int v3) ∧ (((s2.1 66) ≤ 0 → (EvM l E w d MX10_isSign [.ref w.1, .int 91] s2 (fun r s4 => ∃ v5 : Int32, r = some (.int v5) ∧ ((¬ v5 = 0 → (∀ y6 : Int32, y6 = (s4.1 63) → (EvM l E w d MX10_opens [.ref w.1, .int 91] s4 (fun r s7 => r = none ∧ (EvM l E w d MX10_expression [.ref w.1, .int 0] s7 (fun r s8 => r = none ∧ (EvM l E w d MX10_sign [.ref w.1, .int 93] s8 (fun r s9 => r = none ∧ ((¬ (s9.1 66) = 0 → (EvM l E w d MX10_sign [.ref w.1, .int 61] s9 (fun r s10 => r = none ∧ (EvM l E w d MX10_expression [.ref w.1, .int 0] s10 (fun r s11 => r = none ∧ (EvM l E w d MX10_sign [.ref w.1, .int 59] s11 (fun r s12 => r = none ∧ (EvM l E w d MX10_order [.ref w.1, .int 13, .int v3, .int (-1), .int y6] s12 (fun r s13 => ∃ v14 : Int32, r = some (.int v14) ∧ (inB v14 8000 ∧ Q none (sA s13 83 v14.toNatClampNeg y1))))))))))) ∧ ((s9.1 66) = 0 → (EvM l E w d MX10_isSign [.ref w.1, .int 91] s9 (fun r s15 => ∃ v16 : Int32, r = some (.int v16) ∧ ((v16 = 0 → (EvM l E w d MX10_sign [.ref w.1, .int 61] s15 (fun r s17 => r = none ∧ (EvM l E w d MX10_expression [.ref w.1, .int 0] s17 (fun r s18 => r = none ∧ (EvM l E w d MX10_sign [.ref w.1, .int 59] s18 (fun r s19 => r = none ∧ (EvM l E w d MX10_order [.ref w.1, .int 13, .int v3, .int (-1), .int y6] s19 (fun r s20 => ∃ v21 : Int32, r = some (.int v21) ∧ (inB v21 8000 ∧ Q none (sA s20 83 v21.toNatClampNeg y1))))))))))) ∧ (¬ v16 = 0 → (∀ y22 : Int32, y22 = (s15.1 63) → (EvM l E w d MX10_opens [.ref w.1, .int 91] s15 (fun r s23 => r = none ∧ (EvM l E w d MX10_expression [.ref w.1, .int 0] s23 (fun r s24 => r = none ∧ (EvM l E w d MX10_sign [.ref w.1, .int 93] s24 (fun r s25 => r = none ∧ (EvM l E w d MX10_sign [.ref w.1, .int 61] s25 (fun r s26 => r = none ∧ (EvM l E w d MX10_expression [.ref w.1, .int 0] s26 (fun r s27 => r = none ∧ (EvM l E w d MX10_sign [.ref w.1, .int 59] s27 (fun r s28 => r = none ∧ (EvM l E w d MX10_order [.ref w.1, .int 13, .int v3, .int y22, .int y6] s28 (fun r s29 => ∃ v30 : Int32, r = some (.int v30) ∧ (inB v30 8000 ∧ Q none (sA s29 83 v30.toNatClampNeg y1))))))))))))))))))))))))))))))) ∧ (v5 = 0 → (EvM l E w d MX10_sign [.ref w.1, .int 61] s4 (fun r s31 => r = none ∧ (EvM l E w d MX10_expression [.ref w.1, .int 0] s31 (fun r s32 => r = none ∧ (EvM l E w d MX10_sign [.ref w.1, .int 59] s32 (fun r s33 => r = none ∧ (EvM l E w d MX10_order [.ref w.1, .int 12, .int v3, .int 0, .int y1] s33 (fun r s34 => ∃ v35 : Int32, r = some (.int v35) ∧ Q none s34))))))))))))) ∧ (¬ (s2.1 66) ≤ 0 → Q none s2)))))) : ExM l E w (d + 1) MX10_puts 0 [some (.ref w.1), none, none, none, none, none] [] s Q := by
  intro h0 h hW hF
  refine x_aload_n dX10_puts_0 rfl rfl rfl ?_
  refine m_geti (v := (s.1 63)) dX10_puts_1 f_TallySlateModel_269 (by decide) rfl hW rfl ?_
  obtain ⟨y1, ey1⟩ : ∃ z : Int32, z = (s.1 63) := ⟨_, rfl⟩
  have hT := hT y1 ey1
  refine x_istore_n (lo' := [some (.ref w.1), some (.int y1), none, none, none, none]) dX10_puts_4 rfl (Nat.le_of_ble_eq_true rfl) (by rw [ey1]; rfl) ?_
  refine x_aload_n dX10_puts_5 rfl rfl rfl ?_
  refine m_inv (vs := []) dX10_puts_6 oX10_name q2614 q2612 qs82 rfl rfl (Nat.le_of_ble_eq_true rfl) rfl hW hF hT ?_
  rintro _ s2 ⟨v3, rfl, hT⟩ h hW hF
  refine x_istore_n (lo' := [some (.ref w.1), some (.int y1), some (.int v3), none, none, none]) dX10_puts_9 rfl (Nat.le_of_ble_eq_true rfl) rfl ?_
  refine x_aload_n dX10_puts_10 rfl rfl rfl ?_
  refine m_geti (v := (s2.1 66)) dX10_puts_11 f_TallySlateModel_311 (by decide) rfl hW rfl ?_
  refine x_if_le (tgt := 18) dX10_puts_14 rfl (fun c => ?_) (fun c => ?_)
  · have hT := hT.1 c
    refine x_aload_n dX10_puts_18 rfl rfl rfl ?_
    refine x_bipush (v := 91) dX10_puts_19 rfl ?_
    refine m_inv (vs := [.int 91]) dX10_puts_21 oX10_isSign q2590 q2588 qs76 rfl rfl (Nat.le_of_ble_eq_true rfl) rfl hW hF hT ?_
    rintro _ s4 ⟨v5, rfl, hT⟩ h hW hF
    refine x_if_ne (tgt := 55) dX10_puts_24 rfl (fun c => ?_) (fun c => ?_)
    · have hT := hT.1 c
      refine x_aload_n dX10_puts_55 rfl rfl rfl ?_
      refine m_geti (v := (s4.1 63)) dX10_puts_56 f_TallySlateModel_269 (by decide) rfl hW rfl ?_
      obtain ⟨y6, ey6⟩ : ∃ z : Int32, z = (s4.1 63) := ⟨_, rfl⟩
      have hT := hT y6 ey6
      refine x_istore_n (lo' := [some (.ref w.1), some (.int y1), some (.int v3), some (.int y6), none, none]) dX10_puts_59 rfl (Nat.le_of_ble_eq_true rfl) (by rw [ey6]; rfl) ?_
      refine x_iconst (v := (-1)) dX10_puts_60 rfl ?_
      refine x_istore (lo' := [some (.ref w.1), some (.int y1), some (.int v3), some (.int y6), some (.int (-1)), none]) dX10_puts_61 (Nat.le_of_ble_eq_true rfl) rfl ?_
      refine x_aload_n dX10_puts_63 rfl rfl rfl ?_
      refine x_bipush (v := 91) dX10_puts_64 rfl ?_
      refine m_inv (vs := [.int 91]) dX10_puts_66 oX10_opens q2586 q2584 qs75 rfl rfl (Nat.le_of_ble_eq_true rfl) rfl hW hF hT ?_
      rintro _ s7 ⟨rfl, hT⟩ h hW hF
      refine x_aload_n dX10_puts_69 rfl rfl rfl ?_
      refine x_iconst (v := 0) dX10_puts_70 rfl ?_
      refine m_inv (vs := [.int 0]) dX10_puts_71 oX10_expression q2626 q2624 qs85 rfl rfl (Nat.le_of_ble_eq_true rfl) rfl hW hF hT ?_
      rintro _ s8 ⟨rfl, hT⟩ h hW hF
      refine x_aload_n dX10_puts_74 rfl rfl rfl ?_
      refine x_bipush (v := 93) dX10_puts_75 rfl ?_
      refine m_inv (vs := [.int 93]) dX10_puts_77 oX10_sign q2594 q2592 qs77 rfl rfl (Nat.le_of_ble_eq_true rfl) rfl hW hF hT ?_
      rintro _ s9 ⟨rfl, hT⟩ h hW hF
      refine x_aload_n dX10_puts_80 rfl rfl rfl ?_
      refine m_geti (v := (s9.1 66)) dX10_puts_81 f_TallySlateModel_311 (by decide) rfl hW rfl ?_
      refine x_if_ne (tgt := 119) dX10_puts_84 rfl (fun c => ?_) (fun c => ?_)
      · have hT := hT.1 c
        refine x_aload_n dX10_puts_119 rfl rfl rfl ?_
        refine x_bipush (v := 61) dX10_puts_120 rfl ?_
        refine m_inv (vs := [.int 61]) dX10_puts_122 oX10_sign q2594 q2592 qs77 rfl rfl (Nat.le_of_ble_eq_true rfl) rfl hW hF hT ?_
        rintro _ s10 ⟨rfl, hT⟩ h hW hF
        refine x_aload_n dX10_puts_125 rfl rfl rfl ?_
        refine x_iconst (v := 0) dX10_puts_126 rfl ?_
        refine m_inv (vs := [.int 0]) dX10_puts_127 oX10_expression q2626 q2624 qs85 rfl rfl (Nat.le_of_ble_eq_true rfl) rfl hW hF hT ?_
        rintro _ s11 ⟨rfl, hT⟩ h hW hF
        refine x_aload_n dX10_puts_130 rfl rfl rfl ?_
        refine x_bipush (v := 59) dX10_puts_131 rfl ?_
        refine m_inv (vs := [.int 59]) dX10_puts_133 oX10_sign q2594 q2592 qs77 rfl rfl (Nat.le_of_ble_eq_true rfl) rfl hW hF hT ?_
        rintro _ s12 ⟨rfl, hT⟩ h hW hF
        refine x_aload_n dX10_puts_136 rfl rfl rfl ?_
        refine x_bipush (v := 13) dX10_puts_137 rfl ?_
        refine x_iload_n dX10_puts_139 rfl rfl ?_
        refine x_iload dX10_puts_140 rfl ?_
        refine x_iload_n dX10_puts_142 rfl rfl ?_
        refine m_inv (vs := [.int 13, .int v3, .int (-1), .int y6]) dX10_puts_143 oX10_order q2610 q2608 qs81 rfl rfl (Nat.le_of_ble_eq_true rfl) rfl hW hF hT ?_
        rintro _ s13 ⟨v14, rfl, hT⟩ h hW hF
        refine x_istore (lo' := [some (.ref w.1), some (.int y1), some (.int v3), some (.int y6), some (.int (-1)), some (.int v14)]) dX10_puts_146 (Nat.le_of_ble_eq_true rfl) rfl ?_
        refine x_aload_n dX10_puts_148 rfl rfl rfl ?_
        refine m_geta dX10_puts_149 f_TallySlateModel_130 (by decide) rfl hW ?_
        refine x_iload dX10_puts_152 rfl ?_
        refine x_iload_n dX10_puts_154 rfl rfl ?_
        obtain ⟨hb, hT⟩ := hT
        refine m_iast dX10_puts_155 rfl hb hW hF ?_
        intro h hW hF
        exact x_vret dX10_puts_156 rfl ⟨_, _, rfl, hW, hF, hT⟩
      · have hT := hT.2 c
        refine x_aload_n dX10_puts_87 rfl rfl rfl ?_
        refine x_bipush (v := 91) dX10_puts_88 rfl ?_
        refine m_inv (vs := [.int 91]) dX10_puts_90 oX10_isSign q2590 q2588 qs76 rfl rfl (Nat.le_of_ble_eq_true rfl) rfl hW hF hT ?_
        rintro _ s15 ⟨v16, rfl, hT⟩ h hW hF
        refine x_if_eq (tgt := 119) dX10_puts_93 rfl (fun c => ?_) (fun c => ?_)
        · have hT := hT.1 c
          refine x_aload_n dX10_puts_119 rfl rfl rfl ?_
          refine x_bipush (v := 61) dX10_puts_120 rfl ?_
          refine m_inv (vs := [.int 61]) dX10_puts_122 oX10_sign q2594 q2592 qs77 rfl rfl (Nat.le_of_ble_eq_true rfl) rfl hW hF hT ?_
          rintro _ s17 ⟨rfl, hT⟩ h hW hF
          refine x_aload_n dX10_puts_125 rfl rfl rfl ?_
          refine x_iconst (v := 0) dX10_puts_126 rfl ?_
          refine m_inv (vs := [.int 0]) dX10_puts_127 oX10_expression q2626 q2624 qs85 rfl rfl (Nat.le_of_ble_eq_true rfl) rfl hW hF hT ?_
          rintro _ s18 ⟨rfl, hT⟩ h hW hF
          refine x_aload_n dX10_puts_130 rfl rfl rfl ?_
          refine x_bipush (v := 59) dX10_puts_131 rfl ?_
          refine m_inv (vs := [.int 59]) dX10_puts_133 oX10_sign q2594 q2592 qs77 rfl rfl (Nat.le_of_ble_eq_true rfl) rfl hW hF hT ?_
          rintro _ s19 ⟨rfl, hT⟩ h hW hF
          refine x_aload_n dX10_puts_136 rfl rfl rfl ?_
          refine x_bipush (v := 13) dX10_puts_137 rfl ?_
          refine x_iload_n dX10_puts_139 rfl rfl ?_
          refine x_iload dX10_puts_140 rfl ?_
          refine x_iload_n dX10_puts_142 rfl rfl ?_
          refine m_inv (vs := [.int 13, .int v3, .int (-1), .int y6]) dX10_puts_143 oX10_order q2610 q2608 qs81 rfl rfl (Nat.le_of_ble_eq_true rfl) rfl hW hF hT ?_
          rintro _ s20 ⟨v21, rfl, hT⟩ h hW hF
          refine x_istore (lo' := [some (.ref w.1), some (.int y1), some (.int v3), some (.int y6), some (.int (-1)), some (.int v21)]) dX10_puts_146 (Nat.le_of_ble_eq_true rfl) rfl ?_
          refine x_aload_n dX10_puts_148 rfl rfl rfl ?_
          refine m_geta dX10_puts_149 f_TallySlateModel_130 (by decide) rfl hW ?_
          refine x_iload dX10_puts_152 rfl ?_
          refine x_iload_n dX10_puts_154 rfl rfl ?_
          obtain ⟨hb, hT⟩ := hT
          refine m_iast dX10_puts_155 rfl hb hW hF ?_
          intro h hW hF
          exact x_vret dX10_puts_156 rfl ⟨_, _, rfl, hW, hF, hT⟩
        · have hT := hT.2 c
          refine x_aload_n dX10_puts_96 rfl rfl rfl ?_
          refine m_geti (v := (s15.1 63)) dX10_puts_97 f_TallySlateModel_269 (by decide) rfl hW rfl ?_
          obtain ⟨y22, ey22⟩ : ∃ z : Int32, z = (s15.1 63) := ⟨_, rfl⟩
          have hT := hT y22 ey22
          refine x_istore (lo' := [some (.ref w.1), some (.int y1), some (.int v3), some (.int y6), some (.int y22), none]) dX10_puts_100 (Nat.le_of_ble_eq_true rfl) (by rw [ey22]; rfl) ?_
          refine x_aload_n dX10_puts_102 rfl rfl rfl ?_
          refine x_bipush (v := 91) dX10_puts_103 rfl ?_
          refine m_inv (vs := [.int 91]) dX10_puts_105 oX10_opens q2586 q2584 qs75 rfl rfl (Nat.le_of_ble_eq_true rfl) rfl hW hF hT ?_
          rintro _ s23 ⟨rfl, hT⟩ h hW hF
          refine x_aload_n dX10_puts_108 rfl rfl rfl ?_
          refine x_iconst (v := 0) dX10_puts_109 rfl ?_
          refine m_inv (vs := [.int 0]) dX10_puts_110 oX10_expression q2626 q2624 qs85 rfl rfl (Nat.le_of_ble_eq_true rfl) rfl hW hF hT ?_
          rintro _ s24 ⟨rfl, hT⟩ h hW hF
          refine x_aload_n dX10_puts_113 rfl rfl rfl ?_
          refine x_bipush (v := 93) dX10_puts_114 rfl ?_
          refine m_inv (vs := [.int 93]) dX10_puts_116 oX10_sign q2594 q2592 qs77 rfl rfl (Nat.le_of_ble_eq_true rfl) rfl hW hF hT ?_
          rintro _ s25 ⟨rfl, hT⟩ h hW hF
          refine x_aload_n dX10_puts_119 rfl rfl rfl ?_
          refine x_bipush (v := 61) dX10_puts_120 rfl ?_
          refine m_inv (vs := [.int 61]) dX10_puts_122 oX10_sign q2594 q2592 qs77 rfl rfl (Nat.le_of_ble_eq_true rfl) rfl hW hF hT ?_
          rintro _ s26 ⟨rfl, hT⟩ h hW hF
          refine x_aload_n dX10_puts_125 rfl rfl rfl ?_
          refine x_iconst (v := 0) dX10_puts_126 rfl ?_
          refine m_inv (vs := [.int 0]) dX10_puts_127 oX10_expression q2626 q2624 qs85 rfl rfl (Nat.le_of_ble_eq_true rfl) rfl hW hF hT ?_
          rintro _ s27 ⟨rfl, hT⟩ h hW hF
          refine x_aload_n dX10_puts_130 rfl rfl rfl ?_
          refine x_bipush (v := 59) dX10_puts_131 rfl ?_
          refine m_inv (vs := [.int 59]) dX10_puts_133 oX10_sign q2594 q2592 qs77 rfl rfl (Nat.le_of_ble_eq_true rfl) rfl hW hF hT ?_
          rintro _ s28 ⟨rfl, hT⟩ h hW hF
          refine x_aload_n dX10_puts_136 rfl rfl rfl ?_
          refine x_bipush (v := 13) dX10_puts_137 rfl ?_
          refine x_iload_n dX10_puts_139 rfl rfl ?_
          refine x_iload dX10_puts_140 rfl ?_
          refine x_iload_n dX10_puts_142 rfl rfl ?_
          refine m_inv (vs := [.int 13, .int v3, .int y22, .int y6]) dX10_puts_143 oX10_order q2610 q2608 qs81 rfl rfl (Nat.le_of_ble_eq_true rfl) rfl hW hF hT ?_
          rintro _ s29 ⟨v30, rfl, hT⟩ h hW hF
          refine x_istore (lo' := [some (.ref w.1), some (.int y1), some (.int v3), some (.int y6), some (.int y22), some (.int v30)]) dX10_puts_146 (Nat.le_of_ble_eq_true rfl) rfl ?_
          refine x_aload_n dX10_puts_148 rfl rfl rfl ?_
          refine m_geta dX10_puts_149 f_TallySlateModel_130 (by decide) rfl hW ?_
          refine x_iload dX10_puts_152 rfl ?_
          refine x_iload_n dX10_puts_154 rfl rfl ?_
          obtain ⟨hb, hT⟩ := hT
          refine m_iast dX10_puts_155 rfl hb hW hF ?_
          intro h hW hF
          exact x_vret dX10_puts_156 rfl ⟨_, _, rfl, hW, hF, hT⟩
    · have hT := hT.2 c
      refine x_aload_n dX10_puts_27 rfl rfl rfl ?_
      refine x_bipush (v := 61) dX10_puts_28 rfl ?_
      refine m_inv (vs := [.int 61]) dX10_puts_30 oX10_sign q2594 q2592 qs77 rfl rfl (Nat.le_of_ble_eq_true rfl) rfl hW hF hT ?_
      rintro _ s31 ⟨rfl, hT⟩ h hW hF
      refine x_aload_n dX10_puts_33 rfl rfl rfl ?_
      refine x_iconst (v := 0) dX10_puts_34 rfl ?_
      refine m_inv (vs := [.int 0]) dX10_puts_35 oX10_expression q2626 q2624 qs85 rfl rfl (Nat.le_of_ble_eq_true rfl) rfl hW hF hT ?_
      rintro _ s32 ⟨rfl, hT⟩ h hW hF
      refine x_aload_n dX10_puts_38 rfl rfl rfl ?_
      refine x_bipush (v := 59) dX10_puts_39 rfl ?_
      refine m_inv (vs := [.int 59]) dX10_puts_41 oX10_sign q2594 q2592 qs77 rfl rfl (Nat.le_of_ble_eq_true rfl) rfl hW hF hT ?_
      rintro _ s33 ⟨rfl, hT⟩ h hW hF
      refine x_aload_n dX10_puts_44 rfl rfl rfl ?_
      refine x_bipush (v := 12) dX10_puts_45 rfl ?_
      refine x_iload_n dX10_puts_47 rfl rfl ?_
      refine x_iconst (v := 0) dX10_puts_48 rfl ?_
      refine x_iload_n dX10_puts_49 rfl rfl ?_
      refine m_inv (vs := [.int 12, .int v3, .int 0, .int y1]) dX10_puts_50 oX10_order q2610 q2608 qs81 rfl rfl (Nat.le_of_ble_eq_true rfl) rfl hW hF hT ?_
      rintro _ s34 ⟨v35, rfl, hT⟩ h hW hF
      refine x_pop dX10_puts_53 rfl ?_
      exact x_vret dX10_puts_54 rfl ⟨_, _, rfl, hW, hF, hT⟩
  · have hT := hT.2 c
    exact x_vret dX10_puts_17 rfl ⟨_, _, rfl, hW, hF, hT⟩
theorem eX10_puts {l : Launch} {E : EN} {w : MO} {d : Nat} {s : MS} {Q : Option Value → MS → Prop}  (hst : l.stackTraces = false) (hT : (∀ y1 : Int32, y1 = (s.1 63) → (EvM l E w d MX10_name [.ref w.1] s (fun r s2 => ∃ v3 : Int32, r = some (.int v3) ∧ (((s2.1 66) ≤ 0 → (EvM l E w d MX10_isSign [.ref w.1, .int 91] s2 (fun r s4 => ∃ v5 : Int32, r = some (.int v5) ∧ ((¬ v5 = 0 → (∀ y6 : Int32, y6 = (s4.1 63) → (EvM l E w d MX10_opens [.ref w.1, .int 91] s4 (fun r s7 => r = none ∧ (EvM l E w d MX10_expression [.ref w.1, .int 0] s7 (fun r s8 => r = none ∧ (EvM l E w d MX10_sign [.ref w.1, .int 93] s8 (fun r s9 => r = none ∧ ((¬ (s9.1 66) = 0 → (EvM l E w d MX10_sign [.ref w.1, .int 61] s9 (fun r s10 => r = none ∧ (EvM l E w d MX10_expression [.ref w.1, .int 0] s10 (fun r s11 => r = none ∧ (EvM l E w d MX10_sign [.ref w.1, .int 59] s11 (fun r s12 => r = none ∧ (EvM l E w d MX10_order [.ref w.1, .int 13, .int v3, .int (-1), .int y6] s12 (fun r s13 => ∃ v14 : Int32, r = some (.int v14) ∧ (inB v14 8000 ∧ Q none (sA s13 83 v14.toNatClampNeg y1))))))))))) ∧ ((s9.1 66) = 0 → (EvM l E w d MX10_isSign [.ref w.1, .int 91] s9 (fun r s15 => ∃ v16 : Int32, r = some (.int v16) ∧ ((v16 = 0 → (EvM l E w d MX10_sign [.ref w.1, .int 61] s15 (fun r s17 => r = none ∧ (EvM l E w d MX10_expression [.ref w.1, .int 0] s17 (fun r s18 => r = none ∧ (EvM l E w d MX10_sign [.ref w.1, .int 59] s18 (fun r s19 => r = none ∧ (EvM l E w d MX10_order [.ref w.1, .int 13, .int v3, .int (-1), .int y6] s19 (fun r s20 => ∃ v21 : Int32, r = some (.int v21) ∧ (inB v21 8000 ∧ Q none (sA s20 83 v21.toNatClampNeg y1))))))))))) ∧ (¬ v16 = 0 → (∀ y22 : Int32, y22 = (s15.1 63) → (EvM l E w d MX10_opens [.ref w.1, .int 91] s15 (fun r s23 => r = none ∧ (EvM l E w d MX10_expression [.ref w.1, .int 0] s23 (fun r s24 => r = none ∧ (EvM l E w d MX10_sign [.ref w.1, .int 93] s24 (fun r s25 => r = none ∧ (EvM l E w d MX10_sign [.ref w.1, .int 61] s25 (fun r s26 => r = none ∧ (EvM l E w d MX10_expression [.ref w.1, .int 0] s26 (fun r s27 => r = none ∧ (EvM l E w d MX10_sign [.ref w.1, .int 59] s27 (fun r s28 => r = none ∧ (EvM l E w d MX10_order [.ref w.1, .int 13, .int v3, .int y22, .int y6] s28 (fun r s29 => ∃ v30 : Int32, r = some (.int v30) ∧ (inB v30 8000 ∧ Q none (sA s29 83 v30.toNatClampNeg y1))))))))))))))))))))))))))))))) ∧ (v5 = 0 → (EvM l E w d MX10_sign [.ref w.1, .int 61] s4 (fun r s31 => r = none ∧ (EvM l E w d MX10_expression [.ref w.1, .int 0] s31 (fun r s32 => r = none ∧ (EvM l E w d MX10_sign [.ref w.1, .int 59] s32 (fun r s33 => r = none ∧ (EvM l E w d MX10_order [.ref w.1, .int 12, .int v3, .int 0, .int y1] s33 (fun r s34 => ∃ v35 : Int32, r = some (.int v35) ∧ Q none s34))))))))))))) ∧ (¬ (s2.1 66) ≤ 0 → Q none s2)))))) : EvM l E w (d + 1) MX10_puts [.ref w.1] s Q :=
  EvM.of hst (by decide) (Nat.le_of_ble_eq_true rfl) (vX10_puts_0 hT)
theorem vX10_resolve_0 {l : Launch} {E : EN} {w : MO} {d : Nat} {s : MS} {Q : Option Value → MS → Prop}  (hT : ExM l E w (d + 1) MX10_resolve 4 [some (.ref w.1), some (.int (-1)), some (.int 0), none, none, none] [] s Q) : ExM l E w (d + 1) MX10_resolve 0 [some (.ref w.1), none, none, none, none, none] [] s Q := by
  intro h0 h hW hF
  refine x_iconst (v := (-1)) dX10_resolve_0 rfl ?_
  refine x_istore_n (lo' := [some (.ref w.1), some (.int (-1)), none, none, none, none]) dX10_resolve_1 rfl (Nat.le_of_ble_eq_true rfl) rfl ?_
  refine x_iconst (v := 0) dX10_resolve_2 rfl ?_
  refine x_istore_n (lo' := [some (.ref w.1), some (.int (-1)), some (.int 0), none, none, none]) dX10_resolve_3 rfl (Nat.le_of_ble_eq_true rfl) rfl ?_
  exact hT h0 h hW hF
theorem eX10_resolve {l : Launch} {E : EN} {w : MO} {d : Nat} {s : MS} {Q : Option Value → MS → Prop}  (hst : l.stackTraces = false) (hT : ExM l E w (d + 1) MX10_resolve 4 [some (.ref w.1), some (.int (-1)), some (.int 0), none, none, none] [] s Q) : EvM l E w (d + 1) MX10_resolve [.ref w.1] s Q :=
  EvM.of hst (by decide) (Nat.le_of_ble_eq_true rfl) (vX10_resolve_0 hT)
theorem vX10_resolve_4 {l : Launch} {E : EN} {w : MO} {d : Nat} {s : MS} {Q : Option Value → MS → Prop} {a1 : Int32} {a2 : Int32} (hT : (((s.1 86) ≤ a2 → ((a1 < 0 → Q none s) ∧ (¬ a1 < 0 → (EvM l E w d MX10_breaks [.ref w.1, .int 6, .int a1] s (fun r s1 => r = none ∧ Q none s1))))) ∧ (¬ (s.1 86) ≤ a2 → (∀ y2 : Int32, y2 = (12 * (1 - (s.1 69))) → (∀ y3 : Int32, y3 = (y2 + (s.1 72)) → ExM l E w (d + 1) MX10_resolve 30 [some (.ref w.1), some (.int a1), some (.int a2), some (.int y2), some (.int y3), none] [] s Q))))) : ExM l E w (d + 1) MX10_resolve 4 [some (.ref w.1), some (.int a1), some (.int a2), none, none, none] [] s Q := by
  intro h0 h hW hF
  refine x_iload_n dX10_resolve_4 rfl rfl ?_
  refine x_aload_n dX10_resolve_5 rfl rfl rfl ?_
  refine m_geti (v := (s.1 86)) dX10_resolve_6 f_TallySlateModel_346 (by decide) rfl hW rfl ?_
  refine x_icmp_ge (tgt := 184) dX10_resolve_9 rfl (fun c => ?_) (fun c => ?_)
  · have hT := hT.1 c
    refine x_iload_n dX10_resolve_184 rfl rfl ?_
    refine x_if_lt (tgt := 195) dX10_resolve_185 rfl (fun c => ?_) (fun c => ?_)
    · have hT := hT.1 c
      exact x_vret dX10_resolve_195 rfl ⟨_, _, rfl, hW, hF, hT⟩
    · have hT := hT.2 c
      refine x_aload_n dX10_resolve_188 rfl rfl rfl ?_
      refine x_bipush (v := 6) dX10_resolve_189 rfl ?_
      refine x_iload_n dX10_resolve_191 rfl rfl ?_
      refine m_inv (vs := [.int 6, .int a1]) dX10_resolve_192 oX10_breaks q2512 q2510 qs61 rfl rfl (Nat.le_of_ble_eq_true rfl) rfl hW hF hT ?_
      rintro _ s1 ⟨rfl, hT⟩ h hW hF
      exact x_vret dX10_resolve_195 rfl ⟨_, _, rfl, hW, hF, hT⟩
  · have hT := hT.2 c
    refine x_bipush (v := 12) dX10_resolve_12 rfl ?_
    refine x_iconst (v := 1) dX10_resolve_14 rfl ?_
    refine x_aload_n dX10_resolve_15 rfl rfl rfl ?_
    refine m_geti (v := (s.1 69)) dX10_resolve_16 f_TallySlateModel_340 (by decide) rfl hW rfl ?_
    refine x_isub dX10_resolve_19 ?_
    refine x_imul dX10_resolve_20 ?_
    obtain ⟨y2, ey2⟩ : ∃ z : Int32, z = (12 * (1 - (s.1 69))) := ⟨_, rfl⟩
    have hT := hT y2 ey2
    refine x_istore_n (lo' := [some (.ref w.1), some (.int a1), some (.int a2), some (.int y2), none, none]) dX10_resolve_21 rfl (Nat.le_of_ble_eq_true rfl) (by rw [ey2]; rfl) ?_
    refine x_iload_n dX10_resolve_22 rfl rfl ?_
    refine x_aload_n dX10_resolve_23 rfl rfl rfl ?_
    refine m_geti (v := (s.1 72)) dX10_resolve_24 f_TallySlateModel_380 (by decide) rfl hW rfl ?_
    refine x_iadd dX10_resolve_27 ?_
    obtain ⟨y3, ey3⟩ : ∃ z : Int32, z = (y2 + (s.1 72)) := ⟨_, rfl⟩
    have hT := hT y3 ey3
    refine x_istore (lo' := [some (.ref w.1), some (.int a1), some (.int a2), some (.int y2), some (.int y3), none]) dX10_resolve_28 (Nat.le_of_ble_eq_true rfl) (by rw [ey3]; rfl) ?_
    exact hT h0 h hW hF
set_option maxHeartbeats 16000000 in
theorem vX10_resolve_30 {l : Launch} {E : EN} {w : MO} {d : Nat} {s : MS} {Q : Option Value → MS → Prop} {a1 : Int32} {a2 : Int32} {a3 : Int32} {a4 : Int32} (hT : ((a4 ≤ a3 → ((a4 ≤ a3 → ((a1 < 0 → (inB a2 800 ∧ (∀ y1 : Int32, y1 = (s.2.2.1 88 a2.toNatClampNeg) → ExM l E w (d + 1) MX10_resolve 112 [some (.ref w.1), some (.int y1), some (.int a2), some (.int a3), none, some (.int 0)] [] s Q))) ∧ (¬ a1 < 0 → (inB a2 800 ∧ ((a1 ≤ (s.2.2.1 88 a2.toNatClampNeg) → ExM l E w (d + 1) MX10_resolve 112 [some (.ref w.1), some (.int a1), some (.int a2), some (.int a3), none, some (.int 0)] [] s Q) ∧ (¬ a1 ≤ (s.2.2.1 88 a2.toNatClampNeg) → (inB a2 800 ∧ (∀ y2 : Int32, y2 = (s.2.2.1 88 a2.toNatClampNeg) → ExM l E w (d + 1) MX10_resolve 112 [some (.ref w.1), some (.int y2), some (.int a2), some (.int a3), none, some (.int 0)] [] s Q)))))))) ∧ (¬ a4 ≤ a3 → (inB a3 24 ∧ (inB a2 800 ∧ ((¬ (s.2.2.1 75 a3.toNatClampNeg) = (s.2.2.1 89 a2.toNatClampNeg) → ((a1 < 0 → (inB a2 800 ∧ (∀ y3 : Int32, y3 = (s.2.2.1 88 a2.toNatClampNeg) → ExM l E w (d + 1) MX10_resolve 112 [some (.ref w.1), some (.int y3), some (.int a2), some (.int a3), none, some (.int 0)] [] s Q))) ∧ (¬ a1 < 0 → (inB a2 800 ∧ ((a1 ≤ (s.2.2.1 88 a2.toNatClampNeg) → ExM l E w (d + 1) MX10_resolve 112 [some (.ref w.1), some (.int a1), some (.int a2), some (.int a3), none, some (.int 0)] [] s Q) ∧ (¬ a1 ≤ (s.2.2.1 88 a2.toNatClampNeg) → (inB a2 800 ∧ (∀ y4 : Int32, y4 = (s.2.2.1 88 a2.toNatClampNeg) → ExM l E w (d + 1) MX10_resolve 112 [some (.ref w.1), some (.int y4), some (.int a2), some (.int a3), none, some (.int 0)] [] s Q)))))))) ∧ ((s.2.2.1 75 a3.toNatClampNeg) = (s.2.2.1 89 a2.toNatClampNeg) → ExM l E w (d + 1) MX10_resolve 112 [some (.ref w.1), some (.int a1), some (.int a2), some (.int a3), none, some (.int 1)] [] s Q))))))) ∧ (¬ a4 ≤ a3 → (inB a3 24 ∧ (inB a2 800 ∧ (((lg_cmp (s.2.2.2 73 a3.toNatClampNeg) (s.2.2.2 90 a2.toNatClampNeg)) = 0 → ((a4 ≤ a3 → ((a1 < 0 → (inB a2 800 ∧ (∀ y5 : Int32, y5 = (s.2.2.1 88 a2.toNatClampNeg) → ExM l E w (d + 1) MX10_resolve 112 [some (.ref w.1), some (.int y5), some (.int a2), some (.int a3), none, some (.int 0)] [] s Q))) ∧ (¬ a1 < 0 → (inB a2 800 ∧ ((a1 ≤ (s.2.2.1 88 a2.toNatClampNeg) → ExM l E w (d + 1) MX10_resolve 112 [some (.ref w.1), some (.int a1), some (.int a2), some (.int a3), none, some (.int 0)] [] s Q) ∧ (¬ a1 ≤ (s.2.2.1 88 a2.toNatClampNeg) → (inB a2 800 ∧ (∀ y6 : Int32, y6 = (s.2.2.1 88 a2.toNatClampNeg) → ExM l E w (d + 1) MX10_resolve 112 [some (.ref w.1), some (.int y6), some (.int a2), some (.int a3), none, some (.int 0)] [] s Q)))))))) ∧ (¬ a4 ≤ a3 → (inB a3 24 ∧ (inB a2 800 ∧ ((¬ (s.2.2.1 75 a3.toNatClampNeg) = (s.2.2.1 89 a2.toNatClampNeg) → ((a1 < 0 → (inB a2 800 ∧ (∀ y7 : Int32, y7 = (s.2.2.1 88 a2.toNatClampNeg) → ExM l E w (d + 1) MX10_resolve 112 [some (.ref w.1), some (.int y7), some (.int a2), some (.int a3), none, some (.int 0)] [] s Q))) ∧ (¬ a1 < 0 → (inB a2 800 ∧ ((a1 ≤ (s.2.2.1 88 a2.toNatClampNeg) → ExM l E w (d + 1) MX10_resolve 112 [some (.ref w.1), some (.int a1), some (.int a2), some (.int a3), none, some (.int 0)] [] s Q) ∧ (¬ a1 ≤ (s.2.2.1 88 a2.toNatClampNeg) → (inB a2 800 ∧ (∀ y8 : Int32, y8 = (s.2.2.1 88 a2.toNatClampNeg) → ExM l E w (d + 1) MX10_resolve 112 [some (.ref w.1), some (.int y8), some (.int a2), some (.int a3), none, some (.int 0)] [] s Q)))))))) ∧ ((s.2.2.1 75 a3.toNatClampNeg) = (s.2.2.1 89 a2.toNatClampNeg) → ExM l E w (d + 1) MX10_resolve 112 [some (.ref w.1), some (.int a1), some (.int a2), some (.int a3), none, some (.int 1)] [] s Q))))))) ∧ (¬ (lg_cmp (s.2.2.2 73 a3.toNatClampNeg) (s.2.2.2 90 a2.toNatClampNeg)) = 0 → ExM l E w (d + 1) MX10_resolve 30 [some (.ref w.1), some (.int a1), some (.int a2), some (.int (a3 + 1)), some (.int a4), none] [] s Q))))))) : ExM l E w (d + 1) MX10_resolve 30 [some (.ref w.1), some (.int a1), some (.int a2), some (.int a3), some (.int a4), none] [] s Q := by
  intro h0 h hW hF
  refine x_iload_n dX10_resolve_30 rfl rfl ?_
  refine x_iload dX10_resolve_31 rfl ?_
  refine x_icmp_ge (tgt := 58) dX10_resolve_33 rfl (fun c => ?_) (fun c => ?_)
  · have hT := hT.1 c
    refine x_iload_n dX10_resolve_58 rfl rfl ?_
    refine x_iload dX10_resolve_59 rfl ?_
    refine x_icmp_ge (tgt := 83) dX10_resolve_61 rfl (fun c => ?_) (fun c => ?_)
    · have hT := hT.1 c
      refine x_iconst (v := 0) dX10_resolve_83 rfl ?_
      refine x_istore (lo' := [some (.ref w.1), some (.int a1), some (.int a2), some (.int a3), some (.int a4), some (.int 0)]) dX10_resolve_84 (Nat.le_of_ble_eq_true rfl) rfl ?_
      refine x_iload dX10_resolve_86 rfl ?_
      refine x_if_ne (tgt := 112) dX10_resolve_88 rfl (fun c => absurd c (by decide)) (fun _ => ?_)
      refine x_iload_n dX10_resolve_91 rfl rfl ?_
      refine x_if_lt (tgt := 105) dX10_resolve_92 rfl (fun c => ?_) (fun c => ?_)
      · have hT := hT.1 c
        refine x_aload_n dX10_resolve_105 rfl rfl rfl ?_
        refine m_geta dX10_resolve_106 f_TallySlateModel_139 (by decide) rfl hW ?_
        refine x_iload_n dX10_resolve_109 rfl rfl ?_
        obtain ⟨hb, hT⟩ := hT
        refine m_iald (v := (s.2.2.1 88 a2.toNatClampNeg)) dX10_resolve_110 rfl hb hW rfl ?_
        obtain ⟨y1, ey1⟩ : ∃ z : Int32, z = (s.2.2.1 88 a2.toNatClampNeg) := ⟨_, rfl⟩
        have hT := hT y1 ey1
        refine x_istore_n (lo' := [some (.ref w.1), some (.int y1), some (.int a2), some (.int a3), some (.int a4), some (.int 0)]) dX10_resolve_111 rfl (Nat.le_of_ble_eq_true rfl) (by rw [ey1]; rfl) ?_
        refine Ex.wkl (lo' := [some (.ref w.1), some (.int y1), some (.int a2), some (.int a3), none, some (.int 0)]) ⟨rfl, rfl, rfl, rfl, rfl, trivial⟩ ?_
        exact hT h0 h hW hF
      · have hT := hT.2 c
        refine x_aload_n dX10_resolve_95 rfl rfl rfl ?_
        refine m_geta dX10_resolve_96 f_TallySlateModel_139 (by decide) rfl hW ?_
        refine x_iload_n dX10_resolve_99 rfl rfl ?_
        obtain ⟨hb, hT⟩ := hT
        refine m_iald (v := (s.2.2.1 88 a2.toNatClampNeg)) dX10_resolve_100 rfl hb hW rfl ?_
        refine x_iload_n dX10_resolve_101 rfl rfl ?_
        refine x_icmp_ge (tgt := 112) dX10_resolve_102 rfl (fun c => ?_) (fun c => ?_)
        · have hT := hT.1 c
          refine Ex.wkl (lo' := [some (.ref w.1), some (.int a1), some (.int a2), some (.int a3), none, some (.int 0)]) ⟨rfl, rfl, rfl, rfl, rfl, trivial⟩ ?_
          exact hT h0 h hW hF
        · have hT := hT.2 c
          refine x_aload_n dX10_resolve_105 rfl rfl rfl ?_
          refine m_geta dX10_resolve_106 f_TallySlateModel_139 (by decide) rfl hW ?_
          refine x_iload_n dX10_resolve_109 rfl rfl ?_
          obtain ⟨hb, hT⟩ := hT
          refine m_iald (v := (s.2.2.1 88 a2.toNatClampNeg)) dX10_resolve_110 rfl hb hW rfl ?_
          obtain ⟨y2, ey2⟩ : ∃ z : Int32, z = (s.2.2.1 88 a2.toNatClampNeg) := ⟨_, rfl⟩
          have hT := hT y2 ey2
          refine x_istore_n (lo' := [some (.ref w.1), some (.int y2), some (.int a2), some (.int a3), some (.int a4), some (.int 0)]) dX10_resolve_111 rfl (Nat.le_of_ble_eq_true rfl) (by rw [ey2]; rfl) ?_
          refine Ex.wkl (lo' := [some (.ref w.1), some (.int y2), some (.int a2), some (.int a3), none, some (.int 0)]) ⟨rfl, rfl, rfl, rfl, rfl, trivial⟩ ?_
          exact hT h0 h hW hF
    · have hT := hT.2 c
      refine x_aload_n dX10_resolve_64 rfl rfl rfl ?_
      refine m_geta dX10_resolve_65 f_TallySlateModel_109 (by decide) rfl hW ?_
      refine x_iload_n dX10_resolve_68 rfl rfl ?_
      obtain ⟨hb, hT⟩ := hT
      refine m_iald (v := (s.2.2.1 75 a3.toNatClampNeg)) dX10_resolve_69 rfl hb hW rfl ?_
      refine x_aload_n dX10_resolve_70 rfl rfl rfl ?_
      refine m_geta dX10_resolve_71 f_TallySlateModel_142 (by decide) rfl hW ?_
      refine x_iload_n dX10_resolve_74 rfl rfl ?_
      obtain ⟨hb, hT⟩ := hT
      refine m_iald (v := (s.2.2.1 89 a2.toNatClampNeg)) dX10_resolve_75 rfl hb hW rfl ?_
      refine x_icmp_ne (tgt := 83) dX10_resolve_76 rfl (fun c => ?_) (fun c => ?_)
      · have hT := hT.1 c
        refine x_iconst (v := 0) dX10_resolve_83 rfl ?_
        refine x_istore (lo' := [some (.ref w.1), some (.int a1), some (.int a2), some (.int a3), some (.int a4), some (.int 0)]) dX10_resolve_84 (Nat.le_of_ble_eq_true rfl) rfl ?_
        refine x_iload dX10_resolve_86 rfl ?_
        refine x_if_ne (tgt := 112) dX10_resolve_88 rfl (fun c => absurd c (by decide)) (fun _ => ?_)
        refine x_iload_n dX10_resolve_91 rfl rfl ?_
        refine x_if_lt (tgt := 105) dX10_resolve_92 rfl (fun c => ?_) (fun c => ?_)
        · have hT := hT.1 c
          refine x_aload_n dX10_resolve_105 rfl rfl rfl ?_
          refine m_geta dX10_resolve_106 f_TallySlateModel_139 (by decide) rfl hW ?_
          refine x_iload_n dX10_resolve_109 rfl rfl ?_
          obtain ⟨hb, hT⟩ := hT
          refine m_iald (v := (s.2.2.1 88 a2.toNatClampNeg)) dX10_resolve_110 rfl hb hW rfl ?_
          obtain ⟨y3, ey3⟩ : ∃ z : Int32, z = (s.2.2.1 88 a2.toNatClampNeg) := ⟨_, rfl⟩
          have hT := hT y3 ey3
          refine x_istore_n (lo' := [some (.ref w.1), some (.int y3), some (.int a2), some (.int a3), some (.int a4), some (.int 0)]) dX10_resolve_111 rfl (Nat.le_of_ble_eq_true rfl) (by rw [ey3]; rfl) ?_
          refine Ex.wkl (lo' := [some (.ref w.1), some (.int y3), some (.int a2), some (.int a3), none, some (.int 0)]) ⟨rfl, rfl, rfl, rfl, rfl, trivial⟩ ?_
          exact hT h0 h hW hF
        · have hT := hT.2 c
          refine x_aload_n dX10_resolve_95 rfl rfl rfl ?_
          refine m_geta dX10_resolve_96 f_TallySlateModel_139 (by decide) rfl hW ?_
          refine x_iload_n dX10_resolve_99 rfl rfl ?_
          obtain ⟨hb, hT⟩ := hT
          refine m_iald (v := (s.2.2.1 88 a2.toNatClampNeg)) dX10_resolve_100 rfl hb hW rfl ?_
          refine x_iload_n dX10_resolve_101 rfl rfl ?_
          refine x_icmp_ge (tgt := 112) dX10_resolve_102 rfl (fun c => ?_) (fun c => ?_)
          · have hT := hT.1 c
            refine Ex.wkl (lo' := [some (.ref w.1), some (.int a1), some (.int a2), some (.int a3), none, some (.int 0)]) ⟨rfl, rfl, rfl, rfl, rfl, trivial⟩ ?_
            exact hT h0 h hW hF
          · have hT := hT.2 c
            refine x_aload_n dX10_resolve_105 rfl rfl rfl ?_
            refine m_geta dX10_resolve_106 f_TallySlateModel_139 (by decide) rfl hW ?_
            refine x_iload_n dX10_resolve_109 rfl rfl ?_
            obtain ⟨hb, hT⟩ := hT
            refine m_iald (v := (s.2.2.1 88 a2.toNatClampNeg)) dX10_resolve_110 rfl hb hW rfl ?_
            obtain ⟨y4, ey4⟩ : ∃ z : Int32, z = (s.2.2.1 88 a2.toNatClampNeg) := ⟨_, rfl⟩
            have hT := hT y4 ey4
            refine x_istore_n (lo' := [some (.ref w.1), some (.int y4), some (.int a2), some (.int a3), some (.int a4), some (.int 0)]) dX10_resolve_111 rfl (Nat.le_of_ble_eq_true rfl) (by rw [ey4]; rfl) ?_
            refine Ex.wkl (lo' := [some (.ref w.1), some (.int y4), some (.int a2), some (.int a3), none, some (.int 0)]) ⟨rfl, rfl, rfl, rfl, rfl, trivial⟩ ?_
            exact hT h0 h hW hF
      · have hT := hT.2 c
        refine x_iconst (v := 1) dX10_resolve_79 rfl ?_
        refine x_goto (tgt := 84) dX10_resolve_80 rfl ?_
        refine x_istore (lo' := [some (.ref w.1), some (.int a1), some (.int a2), some (.int a3), some (.int a4), some (.int 1)]) dX10_resolve_84 (Nat.le_of_ble_eq_true rfl) rfl ?_
        refine x_iload dX10_resolve_86 rfl ?_
        refine x_if_ne (tgt := 112) dX10_resolve_88 rfl (fun _ => ?_) (fun c => absurd c (by decide))
        refine Ex.wkl (lo' := [some (.ref w.1), some (.int a1), some (.int a2), some (.int a3), none, some (.int 1)]) ⟨rfl, rfl, rfl, rfl, rfl, trivial⟩ ?_
        exact hT h0 h hW hF
  · have hT := hT.2 c
    refine x_aload_n dX10_resolve_36 rfl rfl rfl ?_
    refine m_geta dX10_resolve_37 f_TallySlateModel_103 (by decide) rfl hW ?_
    refine x_iload_n dX10_resolve_40 rfl rfl ?_
    obtain ⟨hb, hT⟩ := hT
    refine m_lald (v := (s.2.2.2 73 a3.toNatClampNeg)) dX10_resolve_41 rfl hb hW rfl ?_
    refine x_aload_n dX10_resolve_42 rfl rfl rfl ?_
    refine m_geta dX10_resolve_43 f_TallySlateModel_145 (by decide) rfl hW ?_
    refine x_iload_n dX10_resolve_46 rfl rfl ?_
    obtain ⟨hb, hT⟩ := hT
    refine m_lald (v := (s.2.2.2 90 a2.toNatClampNeg)) dX10_resolve_47 rfl hb hW rfl ?_
    refine x_lcmp dX10_resolve_48 ?_
    refine x_if_eq (tgt := 58) dX10_resolve_49 rfl (fun c => ?_) (fun c => ?_)
    · have hT := hT.1 c
      refine x_iload_n dX10_resolve_58 rfl rfl ?_
      refine x_iload dX10_resolve_59 rfl ?_
      refine x_icmp_ge (tgt := 83) dX10_resolve_61 rfl (fun c => ?_) (fun c => ?_)
      · have hT := hT.1 c
        refine x_iconst (v := 0) dX10_resolve_83 rfl ?_
        refine x_istore (lo' := [some (.ref w.1), some (.int a1), some (.int a2), some (.int a3), some (.int a4), some (.int 0)]) dX10_resolve_84 (Nat.le_of_ble_eq_true rfl) rfl ?_
        refine x_iload dX10_resolve_86 rfl ?_
        refine x_if_ne (tgt := 112) dX10_resolve_88 rfl (fun c => absurd c (by decide)) (fun _ => ?_)
        refine x_iload_n dX10_resolve_91 rfl rfl ?_
        refine x_if_lt (tgt := 105) dX10_resolve_92 rfl (fun c => ?_) (fun c => ?_)
        · have hT := hT.1 c
          refine x_aload_n dX10_resolve_105 rfl rfl rfl ?_
          refine m_geta dX10_resolve_106 f_TallySlateModel_139 (by decide) rfl hW ?_
          refine x_iload_n dX10_resolve_109 rfl rfl ?_
          obtain ⟨hb, hT⟩ := hT
          refine m_iald (v := (s.2.2.1 88 a2.toNatClampNeg)) dX10_resolve_110 rfl hb hW rfl ?_
          obtain ⟨y5, ey5⟩ : ∃ z : Int32, z = (s.2.2.1 88 a2.toNatClampNeg) := ⟨_, rfl⟩
          have hT := hT y5 ey5
          refine x_istore_n (lo' := [some (.ref w.1), some (.int y5), some (.int a2), some (.int a3), some (.int a4), some (.int 0)]) dX10_resolve_111 rfl (Nat.le_of_ble_eq_true rfl) (by rw [ey5]; rfl) ?_
          refine Ex.wkl (lo' := [some (.ref w.1), some (.int y5), some (.int a2), some (.int a3), none, some (.int 0)]) ⟨rfl, rfl, rfl, rfl, rfl, trivial⟩ ?_
          exact hT h0 h hW hF
        · have hT := hT.2 c
          refine x_aload_n dX10_resolve_95 rfl rfl rfl ?_
          refine m_geta dX10_resolve_96 f_TallySlateModel_139 (by decide) rfl hW ?_
          refine x_iload_n dX10_resolve_99 rfl rfl ?_
          obtain ⟨hb, hT⟩ := hT
          refine m_iald (v := (s.2.2.1 88 a2.toNatClampNeg)) dX10_resolve_100 rfl hb hW rfl ?_
          refine x_iload_n dX10_resolve_101 rfl rfl ?_
          refine x_icmp_ge (tgt := 112) dX10_resolve_102 rfl (fun c => ?_) (fun c => ?_)
          · have hT := hT.1 c
            refine Ex.wkl (lo' := [some (.ref w.1), some (.int a1), some (.int a2), some (.int a3), none, some (.int 0)]) ⟨rfl, rfl, rfl, rfl, rfl, trivial⟩ ?_
            exact hT h0 h hW hF
          · have hT := hT.2 c
            refine x_aload_n dX10_resolve_105 rfl rfl rfl ?_
            refine m_geta dX10_resolve_106 f_TallySlateModel_139 (by decide) rfl hW ?_
            refine x_iload_n dX10_resolve_109 rfl rfl ?_
            obtain ⟨hb, hT⟩ := hT
            refine m_iald (v := (s.2.2.1 88 a2.toNatClampNeg)) dX10_resolve_110 rfl hb hW rfl ?_
            obtain ⟨y6, ey6⟩ : ∃ z : Int32, z = (s.2.2.1 88 a2.toNatClampNeg) := ⟨_, rfl⟩
            have hT := hT y6 ey6
            refine x_istore_n (lo' := [some (.ref w.1), some (.int y6), some (.int a2), some (.int a3), some (.int a4), some (.int 0)]) dX10_resolve_111 rfl (Nat.le_of_ble_eq_true rfl) (by rw [ey6]; rfl) ?_
            refine Ex.wkl (lo' := [some (.ref w.1), some (.int y6), some (.int a2), some (.int a3), none, some (.int 0)]) ⟨rfl, rfl, rfl, rfl, rfl, trivial⟩ ?_
            exact hT h0 h hW hF
      · have hT := hT.2 c
        refine x_aload_n dX10_resolve_64 rfl rfl rfl ?_
        refine m_geta dX10_resolve_65 f_TallySlateModel_109 (by decide) rfl hW ?_
        refine x_iload_n dX10_resolve_68 rfl rfl ?_
        obtain ⟨hb, hT⟩ := hT
        refine m_iald (v := (s.2.2.1 75 a3.toNatClampNeg)) dX10_resolve_69 rfl hb hW rfl ?_
        refine x_aload_n dX10_resolve_70 rfl rfl rfl ?_
        refine m_geta dX10_resolve_71 f_TallySlateModel_142 (by decide) rfl hW ?_
        refine x_iload_n dX10_resolve_74 rfl rfl ?_
        obtain ⟨hb, hT⟩ := hT
        refine m_iald (v := (s.2.2.1 89 a2.toNatClampNeg)) dX10_resolve_75 rfl hb hW rfl ?_
        refine x_icmp_ne (tgt := 83) dX10_resolve_76 rfl (fun c => ?_) (fun c => ?_)
        · have hT := hT.1 c
          refine x_iconst (v := 0) dX10_resolve_83 rfl ?_
          refine x_istore (lo' := [some (.ref w.1), some (.int a1), some (.int a2), some (.int a3), some (.int a4), some (.int 0)]) dX10_resolve_84 (Nat.le_of_ble_eq_true rfl) rfl ?_
          refine x_iload dX10_resolve_86 rfl ?_
          refine x_if_ne (tgt := 112) dX10_resolve_88 rfl (fun c => absurd c (by decide)) (fun _ => ?_)
          refine x_iload_n dX10_resolve_91 rfl rfl ?_
          refine x_if_lt (tgt := 105) dX10_resolve_92 rfl (fun c => ?_) (fun c => ?_)
          · have hT := hT.1 c
            refine x_aload_n dX10_resolve_105 rfl rfl rfl ?_
            refine m_geta dX10_resolve_106 f_TallySlateModel_139 (by decide) rfl hW ?_
            refine x_iload_n dX10_resolve_109 rfl rfl ?_
            obtain ⟨hb, hT⟩ := hT
            refine m_iald (v := (s.2.2.1 88 a2.toNatClampNeg)) dX10_resolve_110 rfl hb hW rfl ?_
            obtain ⟨y7, ey7⟩ : ∃ z : Int32, z = (s.2.2.1 88 a2.toNatClampNeg) := ⟨_, rfl⟩
            have hT := hT y7 ey7
            refine x_istore_n (lo' := [some (.ref w.1), some (.int y7), some (.int a2), some (.int a3), some (.int a4), some (.int 0)]) dX10_resolve_111 rfl (Nat.le_of_ble_eq_true rfl) (by rw [ey7]; rfl) ?_
            refine Ex.wkl (lo' := [some (.ref w.1), some (.int y7), some (.int a2), some (.int a3), none, some (.int 0)]) ⟨rfl, rfl, rfl, rfl, rfl, trivial⟩ ?_
            exact hT h0 h hW hF
          · have hT := hT.2 c
            refine x_aload_n dX10_resolve_95 rfl rfl rfl ?_
            refine m_geta dX10_resolve_96 f_TallySlateModel_139 (by decide) rfl hW ?_
            refine x_iload_n dX10_resolve_99 rfl rfl ?_
            obtain ⟨hb, hT⟩ := hT
            refine m_iald (v := (s.2.2.1 88 a2.toNatClampNeg)) dX10_resolve_100 rfl hb hW rfl ?_
            refine x_iload_n dX10_resolve_101 rfl rfl ?_
            refine x_icmp_ge (tgt := 112) dX10_resolve_102 rfl (fun c => ?_) (fun c => ?_)
            · have hT := hT.1 c
              refine Ex.wkl (lo' := [some (.ref w.1), some (.int a1), some (.int a2), some (.int a3), none, some (.int 0)]) ⟨rfl, rfl, rfl, rfl, rfl, trivial⟩ ?_
              exact hT h0 h hW hF
            · have hT := hT.2 c
              refine x_aload_n dX10_resolve_105 rfl rfl rfl ?_
              refine m_geta dX10_resolve_106 f_TallySlateModel_139 (by decide) rfl hW ?_
              refine x_iload_n dX10_resolve_109 rfl rfl ?_
              obtain ⟨hb, hT⟩ := hT
              refine m_iald (v := (s.2.2.1 88 a2.toNatClampNeg)) dX10_resolve_110 rfl hb hW rfl ?_
              obtain ⟨y8, ey8⟩ : ∃ z : Int32, z = (s.2.2.1 88 a2.toNatClampNeg) := ⟨_, rfl⟩
              have hT := hT y8 ey8
              refine x_istore_n (lo' := [some (.ref w.1), some (.int y8), some (.int a2), some (.int a3), some (.int a4), some (.int 0)]) dX10_resolve_111 rfl (Nat.le_of_ble_eq_true rfl) (by rw [ey8]; rfl) ?_
              refine Ex.wkl (lo' := [some (.ref w.1), some (.int y8), some (.int a2), some (.int a3), none, some (.int 0)]) ⟨rfl, rfl, rfl, rfl, rfl, trivial⟩ ?_
              exact hT h0 h hW hF
        · have hT := hT.2 c
          refine x_iconst (v := 1) dX10_resolve_79 rfl ?_
          refine x_goto (tgt := 84) dX10_resolve_80 rfl ?_
          refine x_istore (lo' := [some (.ref w.1), some (.int a1), some (.int a2), some (.int a3), some (.int a4), some (.int 1)]) dX10_resolve_84 (Nat.le_of_ble_eq_true rfl) rfl ?_
          refine x_iload dX10_resolve_86 rfl ?_
          refine x_if_ne (tgt := 112) dX10_resolve_88 rfl (fun _ => ?_) (fun c => absurd c (by decide))
          refine Ex.wkl (lo' := [some (.ref w.1), some (.int a1), some (.int a2), some (.int a3), none, some (.int 1)]) ⟨rfl, rfl, rfl, rfl, rfl, trivial⟩ ?_
          exact hT h0 h hW hF
    · have hT := hT.2 c
      refine x_iinc (lo' := [some (.ref w.1), some (.int a1), some (.int a2), some (.int (a3 + 1)), some (.int a4), none]) dX10_resolve_52 rfl (show _ = (a3 + 1) from rfl) rfl ?_
      refine x_goto (tgt := 30) dX10_resolve_55 rfl ?_
      exact hT h0 h hW hF
set_option maxHeartbeats 16000000 in
theorem vX10_resolve_112 {l : Launch} {E : EN} {w : MO} {d : Nat} {s : MS} {Q : Option Value → MS → Prop} {a1 : Int32} {a2 : Int32} {a3 : Int32} {a5 : Int32} (hT : ((a5 = 0 → ((a5 = 0 → ExM l E w (d + 1) MX10_resolve 4 [some (.ref w.1), some (.int a1), some (.int (a2 + 1)), none, none, none] [] s Q) ∧ (¬ a5 = 0 → (inB a2 800 ∧ (inB (s.2.2.1 87 a2.toNatClampNeg) 8000 ∧ ((¬ (s.2.2.1 80 (s.2.2.1 87 a2.toNatClampNeg).toNatClampNeg) = 11 → ExM l E w (d + 1) MX10_resolve 4 [some (.ref w.1), some (.int a1), some (.int (a2 + 1)), none, none, none] [] s Q) ∧ ((s.2.2.1 80 (s.2.2.1 87 a2.toNatClampNeg).toNatClampNeg) = 11 → (inB a2 800 ∧ (inB (s.2.2.1 87 a2.toNatClampNeg) 8000 ∧ ExM l E w (d + 1) MX10_resolve 4 [some (.ref w.1), some (.int a1), some (.int (a2 + 1)), none, none, none] [] (sA s 82 (s.2.2.1 87 a2.toNatClampNeg).toNatClampNeg a3) Q))))))))) ∧ (¬ a5 = 0 → (inB a2 800 ∧ (inB (s.2.2.1 87 a2.toNatClampNeg) 8000 ∧ ((¬ (s.2.2.1 80 (s.2.2.1 87 a2.toNatClampNeg).toNatClampNeg) = 9 → ((a5 = 0 → ExM l E w (d + 1) MX10_resolve 4 [some (.ref w.1), some (.int a1), some (.int (a2 + 1)), none, none, none] [] s Q) ∧ (¬ a5 = 0 → (inB a2 800 ∧ (inB (s.2.2.1 87 a2.toNatClampNeg) 8000 ∧ ((¬ (s.2.2.1 80 (s.2.2.1 87 a2.toNatClampNeg).toNatClampNeg) = 11 → ExM l E w (d + 1) MX10_resolve 4 [some (.ref w.1), some (.int a1), some (.int (a2 + 1)), none, none, none] [] s Q) ∧ ((s.2.2.1 80 (s.2.2.1 87 a2.toNatClampNeg).toNatClampNeg) = 11 → (inB a2 800 ∧ (inB (s.2.2.1 87 a2.toNatClampNeg) 8000 ∧ ExM l E w (d + 1) MX10_resolve 4 [some (.ref w.1), some (.int a1), some (.int (a2 + 1)), none, none, none] [] (sA s 82 (s.2.2.1 87 a2.toNatClampNeg).toNatClampNeg a3) Q))))))))) ∧ ((s.2.2.1 80 (s.2.2.1 87 a2.toNatClampNeg).toNatClampNeg) = 9 → (inB a2 800 ∧ (inB (s.2.2.1 87 a2.toNatClampNeg) 8000 ∧ ((a5 = 0 → ExM l E w (d + 1) MX10_resolve 4 [some (.ref w.1), some (.int a1), some (.int (a2 + 1)), none, none, none] [] (sA s 81 (s.2.2.1 87 a2.toNatClampNeg).toNatClampNeg a3) Q) ∧ (¬ a5 = 0 → (inB a2 800 ∧ (inB (s.2.2.1 87 a2.toNatClampNeg) 8000 ∧ ((¬ (s.2.2.1 80 (s.2.2.1 87 a2.toNatClampNeg).toNatClampNeg) = 11 → ExM l E w (d + 1) MX10_resolve 4 [some (.ref w.1), some (.int a1), some (.int (a2 + 1)), none, none, none] [] (sA s 81 (s.2.2.1 87 a2.toNatClampNeg).toNatClampNeg a3) Q) ∧ ((s.2.2.1 80 (s.2.2.1 87 a2.toNatClampNeg).toNatClampNeg) = 11 → (inB a2 800 ∧ (inB (s.2.2.1 87 a2.toNatClampNeg) 8000 ∧ ExM l E w (d + 1) MX10_resolve 4 [some (.ref w.1), some (.int a1), some (.int (a2 + 1)), none, none, none] [] (sA (sA s 81 (s.2.2.1 87 a2.toNatClampNeg).toNatClampNeg a3) 82 (s.2.2.1 87 a2.toNatClampNeg).toNatClampNeg a3) Q))))))))))))))))) : ExM l E w (d + 1) MX10_resolve 112 [some (.ref w.1), some (.int a1), some (.int a2), some (.int a3), none, some (.int a5)] [] s Q := by
  intro h0 h hW hF
  refine x_iload dX10_resolve_112 rfl ?_
  refine x_if_eq (tgt := 145) dX10_resolve_114 rfl (fun c => ?_) (fun c => ?_)
  · have hT := hT.1 c
    refine x_iload dX10_resolve_145 rfl ?_
    refine x_if_eq (tgt := 178) dX10_resolve_147 rfl (fun c => ?_) (fun c => ?_)
    · have hT := hT.1 c
      refine x_iinc (lo' := [some (.ref w.1), some (.int a1), some (.int (a2 + 1)), some (.int a3), none, some (.int a5)]) dX10_resolve_178 rfl (show _ = (a2 + 1) from rfl) rfl ?_
      refine x_goto (tgt := 4) dX10_resolve_181 rfl ?_
      refine Ex.wkl (lo' := [some (.ref w.1), some (.int a1), some (.int (a2 + 1)), none, none, none]) ⟨rfl, rfl, rfl, trivial⟩ ?_
      exact hT h0 h hW hF
    · have hT := hT.2 c
      refine x_aload_n dX10_resolve_150 rfl rfl rfl ?_
      refine m_geta dX10_resolve_151 f_TallySlateModel_121 (by decide) rfl hW ?_
      refine x_aload_n dX10_resolve_154 rfl rfl rfl ?_
      refine m_geta dX10_resolve_155 f_TallySlateModel_136 (by decide) rfl hW ?_
      refine x_iload_n dX10_resolve_158 rfl rfl ?_
      obtain ⟨hb, hT⟩ := hT
      refine m_iald (v := (s.2.2.1 87 a2.toNatClampNeg)) dX10_resolve_159 rfl hb hW rfl ?_
      obtain ⟨hb, hT⟩ := hT
      refine m_iald (v := (s.2.2.1 80 (s.2.2.1 87 a2.toNatClampNeg).toNatClampNeg)) dX10_resolve_160 rfl hb hW rfl ?_
      refine x_bipush (v := 11) dX10_resolve_161 rfl ?_
      refine x_icmp_ne (tgt := 178) dX10_resolve_163 rfl (fun c => ?_) (fun c => ?_)
      · have hT := hT.1 c
        refine x_iinc (lo' := [some (.ref w.1), some (.int a1), some (.int (a2 + 1)), some (.int a3), none, some (.int a5)]) dX10_resolve_178 rfl (show _ = (a2 + 1) from rfl) rfl ?_
        refine x_goto (tgt := 4) dX10_resolve_181 rfl ?_
        refine Ex.wkl (lo' := [some (.ref w.1), some (.int a1), some (.int (a2 + 1)), none, none, none]) ⟨rfl, rfl, rfl, trivial⟩ ?_
        exact hT h0 h hW hF
      · have hT := hT.2 c
        refine x_aload_n dX10_resolve_166 rfl rfl rfl ?_
        refine m_geta dX10_resolve_167 f_TallySlateModel_127 (by decide) rfl hW ?_
        refine x_aload_n dX10_resolve_170 rfl rfl rfl ?_
        refine m_geta dX10_resolve_171 f_TallySlateModel_136 (by decide) rfl hW ?_
        refine x_iload_n dX10_resolve_174 rfl rfl ?_
        obtain ⟨hb, hT⟩ := hT
        refine m_iald (v := (s.2.2.1 87 a2.toNatClampNeg)) dX10_resolve_175 rfl hb hW rfl ?_
        refine x_iload_n dX10_resolve_176 rfl rfl ?_
        obtain ⟨hb, hT⟩ := hT
        refine m_iast dX10_resolve_177 rfl hb hW hF ?_
        intro h hW hF
        refine x_iinc (lo' := [some (.ref w.1), some (.int a1), some (.int (a2 + 1)), some (.int a3), none, some (.int a5)]) dX10_resolve_178 rfl (show _ = (a2 + 1) from rfl) rfl ?_
        refine x_goto (tgt := 4) dX10_resolve_181 rfl ?_
        refine Ex.wkl (lo' := [some (.ref w.1), some (.int a1), some (.int (a2 + 1)), none, none, none]) ⟨rfl, rfl, rfl, trivial⟩ ?_
        exact hT h0 h hW hF
  · have hT := hT.2 c
    refine x_aload_n dX10_resolve_117 rfl rfl rfl ?_
    refine m_geta dX10_resolve_118 f_TallySlateModel_121 (by decide) rfl hW ?_
    refine x_aload_n dX10_resolve_121 rfl rfl rfl ?_
    refine m_geta dX10_resolve_122 f_TallySlateModel_136 (by decide) rfl hW ?_
    refine x_iload_n dX10_resolve_125 rfl rfl ?_
    obtain ⟨hb, hT⟩ := hT
    refine m_iald (v := (s.2.2.1 87 a2.toNatClampNeg)) dX10_resolve_126 rfl hb hW rfl ?_
    obtain ⟨hb, hT⟩ := hT
    refine m_iald (v := (s.2.2.1 80 (s.2.2.1 87 a2.toNatClampNeg).toNatClampNeg)) dX10_resolve_127 rfl hb hW rfl ?_
    refine x_bipush (v := 9) dX10_resolve_128 rfl ?_
    refine x_icmp_ne (tgt := 145) dX10_resolve_130 rfl (fun c => ?_) (fun c => ?_)
    · have hT := hT.1 c
      refine x_iload dX10_resolve_145 rfl ?_
      refine x_if_eq (tgt := 178) dX10_resolve_147 rfl (fun c => ?_) (fun c => ?_)
      · have hT := hT.1 c
        refine x_iinc (lo' := [some (.ref w.1), some (.int a1), some (.int (a2 + 1)), some (.int a3), none, some (.int a5)]) dX10_resolve_178 rfl (show _ = (a2 + 1) from rfl) rfl ?_
        refine x_goto (tgt := 4) dX10_resolve_181 rfl ?_
        refine Ex.wkl (lo' := [some (.ref w.1), some (.int a1), some (.int (a2 + 1)), none, none, none]) ⟨rfl, rfl, rfl, trivial⟩ ?_
        exact hT h0 h hW hF
      · have hT := hT.2 c
        refine x_aload_n dX10_resolve_150 rfl rfl rfl ?_
        refine m_geta dX10_resolve_151 f_TallySlateModel_121 (by decide) rfl hW ?_
        refine x_aload_n dX10_resolve_154 rfl rfl rfl ?_
        refine m_geta dX10_resolve_155 f_TallySlateModel_136 (by decide) rfl hW ?_
        refine x_iload_n dX10_resolve_158 rfl rfl ?_
        obtain ⟨hb, hT⟩ := hT
        refine m_iald (v := (s.2.2.1 87 a2.toNatClampNeg)) dX10_resolve_159 rfl hb hW rfl ?_
        obtain ⟨hb, hT⟩ := hT
        refine m_iald (v := (s.2.2.1 80 (s.2.2.1 87 a2.toNatClampNeg).toNatClampNeg)) dX10_resolve_160 rfl hb hW rfl ?_
        refine x_bipush (v := 11) dX10_resolve_161 rfl ?_
        refine x_icmp_ne (tgt := 178) dX10_resolve_163 rfl (fun c => ?_) (fun c => ?_)
        · have hT := hT.1 c
          refine x_iinc (lo' := [some (.ref w.1), some (.int a1), some (.int (a2 + 1)), some (.int a3), none, some (.int a5)]) dX10_resolve_178 rfl (show _ = (a2 + 1) from rfl) rfl ?_
          refine x_goto (tgt := 4) dX10_resolve_181 rfl ?_
          refine Ex.wkl (lo' := [some (.ref w.1), some (.int a1), some (.int (a2 + 1)), none, none, none]) ⟨rfl, rfl, rfl, trivial⟩ ?_
          exact hT h0 h hW hF
        · have hT := hT.2 c
          refine x_aload_n dX10_resolve_166 rfl rfl rfl ?_
          refine m_geta dX10_resolve_167 f_TallySlateModel_127 (by decide) rfl hW ?_
          refine x_aload_n dX10_resolve_170 rfl rfl rfl ?_
          refine m_geta dX10_resolve_171 f_TallySlateModel_136 (by decide) rfl hW ?_
          refine x_iload_n dX10_resolve_174 rfl rfl ?_
          obtain ⟨hb, hT⟩ := hT
          refine m_iald (v := (s.2.2.1 87 a2.toNatClampNeg)) dX10_resolve_175 rfl hb hW rfl ?_
          refine x_iload_n dX10_resolve_176 rfl rfl ?_
          obtain ⟨hb, hT⟩ := hT
          refine m_iast dX10_resolve_177 rfl hb hW hF ?_
          intro h hW hF
          refine x_iinc (lo' := [some (.ref w.1), some (.int a1), some (.int (a2 + 1)), some (.int a3), none, some (.int a5)]) dX10_resolve_178 rfl (show _ = (a2 + 1) from rfl) rfl ?_
          refine x_goto (tgt := 4) dX10_resolve_181 rfl ?_
          refine Ex.wkl (lo' := [some (.ref w.1), some (.int a1), some (.int (a2 + 1)), none, none, none]) ⟨rfl, rfl, rfl, trivial⟩ ?_
          exact hT h0 h hW hF
    · have hT := hT.2 c
      refine x_aload_n dX10_resolve_133 rfl rfl rfl ?_
      refine m_geta dX10_resolve_134 f_TallySlateModel_124 (by decide) rfl hW ?_
      refine x_aload_n dX10_resolve_137 rfl rfl rfl ?_
      refine m_geta dX10_resolve_138 f_TallySlateModel_136 (by decide) rfl hW ?_
      refine x_iload_n dX10_resolve_141 rfl rfl ?_
      obtain ⟨hb, hT⟩ := hT
      refine m_iald (v := (s.2.2.1 87 a2.toNatClampNeg)) dX10_resolve_142 rfl hb hW rfl ?_
      refine x_iload_n dX10_resolve_143 rfl rfl ?_
      obtain ⟨hb, hT⟩ := hT
      refine m_iast dX10_resolve_144 rfl hb hW hF ?_
      intro h hW hF
      refine x_iload dX10_resolve_145 rfl ?_
      refine x_if_eq (tgt := 178) dX10_resolve_147 rfl (fun c => ?_) (fun c => ?_)
      · have hT := hT.1 c
        refine x_iinc (lo' := [some (.ref w.1), some (.int a1), some (.int (a2 + 1)), some (.int a3), none, some (.int a5)]) dX10_resolve_178 rfl (show _ = (a2 + 1) from rfl) rfl ?_
        refine x_goto (tgt := 4) dX10_resolve_181 rfl ?_
        refine Ex.wkl (lo' := [some (.ref w.1), some (.int a1), some (.int (a2 + 1)), none, none, none]) ⟨rfl, rfl, rfl, trivial⟩ ?_
        exact hT h0 h hW hF
      · have hT := hT.2 c
        refine x_aload_n dX10_resolve_150 rfl rfl rfl ?_
        refine m_geta dX10_resolve_151 f_TallySlateModel_121 (by decide) rfl hW ?_
        refine x_aload_n dX10_resolve_154 rfl rfl rfl ?_
        refine m_geta dX10_resolve_155 f_TallySlateModel_136 (by decide) rfl hW ?_
        refine x_iload_n dX10_resolve_158 rfl rfl ?_
        obtain ⟨hb, hT⟩ := hT
        refine m_iald (v := (s.2.2.1 87 a2.toNatClampNeg)) dX10_resolve_159 rfl hb hW rfl ?_
        obtain ⟨hb, hT⟩ := hT
        refine m_iald (v := (s.2.2.1 80 (s.2.2.1 87 a2.toNatClampNeg).toNatClampNeg)) dX10_resolve_160 rfl hb hW rfl ?_
        refine x_bipush (v := 11) dX10_resolve_161 rfl ?_
        refine x_icmp_ne (tgt := 178) dX10_resolve_163 rfl (fun c => ?_) (fun c => ?_)
        · have hT := hT.1 c
          refine x_iinc (lo' := [some (.ref w.1), some (.int a1), some (.int (a2 + 1)), some (.int a3), none, some (.int a5)]) dX10_resolve_178 rfl (show _ = (a2 + 1) from rfl) rfl ?_
          refine x_goto (tgt := 4) dX10_resolve_181 rfl ?_
          refine Ex.wkl (lo' := [some (.ref w.1), some (.int a1), some (.int (a2 + 1)), none, none, none]) ⟨rfl, rfl, rfl, trivial⟩ ?_
          exact hT h0 h hW hF
        · have hT := hT.2 c
          refine x_aload_n dX10_resolve_166 rfl rfl rfl ?_
          refine m_geta dX10_resolve_167 f_TallySlateModel_127 (by decide) rfl hW ?_
          refine x_aload_n dX10_resolve_170 rfl rfl rfl ?_
          refine m_geta dX10_resolve_171 f_TallySlateModel_136 (by decide) rfl hW ?_
          refine x_iload_n dX10_resolve_174 rfl rfl ?_
          obtain ⟨hb, hT⟩ := hT
          refine m_iald (v := (s.2.2.1 87 a2.toNatClampNeg)) dX10_resolve_175 rfl hb hW rfl ?_
          refine x_iload_n dX10_resolve_176 rfl rfl ?_
          obtain ⟨hb, hT⟩ := hT
          refine m_iast dX10_resolve_177 rfl hb hW hF ?_
          intro h hW hF
          refine x_iinc (lo' := [some (.ref w.1), some (.int a1), some (.int (a2 + 1)), some (.int a3), none, some (.int a5)]) dX10_resolve_178 rfl (show _ = (a2 + 1) from rfl) rfl ?_
          refine x_goto (tgt := 4) dX10_resolve_181 rfl ?_
          refine Ex.wkl (lo' := [some (.ref w.1), some (.int a1), some (.int (a2 + 1)), none, none, none]) ⟨rfl, rfl, rfl, trivial⟩ ?_
          exact hT h0 h hW hF
theorem vX10_fault_0 {l : Launch} {E : EN} {w : MO} {d : Nat} {s : MS} {Q : Option Value → MS → Prop} {x1 : Int32} (hT : ((¬ x1 = 0 → ((¬ x1 = 1 → Q (some (.int (-1))) s) ∧ (x1 = 1 → Q (some (.int (s.1 103))) s))) ∧ (x1 = 0 → Q (some (.int (s.1 102))) s))) : ExM l E w d MX10_fault 0 [some (.ref w.1), some (.int x1)] [] s Q := by
  intro h0 h hW hF
  refine x_iload_n dX10_fault_0 rfl rfl ?_
  refine x_if_ne (tgt := 11) dX10_fault_1 rfl (fun c => ?_) (fun c => ?_)
  · have hT := hT.1 c
    refine x_iload_n dX10_fault_11 rfl rfl ?_
    refine x_iconst (v := 1) dX10_fault_12 rfl ?_
    refine x_icmp_ne (tgt := 23) dX10_fault_13 rfl (fun c => ?_) (fun c => ?_)
    · have hT := hT.1 c
      refine x_iconst (v := (-1)) dX10_fault_23 rfl ?_
      exact x_iret dX10_fault_24 rfl rfl ⟨_, _, rfl, hW, hF, hT⟩
    · have hT := hT.2 c
      refine x_aload_n dX10_fault_16 rfl rfl rfl ?_
      refine m_geti (v := (s.1 103)) dX10_fault_17 f_TallySlateModel_179 (by decide) rfl hW rfl ?_
      refine x_goto (tgt := 24) dX10_fault_20 rfl ?_
      exact x_iret dX10_fault_24 rfl rfl ⟨_, _, rfl, hW, hF, hT⟩
  · have hT := hT.2 c
    refine x_aload_n dX10_fault_4 rfl rfl rfl ?_
    refine m_geti (v := (s.1 102)) dX10_fault_5 f_TallySlateModel_175 (by decide) rfl hW rfl ?_
    refine x_goto (tgt := 24) dX10_fault_8 rfl ?_
    exact x_iret dX10_fault_24 rfl rfl ⟨_, _, rfl, hW, hF, hT⟩
theorem eX10_fault {l : Launch} {E : EN} {w : MO} {d : Nat} {s : MS} {Q : Option Value → MS → Prop} {x1 : Int32} (hst : l.stackTraces = false) (hT : ((¬ x1 = 0 → ((¬ x1 = 1 → Q (some (.int (-1))) s) ∧ (x1 = 1 → Q (some (.int (s.1 103))) s))) ∧ (x1 = 0 → Q (some (.int (s.1 102))) s))) : EvM l E w d MX10_fault [.ref w.1, .int x1] s Q :=
  EvM.of hst (by decide) (Nat.le_of_ble_eq_true rfl) (vX10_fault_0 hT)
theorem vX10_function_2_0 {l : Launch} {E : EN} {w : MO} {d : Nat} {s : MS} {Q : Option Value → MS → Prop} {x1 : Int32} {x2 : Int32} (hT : ((x1 < 0 → Q (some (.int (-1))) s) ∧ (¬ x1 < 0 → ((x1 < (s.1 71) → (∀ y1 : Int32, y1 = ((12 * (s.1 69)) + x1) → ((¬ x2 = 0 → ((¬ x2 = 1 → ((¬ x2 = 2 → Q (some (.int (-1))) s) ∧ (x2 = 2 → (inB y1 24 ∧ Q (some (.int (s.2.2.1 74 y1.toNatClampNeg))) s)))) ∧ (x2 = 1 → (inB y1 24 ∧ Q (some (.int (s.2.2.1 76 y1.toNatClampNeg))) s)))) ∧ (x2 = 0 → (inB y1 24 ∧ Q (some (.int (s.2.2.1 75 y1.toNatClampNeg))) s))))) ∧ (¬ x1 < (s.1 71) → Q (some (.int (-1))) s))))) : ExM l E w d MX10_function_2 0 [some (.ref w.1), some (.int x1), some (.int x2), none] [] s Q := by
  intro h0 h hW hF
  refine x_iload_n dX10_function_2_0 rfl rfl ?_
  refine x_if_lt (tgt := 12) dX10_function_2_1 rfl (fun c => ?_) (fun c => ?_)
  · have hT := hT.1 c
    refine x_iconst (v := (-1)) dX10_function_2_12 rfl ?_
    exact x_iret dX10_function_2_13 rfl rfl ⟨_, _, rfl, hW, hF, hT⟩
  · have hT := hT.2 c
    refine x_iload_n dX10_function_2_4 rfl rfl ?_
    refine x_aload_n dX10_function_2_5 rfl rfl rfl ?_
    refine m_geti (v := (s.1 71)) dX10_function_2_6 f_TallySlateModel_454 (by decide) rfl hW rfl ?_
    refine x_icmp_lt (tgt := 14) dX10_function_2_9 rfl (fun c => ?_) (fun c => ?_)
    · have hT := hT.1 c
      refine x_bipush (v := 12) dX10_function_2_14 rfl ?_
      refine x_aload_n dX10_function_2_16 rfl rfl rfl ?_
      refine m_geti (v := (s.1 69)) dX10_function_2_17 f_TallySlateModel_340 (by decide) rfl hW rfl ?_
      refine x_imul dX10_function_2_20 ?_
      refine x_iload_n dX10_function_2_21 rfl rfl ?_
      refine x_iadd dX10_function_2_22 ?_
      obtain ⟨y1, ey1⟩ : ∃ z : Int32, z = ((12 * (s.1 69)) + x1) := ⟨_, rfl⟩
      have hT := hT y1 ey1
      refine x_istore_n (lo' := [some (.ref w.1), some (.int x1), some (.int x2), some (.int y1)]) dX10_function_2_23 rfl (Nat.le_of_ble_eq_true rfl) (by rw [ey1]; rfl) ?_
      refine x_iload_n dX10_function_2_24 rfl rfl ?_
      refine x_if_ne (tgt := 37) dX10_function_2_25 rfl (fun c => ?_) (fun c => ?_)
      · have hT := hT.1 c
        refine x_iload_n dX10_function_2_37 rfl rfl ?_
        refine x_iconst (v := 1) dX10_function_2_38 rfl ?_
        refine x_icmp_ne (tgt := 51) dX10_function_2_39 rfl (fun c => ?_) (fun c => ?_)
        · have hT := hT.1 c
          refine x_iload_n dX10_function_2_51 rfl rfl ?_
          refine x_iconst (v := 2) dX10_function_2_52 rfl ?_
          refine x_icmp_ne (tgt := 65) dX10_function_2_53 rfl (fun c => ?_) (fun c => ?_)
          · have hT := hT.1 c
            refine x_iconst (v := (-1)) dX10_function_2_65 rfl ?_
            exact x_iret dX10_function_2_66 rfl rfl ⟨_, _, rfl, hW, hF, hT⟩
          · have hT := hT.2 c
            refine x_aload_n dX10_function_2_56 rfl rfl rfl ?_
            refine m_geta dX10_function_2_57 f_TallySlateModel_106 (by decide) rfl hW ?_
            refine x_iload_n dX10_function_2_60 rfl rfl ?_
            obtain ⟨hb, hT⟩ := hT
            refine m_iald (v := (s.2.2.1 74 y1.toNatClampNeg)) dX10_function_2_61 rfl hb hW rfl ?_
            refine x_goto (tgt := 66) dX10_function_2_62 rfl ?_
            exact x_iret dX10_function_2_66 rfl rfl ⟨_, _, rfl, hW, hF, hT⟩
        · have hT := hT.2 c
          refine x_aload_n dX10_function_2_42 rfl rfl rfl ?_
          refine m_geta dX10_function_2_43 f_TallySlateModel_112 (by decide) rfl hW ?_
          refine x_iload_n dX10_function_2_46 rfl rfl ?_
          obtain ⟨hb, hT⟩ := hT
          refine m_iald (v := (s.2.2.1 76 y1.toNatClampNeg)) dX10_function_2_47 rfl hb hW rfl ?_
          refine x_goto (tgt := 66) dX10_function_2_48 rfl ?_
          exact x_iret dX10_function_2_66 rfl rfl ⟨_, _, rfl, hW, hF, hT⟩
      · have hT := hT.2 c
        refine x_aload_n dX10_function_2_28 rfl rfl rfl ?_
        refine m_geta dX10_function_2_29 f_TallySlateModel_109 (by decide) rfl hW ?_
        refine x_iload_n dX10_function_2_32 rfl rfl ?_
        obtain ⟨hb, hT⟩ := hT
        refine m_iald (v := (s.2.2.1 75 y1.toNatClampNeg)) dX10_function_2_33 rfl hb hW rfl ?_
        refine x_goto (tgt := 66) dX10_function_2_34 rfl ?_
        exact x_iret dX10_function_2_66 rfl rfl ⟨_, _, rfl, hW, hF, hT⟩
    · have hT := hT.2 c
      refine x_iconst (v := (-1)) dX10_function_2_12 rfl ?_
      exact x_iret dX10_function_2_13 rfl rfl ⟨_, _, rfl, hW, hF, hT⟩
theorem eX10_function_2 {l : Launch} {E : EN} {w : MO} {d : Nat} {s : MS} {Q : Option Value → MS → Prop} {x1 : Int32} {x2 : Int32} (hst : l.stackTraces = false) (hT : ((x1 < 0 → Q (some (.int (-1))) s) ∧ (¬ x1 < 0 → ((x1 < (s.1 71) → (∀ y1 : Int32, y1 = ((12 * (s.1 69)) + x1) → ((¬ x2 = 0 → ((¬ x2 = 1 → ((¬ x2 = 2 → Q (some (.int (-1))) s) ∧ (x2 = 2 → (inB y1 24 ∧ Q (some (.int (s.2.2.1 74 y1.toNatClampNeg))) s)))) ∧ (x2 = 1 → (inB y1 24 ∧ Q (some (.int (s.2.2.1 76 y1.toNatClampNeg))) s)))) ∧ (x2 = 0 → (inB y1 24 ∧ Q (some (.int (s.2.2.1 75 y1.toNatClampNeg))) s))))) ∧ (¬ x1 < (s.1 71) → Q (some (.int (-1))) s))))) : EvM l E w d MX10_function_2 [.ref w.1, .int x1, .int x2] s Q :=
  EvM.of hst (by decide) (Nat.le_of_ble_eq_true rfl) (vX10_function_2_0 hT)
set_option maxHeartbeats 16000000 in
theorem vX10_run_0 {l : Launch} {E : EN} {w : MO} {d : Nat} {s : MS} {Q : Option Value → MS → Prop} {x1 : Int32} {x2 : Int32} {x3 : Int32} (hT : (((s.1 70) = 0 → Q (some (.int (-1))) s) ∧ (¬ (s.1 70) = 0 → ((x1 < 0 → Q (some (.int (-1))) s) ∧ (¬ x1 < 0 → (((s.1 71) ≤ x1 → Q (some (.int (-1))) s) ∧ (¬ (s.1 71) ≤ x1 → (inB ((12 * (s.1 69)) + x1) 24 ∧ ((¬ (s.2.2.1 75 ((12 * (s.1 69)) + x1).toNatClampNeg) = 0 → Q (some (.int (-1))) s) ∧ ((s.2.2.1 75 ((12 * (s.1 69)) + x1).toNatClampNeg) = 0 → ((x2 < (-1) → Q (some (.int (-1))) s) ∧ (¬ x2 < (-1) → ((7 < x2 → Q (some (.int (-1))) s) ∧ (¬ 7 < x2 → ((x3 < 1 → Q (some (.int (-1))) s) ∧ (¬ x3 < 1 → ((x3 ≤ 20000 → (inB 154240 166300 ∧ (inB 154241 166300 ∧ ExM l E w (d + 1) MX10_run 154 [some (.ref w.1), some (.int x1), some (.int x2), none, some (.int 0), none] [] (sA (sA (sI (sI (sI (sI (sI (sI (sI (sI (sI (sI (sI (sI (sI (sI s 125 1) 117 0) 118 x3) 119 0) 120 0) 121 0) 122 0) 123 0) 124 (-1)) 144 0) 108 0) 136 0) 130 0) 105 154250) 104 (154240 : Int32).toNatClampNeg 1) 104 (154241 : Int32).toNatClampNeg 0) Q))) ∧ (¬ x3 ≤ 20000 → Q (some (.int (-1))) s)))))))))))))))))) : ExM l E w (d + 1) MX10_run 0 [some (.ref w.1), some (.int x1), some (.int x2), some (.int x3), none, none] [] s Q := by
  intro h0 h hW hF
  refine x_aload_n dX10_run_0 rfl rfl rfl ?_
  refine m_geti (v := (s.1 70)) dX10_run_1 f_TallySlateModel_457 (by decide) rfl hW rfl ?_
  refine x_if_eq (tgt := 59) dX10_run_4 rfl (fun c => ?_) (fun c => ?_)
  · have hT := hT.1 c
    refine x_iconst (v := (-1)) dX10_run_59 rfl ?_
    exact x_iret dX10_run_60 rfl rfl ⟨_, _, rfl, hW, hF, hT⟩
  · have hT := hT.2 c
    refine x_iload_n dX10_run_7 rfl rfl ?_
    refine x_if_lt (tgt := 59) dX10_run_8 rfl (fun c => ?_) (fun c => ?_)
    · have hT := hT.1 c
      refine x_iconst (v := (-1)) dX10_run_59 rfl ?_
      exact x_iret dX10_run_60 rfl rfl ⟨_, _, rfl, hW, hF, hT⟩
    · have hT := hT.2 c
      refine x_iload_n dX10_run_11 rfl rfl ?_
      refine x_aload_n dX10_run_12 rfl rfl rfl ?_
      refine m_geti (v := (s.1 71)) dX10_run_13 f_TallySlateModel_454 (by decide) rfl hW rfl ?_
      refine x_icmp_ge (tgt := 59) dX10_run_16 rfl (fun c => ?_) (fun c => ?_)
      · have hT := hT.1 c
        refine x_iconst (v := (-1)) dX10_run_59 rfl ?_
        exact x_iret dX10_run_60 rfl rfl ⟨_, _, rfl, hW, hF, hT⟩
      · have hT := hT.2 c
        refine x_aload_n dX10_run_19 rfl rfl rfl ?_
        refine m_geta dX10_run_20 f_TallySlateModel_109 (by decide) rfl hW ?_
        refine x_bipush (v := 12) dX10_run_23 rfl ?_
        refine x_aload_n dX10_run_25 rfl rfl rfl ?_
        refine m_geti (v := (s.1 69)) dX10_run_26 f_TallySlateModel_340 (by decide) rfl hW rfl ?_
        refine x_imul dX10_run_29 ?_
        refine x_iload_n dX10_run_30 rfl rfl ?_
        refine x_iadd dX10_run_31 ?_
        obtain ⟨hb, hT⟩ := hT
        refine m_iald (v := (s.2.2.1 75 ((12 * (s.1 69)) + x1).toNatClampNeg)) dX10_run_32 rfl hb hW rfl ?_
        refine x_if_ne (tgt := 59) dX10_run_33 rfl (fun c => ?_) (fun c => ?_)
        · have hT := hT.1 c
          refine x_iconst (v := (-1)) dX10_run_59 rfl ?_
          exact x_iret dX10_run_60 rfl rfl ⟨_, _, rfl, hW, hF, hT⟩
        · have hT := hT.2 c
          refine x_iload_n dX10_run_36 rfl rfl ?_
          refine x_iconst (v := (-1)) dX10_run_37 rfl ?_
          refine x_icmp_lt (tgt := 59) dX10_run_38 rfl (fun c => ?_) (fun c => ?_)
          · have hT := hT.1 c
            refine x_iconst (v := (-1)) dX10_run_59 rfl ?_
            exact x_iret dX10_run_60 rfl rfl ⟨_, _, rfl, hW, hF, hT⟩
          · have hT := hT.2 c
            refine x_iload_n dX10_run_41 rfl rfl ?_
            refine x_bipush (v := 7) dX10_run_42 rfl ?_
            refine x_icmp_gt (tgt := 59) dX10_run_44 rfl (fun c => ?_) (fun c => ?_)
            · have hT := hT.1 c
              refine x_iconst (v := (-1)) dX10_run_59 rfl ?_
              exact x_iret dX10_run_60 rfl rfl ⟨_, _, rfl, hW, hF, hT⟩
            · have hT := hT.2 c
              refine x_iload_n dX10_run_47 rfl rfl ?_
              refine x_iconst (v := 1) dX10_run_48 rfl ?_
              refine x_icmp_lt (tgt := 59) dX10_run_49 rfl (fun c => ?_) (fun c => ?_)
              · have hT := hT.1 c
                refine x_iconst (v := (-1)) dX10_run_59 rfl ?_
                exact x_iret dX10_run_60 rfl rfl ⟨_, _, rfl, hW, hF, hT⟩
              · have hT := hT.2 c
                refine x_iload_n dX10_run_52 rfl rfl ?_
                refine x_sipush (v := 20000) dX10_run_53 rfl ?_
                refine x_icmp_le (tgt := 61) dX10_run_56 rfl (fun c => ?_) (fun c => ?_)
                · have hT := hT.1 c
                  refine x_aload_n dX10_run_61 rfl rfl rfl ?_
                  refine x_iconst (v := 1) dX10_run_62 rfl ?_
                  refine m_puti dX10_run_63 f_TallySlateModel_552 (by decide) rfl rfl rfl rfl hW hF ?_
                  intro h hW hF
                  refine x_aload_n dX10_run_66 rfl rfl rfl ?_
                  refine x_iconst (v := 0) dX10_run_67 rfl ?_
                  refine m_puti dX10_run_68 f_TallySlateModel_501 (by decide) rfl rfl rfl rfl hW hF ?_
                  intro h hW hF
                  refine x_aload_n dX10_run_71 rfl rfl rfl ?_
                  refine x_iload_n dX10_run_72 rfl rfl ?_
                  refine m_puti dX10_run_73 f_TallySlateModel_504 (by decide) rfl rfl rfl rfl hW hF ?_
                  intro h hW hF
                  refine x_aload_n dX10_run_76 rfl rfl rfl ?_
                  refine x_iconst (v := 0) dX10_run_77 rfl ?_
                  refine m_puti dX10_run_78 f_TallySlateModel_513 (by decide) rfl rfl rfl rfl hW hF ?_
                  intro h hW hF
                  refine x_aload_n dX10_run_81 rfl rfl rfl ?_
                  refine x_iconst (v := 0) dX10_run_82 rfl ?_
                  refine m_puti dX10_run_83 f_TallySlateModel_537 (by decide) rfl rfl rfl rfl hW hF ?_
                  intro h hW hF
                  refine x_aload_n dX10_run_86 rfl rfl rfl ?_
                  refine x_iconst (v := 0) dX10_run_87 rfl ?_
                  refine m_puti dX10_run_88 f_TallySlateModel_546 (by decide) rfl rfl rfl rfl hW hF ?_
                  intro h hW hF
                  refine x_aload_n dX10_run_91 rfl rfl rfl ?_
                  refine x_iconst (v := 0) dX10_run_92 rfl ?_
                  refine m_puti dX10_run_93 f_TallySlateModel_543 (by decide) rfl rfl rfl rfl hW hF ?_
                  intro h hW hF
                  refine x_aload_n dX10_run_96 rfl rfl rfl ?_
                  refine x_iconst (v := 0) dX10_run_97 rfl ?_
                  refine m_puti dX10_run_98 f_TallySlateModel_498 (by decide) rfl rfl rfl rfl hW hF ?_
                  intro h hW hF
                  refine x_aload_n dX10_run_101 rfl rfl rfl ?_
                  refine x_iconst (v := (-1)) dX10_run_102 rfl ?_
                  refine m_puti dX10_run_103 f_TallySlateModel_207 (by decide) rfl rfl rfl rfl hW hF ?_
                  intro h hW hF
                  refine x_aload_n dX10_run_106 rfl rfl rfl ?_
                  refine x_iconst (v := 0) dX10_run_107 rfl ?_
                  refine m_puti dX10_run_108 f_TallySlateModel_555 (by decide) rfl rfl rfl rfl hW hF ?_
                  intro h hW hF
                  refine x_aload_n dX10_run_111 rfl rfl rfl ?_
                  refine x_iconst (v := 0) dX10_run_112 rfl ?_
                  refine m_puti dX10_run_113 f_TallySlateModel_461 (by decide) rfl rfl rfl rfl hW hF ?_
                  intro h hW hF
                  refine x_aload_n dX10_run_116 rfl rfl rfl ?_
                  refine x_iconst (v := 0) dX10_run_117 rfl ?_
                  refine m_puti dX10_run_118 f_TallySlateModel_534 (by decide) rfl rfl rfl rfl hW hF ?_
                  intro h hW hF
                  refine x_aload_n dX10_run_121 rfl rfl rfl ?_
                  refine x_iconst (v := 0) dX10_run_122 rfl ?_
                  refine m_puti dX10_run_123 f_TallySlateModel_531 (by decide) rfl rfl rfl rfl hW hF ?_
                  intro h hW hF
                  refine x_aload_n dX10_run_126 rfl rfl rfl ?_
                  refine x_ldcw dX10_run_127 q2687 ?_
                  refine m_puti dX10_run_130 f_TallySlateModel_519 (by decide) rfl rfl rfl rfl hW hF ?_
                  intro h hW hF
                  refine x_aload_n dX10_run_133 rfl rfl rfl ?_
                  refine m_geta dX10_run_134 f_TallySlateModel_183 (by decide) rfl hW ?_
                  refine x_ldcw dX10_run_137 q2688 ?_
                  refine x_iconst (v := 1) dX10_run_140 rfl ?_
                  obtain ⟨hb, hT⟩ := hT
                  refine m_iast dX10_run_141 rfl hb hW hF ?_
                  intro h hW hF
                  refine x_aload_n dX10_run_142 rfl rfl rfl ?_
                  refine m_geta dX10_run_143 f_TallySlateModel_183 (by decide) rfl hW ?_
                  refine x_ldcw dX10_run_146 q2689 ?_
                  refine x_iconst (v := 0) dX10_run_149 rfl ?_
                  obtain ⟨hb, hT⟩ := hT
                  refine m_iast dX10_run_150 rfl hb hW hF ?_
                  intro h hW hF
                  refine x_iconst (v := 0) dX10_run_151 rfl ?_
                  refine x_istore (lo' := [some (.ref w.1), some (.int x1), some (.int x2), some (.int x3), some (.int 0), none]) dX10_run_152 (Nat.le_of_ble_eq_true rfl) rfl ?_
                  refine Ex.wkl (lo' := [some (.ref w.1), some (.int x1), some (.int x2), none, some (.int 0), none]) ⟨rfl, rfl, rfl, rfl, trivial⟩ ?_
                  exact hT h0 h hW hF
                · have hT := hT.2 c
                  refine x_iconst (v := (-1)) dX10_run_59 rfl ?_
                  exact x_iret dX10_run_60 rfl rfl ⟨_, _, rfl, hW, hF, hT⟩
theorem eX10_run {l : Launch} {E : EN} {w : MO} {d : Nat} {s : MS} {Q : Option Value → MS → Prop} {x1 : Int32} {x2 : Int32} {x3 : Int32} (hst : l.stackTraces = false) (hT : (((s.1 70) = 0 → Q (some (.int (-1))) s) ∧ (¬ (s.1 70) = 0 → ((x1 < 0 → Q (some (.int (-1))) s) ∧ (¬ x1 < 0 → (((s.1 71) ≤ x1 → Q (some (.int (-1))) s) ∧ (¬ (s.1 71) ≤ x1 → (inB ((12 * (s.1 69)) + x1) 24 ∧ ((¬ (s.2.2.1 75 ((12 * (s.1 69)) + x1).toNatClampNeg) = 0 → Q (some (.int (-1))) s) ∧ ((s.2.2.1 75 ((12 * (s.1 69)) + x1).toNatClampNeg) = 0 → ((x2 < (-1) → Q (some (.int (-1))) s) ∧ (¬ x2 < (-1) → ((7 < x2 → Q (some (.int (-1))) s) ∧ (¬ 7 < x2 → ((x3 < 1 → Q (some (.int (-1))) s) ∧ (¬ x3 < 1 → ((x3 ≤ 20000 → (inB 154240 166300 ∧ (inB 154241 166300 ∧ ExM l E w (d + 1) MX10_run 154 [some (.ref w.1), some (.int x1), some (.int x2), none, some (.int 0), none] [] (sA (sA (sI (sI (sI (sI (sI (sI (sI (sI (sI (sI (sI (sI (sI (sI s 125 1) 117 0) 118 x3) 119 0) 120 0) 121 0) 122 0) 123 0) 124 (-1)) 144 0) 108 0) 136 0) 130 0) 105 154250) 104 (154240 : Int32).toNatClampNeg 1) 104 (154241 : Int32).toNatClampNeg 0) Q))) ∧ (¬ x3 ≤ 20000 → Q (some (.int (-1))) s)))))))))))))))))) : EvM l E w (d + 1) MX10_run [.ref w.1, .int x1, .int x2, .int x3] s Q :=
  EvM.of hst (by decide) (Nat.le_of_ble_eq_true rfl) (vX10_run_0 hT)
set_option maxHeartbeats 16000000 in
theorem vX10_run_154 {l : Launch} {E : EN} {w : MO} {d : Nat} {s : MS} {Q : Option Value → MS → Prop} {a1 : Int32} {a2 : Int32} {a4 : Int32} (hT : ((8 ≤ a4 → (EvM l E w d MX10_enters [.ref w.1, .int ((12 * (s.1 69)) + a1), .int 0, .int (-1)] s (fun r s1 => r = none ∧ ExM l E w (d + 1) MX10_run 258 [some (.ref w.1), none, some (.int a2), none, none, none] [] s1 Q))) ∧ (¬ 8 ≤ a4 → (∀ y2 : Int32, y2 = (2410 * a4) → (inB y2 166300 ∧ ((¬ (s.2.2.1 104 y2.toNatClampNeg) = (-1) → (inB y2 166300 ∧ ((¬ (s.2.2.1 104 y2.toNatClampNeg) = 0 → (inB a4 8 ∧ (inB y2 166300 ∧ ((¬ (s.2.2.1 104 y2.toNatClampNeg) = 0 → (inB a4 8 ∧ ExM l E w (d + 1) MX10_run 154 [some (.ref w.1), some (.int a1), some (.int a2), none, some (.int (a4 + 1)), none] [] (sA (sA s 128 a4.toNatClampNeg 1) 129 a4.toNatClampNeg y2) Q)) ∧ ((s.2.2.1 104 y2.toNatClampNeg) = 0 → (inB (y2 + 1) 166300 ∧ (inB a4 8 ∧ ExM l E w (d + 1) MX10_run 154 [some (.ref w.1), some (.int a1), some (.int a2), none, some (.int (a4 + 1)), none] [] (sA (sA s 128 a4.toNatClampNeg 1) 129 a4.toNatClampNeg (s.2.2.1 104 (y2 + 1).toNatClampNeg)) Q))))))) ∧ ((s.2.2.1 104 y2.toNatClampNeg) = 0 → (inB a4 8 ∧ (inB y2 166300 ∧ ((¬ (s.2.2.1 104 y2.toNatClampNeg) = 0 → (inB a4 8 ∧ ExM l E w (d + 1) MX10_run 154 [some (.ref w.1), some (.int a1), some (.int a2), none, some (.int (a4 + 1)), none] [] (sA (sA s 128 a4.toNatClampNeg 0) 129 a4.toNatClampNeg y2) Q)) ∧ ((s.2.2.1 104 y2.toNatClampNeg) = 0 → (inB (y2 + 1) 166300 ∧ (inB a4 8 ∧ ExM l E w (d + 1) MX10_run 154 [some (.ref w.1), some (.int a1), some (.int a2), none, some (.int (a4 + 1)), none] [] (sA (sA s 128 a4.toNatClampNeg 0) 129 a4.toNatClampNeg (s.2.2.1 104 (y2 + 1).toNatClampNeg)) Q)))))))))) ∧ ((s.2.2.1 104 y2.toNatClampNeg) = (-1) → (inB a4 8 ∧ (inB y2 166300 ∧ ((¬ (s.2.2.1 104 y2.toNatClampNeg) = 0 → (inB a4 8 ∧ ExM l E w (d + 1) MX10_run 154 [some (.ref w.1), some (.int a1), some (.int a2), none, some (.int (a4 + 1)), none] [] (sA (sA s 128 a4.toNatClampNeg 2) 129 a4.toNatClampNeg y2) Q)) ∧ ((s.2.2.1 104 y2.toNatClampNeg) = 0 → (inB (y2 + 1) 166300 ∧ (inB a4 8 ∧ ExM l E w (d + 1) MX10_run 154 [some (.ref w.1), some (.int a1), some (.int a2), none, some (.int (a4 + 1)), none] [] (sA (sA s 128 a4.toNatClampNeg 2) 129 a4.toNatClampNeg (s.2.2.1 104 (y2 + 1).toNatClampNeg)) Q))))))))))))) : ExM l E w (d + 1) MX10_run 154 [some (.ref w.1), some (.int a1), some (.int a2), none, some (.int a4), none] [] s Q := by
  intro h0 h hW hF
  refine x_iload dX10_run_154 rfl ?_
  refine x_bipush (v := 8) dX10_run_156 rfl ?_
  refine x_icmp_ge (tgt := 243) dX10_run_158 rfl (fun c => ?_) (fun c => ?_)
  · have hT := hT.1 c
    refine x_aload_n dX10_run_243 rfl rfl rfl ?_
    refine x_bipush (v := 12) dX10_run_244 rfl ?_
    refine x_aload_n dX10_run_246 rfl rfl rfl ?_
    refine m_geti (v := (s.1 69)) dX10_run_247 f_TallySlateModel_340 (by decide) rfl hW rfl ?_
    refine x_imul dX10_run_250 ?_
    refine x_iload_n dX10_run_251 rfl rfl ?_
    refine x_iadd dX10_run_252 ?_
    refine x_iconst (v := 0) dX10_run_253 rfl ?_
    refine x_iconst (v := (-1)) dX10_run_254 rfl ?_
    refine m_inv (vs := [.int ((12 * (s.1 69)) + a1), .int 0, .int (-1)]) dX10_run_255 oX10_enters q2692 q2690 qs97 rfl rfl (Nat.le_of_ble_eq_true rfl) rfl hW hF hT ?_
    rintro _ s1 ⟨rfl, hT⟩ h hW hF
    refine Ex.wkl (lo' := [some (.ref w.1), none, some (.int a2), none, none, none]) ⟨rfl, rfl, trivial⟩ ?_
    exact hT h0 h hW hF
  · have hT := hT.2 c
    refine x_sipush (v := 2410) dX10_run_161 rfl ?_
    refine x_iload dX10_run_164 rfl ?_
    refine x_imul dX10_run_166 ?_
    obtain ⟨y2, ey2⟩ : ∃ z : Int32, z = (2410 * a4) := ⟨_, rfl⟩
    have hT := hT y2 ey2
    refine x_istore (lo' := [some (.ref w.1), some (.int a1), some (.int a2), none, some (.int a4), some (.int y2)]) dX10_run_167 (Nat.le_of_ble_eq_true rfl) (by rw [ey2]; rfl) ?_
    refine x_aload_n dX10_run_169 rfl rfl rfl ?_
    refine m_geta dX10_run_170 f_TallySlateModel_210 (by decide) rfl hW ?_
    refine x_iload dX10_run_173 rfl ?_
    refine x_aload_n dX10_run_175 rfl rfl rfl ?_
    refine m_geta dX10_run_176 f_TallySlateModel_183 (by decide) rfl hW ?_
    refine x_iload dX10_run_179 rfl ?_
    obtain ⟨hb, hT⟩ := hT
    refine m_iald (v := (s.2.2.1 104 y2.toNatClampNeg)) dX10_run_181 rfl hb hW rfl ?_
    refine x_iconst (v := (-1)) dX10_run_182 rfl ?_
    refine x_icmp_ne (tgt := 190) dX10_run_183 rfl (fun c => ?_) (fun c => ?_)
    · have hT := hT.1 c
      refine x_aload_n dX10_run_190 rfl rfl rfl ?_
      refine m_geta dX10_run_191 f_TallySlateModel_183 (by decide) rfl hW ?_
      refine x_iload dX10_run_194 rfl ?_
      obtain ⟨hb, hT⟩ := hT
      refine m_iald (v := (s.2.2.1 104 y2.toNatClampNeg)) dX10_run_196 rfl hb hW rfl ?_
      refine x_if_ne (tgt := 204) dX10_run_197 rfl (fun c => ?_) (fun c => ?_)
      · have hT := hT.1 c
        refine x_iconst (v := 1) dX10_run_204 rfl ?_
        obtain ⟨hb, hT⟩ := hT
        refine m_iast dX10_run_205 rfl hb hW hF ?_
        intro h hW hF
        refine x_aload_n dX10_run_206 rfl rfl rfl ?_
        refine m_geta dX10_run_207 f_TallySlateModel_213 (by decide) rfl hW ?_
        refine x_iload dX10_run_210 rfl ?_
        refine x_aload_n dX10_run_212 rfl rfl rfl ?_
        refine m_geta dX10_run_213 f_TallySlateModel_183 (by decide) rfl hW ?_
        refine x_iload dX10_run_216 rfl ?_
        obtain ⟨hb, hT⟩ := hT
        refine m_iald (v := (s.2.2.1 104 y2.toNatClampNeg)) dX10_run_218 rfl hb hW rfl ?_
        refine x_if_ne (tgt := 234) dX10_run_219 rfl (fun c => ?_) (fun c => ?_)
        · have hT := hT.1 c
          refine x_iload dX10_run_234 rfl ?_
          obtain ⟨hb, hT⟩ := hT
          refine m_iast dX10_run_236 rfl hb hW hF ?_
          intro h hW hF
          refine x_iinc (lo' := [some (.ref w.1), some (.int a1), some (.int a2), none, some (.int (a4 + 1)), some (.int y2)]) dX10_run_237 rfl (show _ = (a4 + 1) from rfl) rfl ?_
          refine x_goto (tgt := 154) dX10_run_240 rfl ?_
          refine Ex.wkl (lo' := [some (.ref w.1), some (.int a1), some (.int a2), none, some (.int (a4 + 1)), none]) ⟨rfl, rfl, rfl, rfl, trivial⟩ ?_
          exact hT h0 h hW hF
        · have hT := hT.2 c
          refine x_aload_n dX10_run_222 rfl rfl rfl ?_
          refine m_geta dX10_run_223 f_TallySlateModel_183 (by decide) rfl hW ?_
          refine x_iload dX10_run_226 rfl ?_
          refine x_iconst (v := 1) dX10_run_228 rfl ?_
          refine x_iadd dX10_run_229 ?_
          obtain ⟨hb, hT⟩ := hT
          refine m_iald (v := (s.2.2.1 104 (y2 + 1).toNatClampNeg)) dX10_run_230 rfl hb hW rfl ?_
          refine x_goto (tgt := 236) dX10_run_231 rfl ?_
          obtain ⟨hb, hT⟩ := hT
          refine m_iast dX10_run_236 rfl hb hW hF ?_
          intro h hW hF
          refine x_iinc (lo' := [some (.ref w.1), some (.int a1), some (.int a2), none, some (.int (a4 + 1)), some (.int y2)]) dX10_run_237 rfl (show _ = (a4 + 1) from rfl) rfl ?_
          refine x_goto (tgt := 154) dX10_run_240 rfl ?_
          refine Ex.wkl (lo' := [some (.ref w.1), some (.int a1), some (.int a2), none, some (.int (a4 + 1)), none]) ⟨rfl, rfl, rfl, rfl, trivial⟩ ?_
          exact hT h0 h hW hF
      · have hT := hT.2 c
        refine x_iconst (v := 0) dX10_run_200 rfl ?_
        refine x_goto (tgt := 205) dX10_run_201 rfl ?_
        obtain ⟨hb, hT⟩ := hT
        refine m_iast dX10_run_205 rfl hb hW hF ?_
        intro h hW hF
        refine x_aload_n dX10_run_206 rfl rfl rfl ?_
        refine m_geta dX10_run_207 f_TallySlateModel_213 (by decide) rfl hW ?_
        refine x_iload dX10_run_210 rfl ?_
        refine x_aload_n dX10_run_212 rfl rfl rfl ?_
        refine m_geta dX10_run_213 f_TallySlateModel_183 (by decide) rfl hW ?_
        refine x_iload dX10_run_216 rfl ?_
        obtain ⟨hb, hT⟩ := hT
        refine m_iald (v := (s.2.2.1 104 y2.toNatClampNeg)) dX10_run_218 rfl hb hW rfl ?_
        refine x_if_ne (tgt := 234) dX10_run_219 rfl (fun c => ?_) (fun c => ?_)
        · have hT := hT.1 c
          refine x_iload dX10_run_234 rfl ?_
          obtain ⟨hb, hT⟩ := hT
          refine m_iast dX10_run_236 rfl hb hW hF ?_
          intro h hW hF
          refine x_iinc (lo' := [some (.ref w.1), some (.int a1), some (.int a2), none, some (.int (a4 + 1)), some (.int y2)]) dX10_run_237 rfl (show _ = (a4 + 1) from rfl) rfl ?_
          refine x_goto (tgt := 154) dX10_run_240 rfl ?_
          refine Ex.wkl (lo' := [some (.ref w.1), some (.int a1), some (.int a2), none, some (.int (a4 + 1)), none]) ⟨rfl, rfl, rfl, rfl, trivial⟩ ?_
          exact hT h0 h hW hF
        · have hT := hT.2 c
          refine x_aload_n dX10_run_222 rfl rfl rfl ?_
          refine m_geta dX10_run_223 f_TallySlateModel_183 (by decide) rfl hW ?_
          refine x_iload dX10_run_226 rfl ?_
          refine x_iconst (v := 1) dX10_run_228 rfl ?_
          refine x_iadd dX10_run_229 ?_
          obtain ⟨hb, hT⟩ := hT
          refine m_iald (v := (s.2.2.1 104 (y2 + 1).toNatClampNeg)) dX10_run_230 rfl hb hW rfl ?_
          refine x_goto (tgt := 236) dX10_run_231 rfl ?_
          obtain ⟨hb, hT⟩ := hT
          refine m_iast dX10_run_236 rfl hb hW hF ?_
          intro h hW hF
          refine x_iinc (lo' := [some (.ref w.1), some (.int a1), some (.int a2), none, some (.int (a4 + 1)), some (.int y2)]) dX10_run_237 rfl (show _ = (a4 + 1) from rfl) rfl ?_
          refine x_goto (tgt := 154) dX10_run_240 rfl ?_
          refine Ex.wkl (lo' := [some (.ref w.1), some (.int a1), some (.int a2), none, some (.int (a4 + 1)), none]) ⟨rfl, rfl, rfl, rfl, trivial⟩ ?_
          exact hT h0 h hW hF
    · have hT := hT.2 c
      refine x_iconst (v := 2) dX10_run_186 rfl ?_
      refine x_goto (tgt := 205) dX10_run_187 rfl ?_
      obtain ⟨hb, hT⟩ := hT
      refine m_iast dX10_run_205 rfl hb hW hF ?_
      intro h hW hF
      refine x_aload_n dX10_run_206 rfl rfl rfl ?_
      refine m_geta dX10_run_207 f_TallySlateModel_213 (by decide) rfl hW ?_
      refine x_iload dX10_run_210 rfl ?_
      refine x_aload_n dX10_run_212 rfl rfl rfl ?_
      refine m_geta dX10_run_213 f_TallySlateModel_183 (by decide) rfl hW ?_
      refine x_iload dX10_run_216 rfl ?_
      obtain ⟨hb, hT⟩ := hT
      refine m_iald (v := (s.2.2.1 104 y2.toNatClampNeg)) dX10_run_218 rfl hb hW rfl ?_
      refine x_if_ne (tgt := 234) dX10_run_219 rfl (fun c => ?_) (fun c => ?_)
      · have hT := hT.1 c
        refine x_iload dX10_run_234 rfl ?_
        obtain ⟨hb, hT⟩ := hT
        refine m_iast dX10_run_236 rfl hb hW hF ?_
        intro h hW hF
        refine x_iinc (lo' := [some (.ref w.1), some (.int a1), some (.int a2), none, some (.int (a4 + 1)), some (.int y2)]) dX10_run_237 rfl (show _ = (a4 + 1) from rfl) rfl ?_
        refine x_goto (tgt := 154) dX10_run_240 rfl ?_
        refine Ex.wkl (lo' := [some (.ref w.1), some (.int a1), some (.int a2), none, some (.int (a4 + 1)), none]) ⟨rfl, rfl, rfl, rfl, trivial⟩ ?_
        exact hT h0 h hW hF
      · have hT := hT.2 c
        refine x_aload_n dX10_run_222 rfl rfl rfl ?_
        refine m_geta dX10_run_223 f_TallySlateModel_183 (by decide) rfl hW ?_
        refine x_iload dX10_run_226 rfl ?_
        refine x_iconst (v := 1) dX10_run_228 rfl ?_
        refine x_iadd dX10_run_229 ?_
        obtain ⟨hb, hT⟩ := hT
        refine m_iald (v := (s.2.2.1 104 (y2 + 1).toNatClampNeg)) dX10_run_230 rfl hb hW rfl ?_
        refine x_goto (tgt := 236) dX10_run_231 rfl ?_
        obtain ⟨hb, hT⟩ := hT
        refine m_iast dX10_run_236 rfl hb hW hF ?_
        intro h hW hF
        refine x_iinc (lo' := [some (.ref w.1), some (.int a1), some (.int a2), none, some (.int (a4 + 1)), some (.int y2)]) dX10_run_237 rfl (show _ = (a4 + 1) from rfl) rfl ?_
        refine x_goto (tgt := 154) dX10_run_240 rfl ?_
        refine Ex.wkl (lo' := [some (.ref w.1), some (.int a1), some (.int a2), none, some (.int (a4 + 1)), none]) ⟨rfl, rfl, rfl, rfl, trivial⟩ ?_
        exact hT h0 h hW hF
set_option maxHeartbeats 16000000 in
theorem vX10_run_258 {l : Launch} {E : EN} {w : MO} {d : Nat} {s : MS} {Q : Option Value → MS → Prop} {a2 : Int32} (hT : (((s.1 130) ≤ 0 → (((s.1 123) ≤ 0 → ((a2 < 0 → ExM l E w (d + 1) MX10_run 363 [some (.ref w.1), none, none, none, some (.int 0), none] [] s Q) ∧ (¬ a2 < 0 → (inB 0 9000 ∧ (inB a2 8 ∧ (inB 0 9000 ∧ (inB a2 8 ∧ ExM l E w (d + 1) MX10_run 363 [some (.ref w.1), none, none, none, some (.int 0), none] [] (sA (sA s 128 a2.toNatClampNeg (s.2.2.1 106 (0 : Int32).toNatClampNeg)) 129 a2.toNatClampNeg (s.2.2.1 107 (0 : Int32).toNatClampNeg)) Q))))))) ∧ (¬ (s.1 123) ≤ 0 → Q (some (.int (s.1 123))) s))) ∧ (¬ (s.1 130) ≤ 0 → ((¬ (s.1 123) = 0 → (((s.1 123) ≤ 0 → ((a2 < 0 → ExM l E w (d + 1) MX10_run 363 [some (.ref w.1), none, none, none, some (.int 0), none] [] s Q) ∧ (¬ a2 < 0 → (inB 0 9000 ∧ (inB a2 8 ∧ (inB 0 9000 ∧ (inB a2 8 ∧ ExM l E w (d + 1) MX10_run 363 [some (.ref w.1), none, none, none, some (.int 0), none] [] (sA (sA s 128 a2.toNatClampNeg (s.2.2.1 106 (0 : Int32).toNatClampNeg)) 129 a2.toNatClampNeg (s.2.2.1 107 (0 : Int32).toNatClampNeg)) Q))))))) ∧ (¬ (s.1 123) ≤ 0 → Q (some (.int (s.1 123))) s))) ∧ ((s.1 123) = 0 → (∀ y1 : Int32, y1 = (s.1 126) → (inB y1 8000 ∧ (EvM l E w d MX10_does [.ref w.1, .int y1] (sI (sI s 126 ((s.1 126) + 1)) 127 (s.2.2.1 84 y1.toNatClampNeg)) (fun r s2 => r = none ∧ (((s2.1 123) ≤ 0 → ExM l E w (d + 1) MX10_run 258 [some (.ref w.1), none, some (.int a2), none, none, none] [] s2 Q) ∧ (¬ (s2.1 123) ≤ 0 → (EvM l E w d MX10_isTaken [.ref w.1] s2 (fun r s3 => ∃ v4 : Int32, r = some (.int v4) ∧ ExM l E w (d + 1) MX10_run 258 [some (.ref w.1), none, some (.int a2), none, none, none] [] s3 Q))))))))))))) : ExM l E w (d + 1) MX10_run 258 [some (.ref w.1), none, some (.int a2), none, none, none] [] s Q := by
  intro h0 h hW hF
  refine x_aload_n dX10_run_258 rfl rfl rfl ?_
  refine m_geti (v := (s.1 130)) dX10_run_259 f_TallySlateModel_531 (by decide) rfl hW rfl ?_
  refine x_if_le (tgt := 320) dX10_run_262 rfl (fun c => ?_) (fun c => ?_)
  · have hT := hT.1 c
    refine x_aload_n dX10_run_320 rfl rfl rfl ?_
    refine m_geti (v := (s.1 123)) dX10_run_321 f_TallySlateModel_498 (by decide) rfl hW rfl ?_
    refine x_if_le (tgt := 332) dX10_run_324 rfl (fun c => ?_) (fun c => ?_)
    · have hT := hT.1 c
      refine x_iload_n dX10_run_332 rfl rfl ?_
      refine x_if_lt (tgt := 360) dX10_run_333 rfl (fun c => ?_) (fun c => ?_)
      · have hT := hT.1 c
        refine x_iconst (v := 0) dX10_run_360 rfl ?_
        refine x_istore (lo' := [some (.ref w.1), none, some (.int a2), none, some (.int 0), none]) dX10_run_361 (Nat.le_of_ble_eq_true rfl) rfl ?_
        refine Ex.wkl (lo' := [some (.ref w.1), none, none, none, some (.int 0), none]) ⟨rfl, rfl, trivial⟩ ?_
        exact hT h0 h hW hF
      · have hT := hT.2 c
        refine x_aload_n dX10_run_336 rfl rfl rfl ?_
        refine m_geta dX10_run_337 f_TallySlateModel_210 (by decide) rfl hW ?_
        refine x_iload_n dX10_run_340 rfl rfl ?_
        refine x_aload_n dX10_run_341 rfl rfl rfl ?_
        refine m_geta dX10_run_342 f_TallySlateModel_186 (by decide) rfl hW ?_
        refine x_iconst (v := 0) dX10_run_345 rfl ?_
        obtain ⟨hb, hT⟩ := hT
        refine m_iald (v := (s.2.2.1 106 (0 : Int32).toNatClampNeg)) dX10_run_346 rfl hb hW rfl ?_
        obtain ⟨hb, hT⟩ := hT
        refine m_iast dX10_run_347 rfl hb hW hF ?_
        intro h hW hF
        refine x_aload_n dX10_run_348 rfl rfl rfl ?_
        refine m_geta dX10_run_349 f_TallySlateModel_213 (by decide) rfl hW ?_
        refine x_iload_n dX10_run_352 rfl rfl ?_
        refine x_aload_n dX10_run_353 rfl rfl rfl ?_
        refine m_geta dX10_run_354 f_TallySlateModel_189 (by decide) rfl hW ?_
        refine x_iconst (v := 0) dX10_run_357 rfl ?_
        obtain ⟨hb, hT⟩ := hT
        refine m_iald (v := (s.2.2.1 107 (0 : Int32).toNatClampNeg)) dX10_run_358 rfl hb hW rfl ?_
        obtain ⟨hb, hT⟩ := hT
        refine m_iast dX10_run_359 rfl hb hW hF ?_
        intro h hW hF
        refine x_iconst (v := 0) dX10_run_360 rfl ?_
        refine x_istore (lo' := [some (.ref w.1), none, some (.int a2), none, some (.int 0), none]) dX10_run_361 (Nat.le_of_ble_eq_true rfl) rfl ?_
        refine Ex.wkl (lo' := [some (.ref w.1), none, none, none, some (.int 0), none]) ⟨rfl, rfl, trivial⟩ ?_
        exact hT h0 h hW hF
    · have hT := hT.2 c
      refine x_aload_n dX10_run_327 rfl rfl rfl ?_
      refine m_geti (v := (s.1 123)) dX10_run_328 f_TallySlateModel_498 (by decide) rfl hW rfl ?_
      exact x_iret dX10_run_331 rfl rfl ⟨_, _, rfl, hW, hF, hT⟩
  · have hT := hT.2 c
    refine x_aload_n dX10_run_265 rfl rfl rfl ?_
    refine m_geti (v := (s.1 123)) dX10_run_266 f_TallySlateModel_498 (by decide) rfl hW rfl ?_
    refine x_if_ne (tgt := 320) dX10_run_269 rfl (fun c => ?_) (fun c => ?_)
    · have hT := hT.1 c
      refine x_aload_n dX10_run_320 rfl rfl rfl ?_
      refine m_geti (v := (s.1 123)) dX10_run_321 f_TallySlateModel_498 (by decide) rfl hW rfl ?_
      refine x_if_le (tgt := 332) dX10_run_324 rfl (fun c => ?_) (fun c => ?_)
      · have hT := hT.1 c
        refine x_iload_n dX10_run_332 rfl rfl ?_
        refine x_if_lt (tgt := 360) dX10_run_333 rfl (fun c => ?_) (fun c => ?_)
        · have hT := hT.1 c
          refine x_iconst (v := 0) dX10_run_360 rfl ?_
          refine x_istore (lo' := [some (.ref w.1), none, some (.int a2), none, some (.int 0), none]) dX10_run_361 (Nat.le_of_ble_eq_true rfl) rfl ?_
          refine Ex.wkl (lo' := [some (.ref w.1), none, none, none, some (.int 0), none]) ⟨rfl, rfl, trivial⟩ ?_
          exact hT h0 h hW hF
        · have hT := hT.2 c
          refine x_aload_n dX10_run_336 rfl rfl rfl ?_
          refine m_geta dX10_run_337 f_TallySlateModel_210 (by decide) rfl hW ?_
          refine x_iload_n dX10_run_340 rfl rfl ?_
          refine x_aload_n dX10_run_341 rfl rfl rfl ?_
          refine m_geta dX10_run_342 f_TallySlateModel_186 (by decide) rfl hW ?_
          refine x_iconst (v := 0) dX10_run_345 rfl ?_
          obtain ⟨hb, hT⟩ := hT
          refine m_iald (v := (s.2.2.1 106 (0 : Int32).toNatClampNeg)) dX10_run_346 rfl hb hW rfl ?_
          obtain ⟨hb, hT⟩ := hT
          refine m_iast dX10_run_347 rfl hb hW hF ?_
          intro h hW hF
          refine x_aload_n dX10_run_348 rfl rfl rfl ?_
          refine m_geta dX10_run_349 f_TallySlateModel_213 (by decide) rfl hW ?_
          refine x_iload_n dX10_run_352 rfl rfl ?_
          refine x_aload_n dX10_run_353 rfl rfl rfl ?_
          refine m_geta dX10_run_354 f_TallySlateModel_189 (by decide) rfl hW ?_
          refine x_iconst (v := 0) dX10_run_357 rfl ?_
          obtain ⟨hb, hT⟩ := hT
          refine m_iald (v := (s.2.2.1 107 (0 : Int32).toNatClampNeg)) dX10_run_358 rfl hb hW rfl ?_
          obtain ⟨hb, hT⟩ := hT
          refine m_iast dX10_run_359 rfl hb hW hF ?_
          intro h hW hF
          refine x_iconst (v := 0) dX10_run_360 rfl ?_
          refine x_istore (lo' := [some (.ref w.1), none, some (.int a2), none, some (.int 0), none]) dX10_run_361 (Nat.le_of_ble_eq_true rfl) rfl ?_
          refine Ex.wkl (lo' := [some (.ref w.1), none, none, none, some (.int 0), none]) ⟨rfl, rfl, trivial⟩ ?_
          exact hT h0 h hW hF
      · have hT := hT.2 c
        refine x_aload_n dX10_run_327 rfl rfl rfl ?_
        refine m_geti (v := (s.1 123)) dX10_run_328 f_TallySlateModel_498 (by decide) rfl hW rfl ?_
        exact x_iret dX10_run_331 rfl rfl ⟨_, _, rfl, hW, hF, hT⟩
    · have hT := hT.2 c
      refine x_aload_n dX10_run_272 rfl rfl rfl ?_
      refine m_geti (v := (s.1 126)) dX10_run_273 f_TallySlateModel_540 (by decide) rfl hW rfl ?_
      obtain ⟨y1, ey1⟩ : ∃ z : Int32, z = (s.1 126) := ⟨_, rfl⟩
      have hT := hT y1 ey1
      refine x_istore (lo' := [some (.ref w.1), none, some (.int a2), none, some (.int y1), none]) dX10_run_276 (Nat.le_of_ble_eq_true rfl) (by rw [ey1]; rfl) ?_
      refine x_aload_n dX10_run_278 rfl rfl rfl ?_
      refine x_dup dX10_run_279 rfl ?_
      refine m_geti (v := (s.1 126)) dX10_run_280 f_TallySlateModel_540 (by decide) rfl hW rfl ?_
      refine x_iconst (v := 1) dX10_run_283 rfl ?_
      refine x_iadd dX10_run_284 ?_
      refine m_puti dX10_run_285 f_TallySlateModel_540 (by decide) rfl rfl rfl rfl hW hF ?_
      intro h hW hF
      refine x_aload_n dX10_run_288 rfl rfl rfl ?_
      refine x_aload_n dX10_run_289 rfl rfl rfl ?_
      refine m_geta dX10_run_290 f_TallySlateModel_133 (by decide) rfl hW ?_
      refine x_iload dX10_run_293 rfl ?_
      obtain ⟨hb, hT⟩ := hT
      refine m_iald (v := (s.2.2.1 84 y1.toNatClampNeg)) dX10_run_295 rfl hb hW rfl ?_
      refine m_puti dX10_run_296 f_TallySlateModel_507 (by decide) rfl rfl rfl rfl hW hF ?_
      intro h hW hF
      refine x_aload_n dX10_run_299 rfl rfl rfl ?_
      refine x_iload dX10_run_300 rfl ?_
      refine m_inv (vs := [.int y1]) dX10_run_302 oX10_does q2700 q2698 qs99 rfl rfl (Nat.le_of_ble_eq_true rfl) rfl hW hF hT ?_
      rintro _ s2 ⟨rfl, hT⟩ h hW hF
      refine x_aload_n dX10_run_305 rfl rfl rfl ?_
      refine m_geti (v := (s2.1 123)) dX10_run_306 f_TallySlateModel_498 (by decide) rfl hW rfl ?_
      refine x_if_le (tgt := 317) dX10_run_309 rfl (fun c => ?_) (fun c => ?_)
      · have hT := hT.1 c
        refine x_goto (tgt := 258) dX10_run_317 rfl ?_
        refine Ex.wkl (lo' := [some (.ref w.1), none, some (.int a2), none, none, none]) ⟨rfl, rfl, trivial⟩ ?_
        exact hT h0 h hW hF
      · have hT := hT.2 c
        refine x_aload_n dX10_run_312 rfl rfl rfl ?_
        refine m_inv (vs := []) dX10_run_313 oX10_isTaken q2936 q2934 qs154 rfl rfl (Nat.le_of_ble_eq_true rfl) rfl hW hF hT ?_
        rintro _ s3 ⟨v4, rfl, hT⟩ h hW hF
        refine x_pop dX10_run_316 rfl ?_
        refine x_goto (tgt := 258) dX10_run_317 rfl ?_
        refine Ex.wkl (lo' := [some (.ref w.1), none, some (.int a2), none, none, none]) ⟨rfl, rfl, trivial⟩ ?_
        exact hT h0 h hW hF
theorem vX10_run_363 {l : Launch} {E : EN} {w : MO} {d : Nat} {s : MS} {Q : Option Value → MS → Prop} {a4 : Int32} (hT : ((8 ≤ a4 → ExM l E w (d + 1) MX10_run 406 [some (.ref w.1), none, none, none, some (.int 0), none] [] s Q) ∧ (¬ 8 ≤ a4 → (inB a4 8 ∧ (inB a4 8 ∧ (EvM l E w d MX10_lay [.ref w.1, .int (s.2.2.1 128 a4.toNatClampNeg), .int (s.2.2.1 129 a4.toNatClampNeg), .int (2410 * (56 + a4))] s (fun r s1 => r = none ∧ ExM l E w (d + 1) MX10_run 363 [some (.ref w.1), none, none, none, some (.int (a4 + 1)), none] [] s1 Q))))))) : ExM l E w (d + 1) MX10_run 363 [some (.ref w.1), none, none, none, some (.int a4), none] [] s Q := by
  intro h0 h hW hF
  refine x_iload dX10_run_363 rfl ?_
  refine x_bipush (v := 8) dX10_run_365 rfl ?_
  refine x_icmp_ge (tgt := 403) dX10_run_367 rfl (fun c => ?_) (fun c => ?_)
  · have hT := hT.1 c
    refine x_iconst (v := 0) dX10_run_403 rfl ?_
    refine x_istore (lo' := [some (.ref w.1), none, none, none, some (.int 0), none]) dX10_run_404 (Nat.le_of_ble_eq_true rfl) rfl ?_
    exact hT h0 h hW hF
  · have hT := hT.2 c
    refine x_aload_n dX10_run_370 rfl rfl rfl ?_
    refine x_aload_n dX10_run_371 rfl rfl rfl ?_
    refine m_geta dX10_run_372 f_TallySlateModel_210 (by decide) rfl hW ?_
    refine x_iload dX10_run_375 rfl ?_
    obtain ⟨hb, hT⟩ := hT
    refine m_iald (v := (s.2.2.1 128 a4.toNatClampNeg)) dX10_run_377 rfl hb hW rfl ?_
    refine x_aload_n dX10_run_378 rfl rfl rfl ?_
    refine m_geta dX10_run_379 f_TallySlateModel_213 (by decide) rfl hW ?_
    refine x_iload dX10_run_382 rfl ?_
    obtain ⟨hb, hT⟩ := hT
    refine m_iald (v := (s.2.2.1 129 a4.toNatClampNeg)) dX10_run_384 rfl hb hW rfl ?_
    refine x_sipush (v := 2410) dX10_run_385 rfl ?_
    refine x_bipush (v := 56) dX10_run_388 rfl ?_
    refine x_iload dX10_run_390 rfl ?_
    refine x_iadd dX10_run_392 ?_
    refine x_imul dX10_run_393 ?_
    refine m_inv (vs := [.int (s.2.2.1 128 a4.toNatClampNeg), .int (s.2.2.1 129 a4.toNatClampNeg), .int (2410 * (56 + a4))]) dX10_run_394 oX10_lay q2940 q2938 qs155 rfl rfl (Nat.le_of_ble_eq_true rfl) rfl hW hF hT ?_
    rintro _ s1 ⟨rfl, hT⟩ h hW hF
    refine x_iinc (lo' := [some (.ref w.1), none, none, none, some (.int (a4 + 1)), none]) dX10_run_397 rfl (show _ = (a4 + 1) from rfl) rfl ?_
    refine x_goto (tgt := 363) dX10_run_400 rfl ?_
    exact hT h0 h hW hF
theorem vX10_run_406 {l : Launch} {E : EN} {w : MO} {d : Nat} {s : MS} {Q : Option Value → MS → Prop} {a4 : Int32} (hT : ((8 ≤ a4 → Q (some (.int 0)) s) ∧ (¬ 8 ≤ a4 → (EvM l E w d MX10_copy [.ref w.1, .int (2410 * (56 + a4)), .int (2410 * a4)] s (fun r s1 => r = none ∧ ExM l E w (d + 1) MX10_run 406 [some (.ref w.1), none, none, none, some (.int (a4 + 1)), none] [] s1 Q))))) : ExM l E w (d + 1) MX10_run 406 [some (.ref w.1), none, none, none, some (.int a4), none] [] s Q := by
  intro h0 h hW hF
  refine x_iload dX10_run_406 rfl ?_
  refine x_bipush (v := 8) dX10_run_408 rfl ?_
  refine x_icmp_ge (tgt := 438) dX10_run_410 rfl (fun c => ?_) (fun c => ?_)
  · have hT := hT.1 c
    refine x_iconst (v := 0) dX10_run_438 rfl ?_
    exact x_iret dX10_run_439 rfl rfl ⟨_, _, rfl, hW, hF, hT⟩
  · have hT := hT.2 c
    refine x_aload_n dX10_run_413 rfl rfl rfl ?_
    refine x_sipush (v := 2410) dX10_run_414 rfl ?_
    refine x_bipush (v := 56) dX10_run_417 rfl ?_
    refine x_iload dX10_run_419 rfl ?_
    refine x_iadd dX10_run_421 ?_
    refine x_imul dX10_run_422 ?_
    refine x_sipush (v := 2410) dX10_run_423 rfl ?_
    refine x_iload dX10_run_426 rfl ?_
    refine x_imul dX10_run_428 ?_
    refine m_inv (vs := [.int (2410 * (56 + a4)), .int (2410 * a4)]) dX10_run_429 oX10_copy q2948 q2946 qs157 rfl rfl (Nat.le_of_ble_eq_true rfl) rfl hW hF hT ?_
    rintro _ s1 ⟨rfl, hT⟩ h hW hF
    refine x_iinc (lo' := [some (.ref w.1), none, none, none, some (.int (a4 + 1)), none]) dX10_run_432 rfl (show _ = (a4 + 1) from rfl) rfl ?_
    refine x_goto (tgt := 406) dX10_run_435 rfl ?_
    exact hT h0 h hW hF
theorem vX10_enters_0 {l : Launch} {E : EN} {w : MO} {d : Nat} {s : MS} {Q : Option Value → MS → Prop} {x1 : Int32} {x2 : Int32} {x3 : Int32} (hT : ((¬ (s.1 130) = 10 → (∀ y1 : Int32, y1 = ((s.1 108) - x2) → ExM l E w (d + 1) MX10_enters 31 [some (.ref w.1), some (.int x1), some (.int x2), some (.int x3), some (.int y1), some (.int 0)] [] s Q)) ∧ ((s.1 130) = 10 → (EvM l E w d MX10_trouble [.ref w.1, .int 8, .int (s.1 127)] s (fun r s2 => r = none ∧ Q none s2))))) : ExM l E w (d + 1) MX10_enters 0 [some (.ref w.1), some (.int x1), some (.int x2), some (.int x3), none, none] [] s Q := by
  intro h0 h hW hF
  refine x_aload_n dX10_enters_0 rfl rfl rfl ?_
  refine m_geti (v := (s.1 130)) dX10_enters_1 f_TallySlateModel_531 (by decide) rfl hW rfl ?_
  refine x_bipush (v := 10) dX10_enters_4 rfl ?_
  refine x_icmp_ne (tgt := 20) dX10_enters_6 rfl (fun c => ?_) (fun c => ?_)
  · have hT := hT.1 c
    refine x_aload_n dX10_enters_20 rfl rfl rfl ?_
    refine m_geti (v := (s.1 108)) dX10_enters_21 f_TallySlateModel_461 (by decide) rfl hW rfl ?_
    refine x_iload_n dX10_enters_24 rfl rfl ?_
    refine x_isub dX10_enters_25 ?_
    obtain ⟨y1, ey1⟩ : ∃ z : Int32, z = ((s.1 108) - x2) := ⟨_, rfl⟩
    have hT := hT y1 ey1
    refine x_istore (lo' := [some (.ref w.1), some (.int x1), some (.int x2), some (.int x3), some (.int y1), none]) dX10_enters_26 (Nat.le_of_ble_eq_true rfl) (by rw [ey1]; rfl) ?_
    refine x_iconst (v := 0) dX10_enters_28 rfl ?_
    refine x_istore (lo' := [some (.ref w.1), some (.int x1), some (.int x2), some (.int x3), some (.int y1), some (.int 0)]) dX10_enters_29 (Nat.le_of_ble_eq_true rfl) rfl ?_
    exact hT h0 h hW hF
  · have hT := hT.2 c
    refine x_aload_n dX10_enters_9 rfl rfl rfl ?_
    refine x_bipush (v := 8) dX10_enters_10 rfl ?_
    refine x_aload_n dX10_enters_12 rfl rfl rfl ?_
    refine m_geti (v := (s.1 127)) dX10_enters_13 f_TallySlateModel_507 (by decide) rfl hW rfl ?_
    refine m_inv (vs := [.int 8, .int (s.1 127)]) dX10_enters_16 oX10_trouble q2696 q2694 qs98 rfl rfl (Nat.le_of_ble_eq_true rfl) rfl hW hF hT ?_
    rintro _ s2 ⟨rfl, hT⟩ h hW hF
    exact x_vret dX10_enters_19 rfl ⟨_, _, rfl, hW, hF, hT⟩
theorem eX10_enters {l : Launch} {E : EN} {w : MO} {d : Nat} {s : MS} {Q : Option Value → MS → Prop} {x1 : Int32} {x2 : Int32} {x3 : Int32} (hst : l.stackTraces = false) (hT : ((¬ (s.1 130) = 10 → (∀ y1 : Int32, y1 = ((s.1 108) - x2) → ExM l E w (d + 1) MX10_enters 31 [some (.ref w.1), some (.int x1), some (.int x2), some (.int x3), some (.int y1), some (.int 0)] [] s Q)) ∧ ((s.1 130) = 10 → (EvM l E w d MX10_trouble [.ref w.1, .int 8, .int (s.1 127)] s (fun r s2 => r = none ∧ Q none s2))))) : EvM l E w (d + 1) MX10_enters [.ref w.1, .int x1, .int x2, .int x3] s Q :=
  EvM.of hst (by decide) (Nat.le_of_ble_eq_true rfl) (vX10_enters_0 hT)
set_option maxHeartbeats 16000000 in
theorem vX10_enters_31 {l : Launch} {E : EN} {w : MO} {d : Nat} {s : MS} {Q : Option Value → MS → Prop} {a1 : Int32} {a2 : Int32} {a3 : Int32} {a4 : Int32} {a5 : Int32} (hT : ((14 ≤ a5 → (inB (s.1 130) 10 ∧ (inB (s.1 130) 10 ∧ (inB (s.1 130) 10 ∧ ((((s.1 130) + 1) ≤ (s.1 120) → (inB a1 24 ∧ Q none (sI (sI (sI (sA (sA (sA (sI s 108 a4) 131 (s.1 130).toNatClampNeg a4) 132 (s.1 130).toNatClampNeg a3) 133 (s.1 130).toNatClampNeg (s.1 136)) 130 ((s.1 130) + 1)) 120 (s.1 120)) 126 (s.2.2.1 77 a1.toNatClampNeg)))) ∧ (¬ ((s.1 130) + 1) ≤ (s.1 120) → (inB a1 24 ∧ Q none (sI (sI (sI (sA (sA (sA (sI s 108 a4) 131 (s.1 130).toNatClampNeg a4) 132 (s.1 130).toNatClampNeg a3) 133 (s.1 130).toNatClampNeg (s.1 136)) 130 ((s.1 130) + 1)) 120 ((s.1 130) + 1)) 126 (s.2.2.1 77 a1.toNatClampNeg))))))))) ∧ (¬ 14 ≤ a5 → ((a2 ≤ a5 → (inB ((14 * (s.1 130)) + a5) 140 ∧ ((a2 ≤ a5 → (inB ((14 * (s.1 130)) + a5) 140 ∧ ExM l E w (d + 1) MX10_enters 31 [some (.ref w.1), some (.int a1), some (.int a2), some (.int a3), some (.int a4), some (.int (a5 + 1))] [] (sA (sA s 134 ((14 * (s.1 130)) + a5).toNatClampNeg 2) 135 ((14 * (s.1 130)) + a5).toNatClampNeg 0) Q)) ∧ (¬ a2 ≤ a5 → (inB (a4 + a5) 9000 ∧ (inB ((14 * (s.1 130)) + a5) 140 ∧ ExM l E w (d + 1) MX10_enters 31 [some (.ref w.1), some (.int a1), some (.int a2), some (.int a3), some (.int a4), some (.int (a5 + 1))] [] (sA (sA s 134 ((14 * (s.1 130)) + a5).toNatClampNeg 2) 135 ((14 * (s.1 130)) + a5).toNatClampNeg (s.2.2.1 107 (a4 + a5).toNatClampNeg)) Q)))))) ∧ (¬ a2 ≤ a5 → (inB (a4 + a5) 9000 ∧ (inB ((14 * (s.1 130)) + a5) 140 ∧ ((a2 ≤ a5 → (inB ((14 * (s.1 130)) + a5) 140 ∧ ExM l E w (d + 1) MX10_enters 31 [some (.ref w.1), some (.int a1), some (.int a2), some (.int a3), some (.int a4), some (.int (a5 + 1))] [] (sA (sA s 134 ((14 * (s.1 130)) + a5).toNatClampNeg (s.2.2.1 106 (a4 + a5).toNatClampNeg)) 135 ((14 * (s.1 130)) + a5).toNatClampNeg 0) Q)) ∧ (¬ a2 ≤ a5 → (inB (a4 + a5) 9000 ∧ (inB ((14 * (s.1 130)) + a5) 140 ∧ ExM l E w (d + 1) MX10_enters 31 [some (.ref w.1), some (.int a1), some (.int a2), some (.int a3), some (.int a4), some (.int (a5 + 1))] [] (sA (sA s 134 ((14 * (s.1 130)) + a5).toNatClampNeg (s.2.2.1 106 (a4 + a5).toNatClampNeg)) 135 ((14 * (s.1 130)) + a5).toNatClampNeg (s.2.2.1 107 (a4 + a5).toNatClampNeg)) Q))))))))))) : ExM l E w (d + 1) MX10_enters 31 [some (.ref w.1), some (.int a1), some (.int a2), some (.int a3), some (.int a4), some (.int a5)] [] s Q := by
  intro h0 h hW hF
  refine x_iload dX10_enters_31 rfl ?_
  refine x_bipush (v := 14) dX10_enters_33 rfl ?_
  refine x_icmp_ge (tgt := 114) dX10_enters_35 rfl (fun c => ?_) (fun c => ?_)
  · have hT := hT.1 c
    refine x_aload_n dX10_enters_114 rfl rfl rfl ?_
    refine x_iload dX10_enters_115 rfl ?_
    refine m_puti dX10_enters_117 f_TallySlateModel_461 (by decide) rfl rfl rfl rfl hW hF ?_
    intro h hW hF
    refine x_aload_n dX10_enters_120 rfl rfl rfl ?_
    refine m_geta dX10_enters_121 f_TallySlateModel_216 (by decide) rfl hW ?_
    refine x_aload_n dX10_enters_124 rfl rfl rfl ?_
    refine m_geti (v := (s.1 130)) dX10_enters_125 f_TallySlateModel_531 (by decide) rfl hW rfl ?_
    refine x_iload dX10_enters_128 rfl ?_
    obtain ⟨hb, hT⟩ := hT
    refine m_iast dX10_enters_130 rfl hb hW hF ?_
    intro h hW hF
    refine x_aload_n dX10_enters_131 rfl rfl rfl ?_
    refine m_geta dX10_enters_132 f_TallySlateModel_219 (by decide) rfl hW ?_
    refine x_aload_n dX10_enters_135 rfl rfl rfl ?_
    refine m_geti (v := (s.1 130)) dX10_enters_136 f_TallySlateModel_531 (by decide) rfl hW rfl ?_
    refine x_iload_n dX10_enters_139 rfl rfl ?_
    obtain ⟨hb, hT⟩ := hT
    refine m_iast dX10_enters_140 rfl hb hW hF ?_
    intro h hW hF
    refine x_aload_n dX10_enters_141 rfl rfl rfl ?_
    refine m_geta dX10_enters_142 f_TallySlateModel_222 (by decide) rfl hW ?_
    refine x_aload_n dX10_enters_145 rfl rfl rfl ?_
    refine m_geti (v := (s.1 130)) dX10_enters_146 f_TallySlateModel_531 (by decide) rfl hW rfl ?_
    refine x_aload_n dX10_enters_149 rfl rfl rfl ?_
    refine m_geti (v := (s.1 136)) dX10_enters_150 f_TallySlateModel_534 (by decide) rfl hW rfl ?_
    obtain ⟨hb, hT⟩ := hT
    refine m_iast dX10_enters_153 rfl hb hW hF ?_
    intro h hW hF
    refine x_aload_n dX10_enters_154 rfl rfl rfl ?_
    refine x_dup dX10_enters_155 rfl ?_
    refine m_geti (v := (s.1 130)) dX10_enters_156 f_TallySlateModel_531 (by decide) rfl hW rfl ?_
    refine x_iconst (v := 1) dX10_enters_159 rfl ?_
    refine x_iadd dX10_enters_160 ?_
    refine m_puti dX10_enters_161 f_TallySlateModel_531 (by decide) rfl rfl rfl rfl hW hF ?_
    intro h hW hF
    refine x_aload_n dX10_enters_164 rfl rfl rfl ?_
    refine x_aload_n dX10_enters_165 rfl rfl rfl ?_
    refine m_geti (v := ((s.1 130) + 1)) dX10_enters_166 f_TallySlateModel_531 (by decide) rfl hW rfl ?_
    refine x_aload_n dX10_enters_169 rfl rfl rfl ?_
    refine m_geti (v := (s.1 120)) dX10_enters_170 f_TallySlateModel_537 (by decide) rfl hW rfl ?_
    refine x_icmp_le (tgt := 183) dX10_enters_173 rfl (fun c => ?_) (fun c => ?_)
    · have hT := hT.1 c
      refine x_aload_n dX10_enters_183 rfl rfl rfl ?_
      refine m_geti (v := (s.1 120)) dX10_enters_184 f_TallySlateModel_537 (by decide) rfl hW rfl ?_
      refine m_puti dX10_enters_187 f_TallySlateModel_537 (by decide) rfl rfl rfl rfl hW hF ?_
      intro h hW hF
      refine x_aload_n dX10_enters_190 rfl rfl rfl ?_
      refine x_aload_n dX10_enters_191 rfl rfl rfl ?_
      refine m_geta dX10_enters_192 f_TallySlateModel_115 (by decide) rfl hW ?_
      refine x_iload_n dX10_enters_195 rfl rfl ?_
      obtain ⟨hb, hT⟩ := hT
      refine m_iald (v := (s.2.2.1 77 a1.toNatClampNeg)) dX10_enters_196 rfl hb hW rfl ?_
      refine m_puti dX10_enters_197 f_TallySlateModel_540 (by decide) rfl rfl rfl rfl hW hF ?_
      intro h hW hF
      exact x_vret dX10_enters_200 rfl ⟨_, _, rfl, hW, hF, hT⟩
    · have hT := hT.2 c
      refine x_aload_n dX10_enters_176 rfl rfl rfl ?_
      refine m_geti (v := ((s.1 130) + 1)) dX10_enters_177 f_TallySlateModel_531 (by decide) rfl hW rfl ?_
      refine x_goto (tgt := 187) dX10_enters_180 rfl ?_
      refine m_puti dX10_enters_187 f_TallySlateModel_537 (by decide) rfl rfl rfl rfl hW hF ?_
      intro h hW hF
      refine x_aload_n dX10_enters_190 rfl rfl rfl ?_
      refine x_aload_n dX10_enters_191 rfl rfl rfl ?_
      refine m_geta dX10_enters_192 f_TallySlateModel_115 (by decide) rfl hW ?_
      refine x_iload_n dX10_enters_195 rfl rfl ?_
      obtain ⟨hb, hT⟩ := hT
      refine m_iald (v := (s.2.2.1 77 a1.toNatClampNeg)) dX10_enters_196 rfl hb hW rfl ?_
      refine m_puti dX10_enters_197 f_TallySlateModel_540 (by decide) rfl rfl rfl rfl hW hF ?_
      intro h hW hF
      exact x_vret dX10_enters_200 rfl ⟨_, _, rfl, hW, hF, hT⟩
  · have hT := hT.2 c
    refine x_aload_n dX10_enters_38 rfl rfl rfl ?_
    refine m_geta dX10_enters_39 f_TallySlateModel_225 (by decide) rfl hW ?_
    refine x_bipush (v := 14) dX10_enters_42 rfl ?_
    refine x_aload_n dX10_enters_44 rfl rfl rfl ?_
    refine m_geti (v := (s.1 130)) dX10_enters_45 f_TallySlateModel_531 (by decide) rfl hW rfl ?_
    refine x_imul dX10_enters_48 ?_
    refine x_iload dX10_enters_49 rfl ?_
    refine x_iadd dX10_enters_51 ?_
    refine x_iload dX10_enters_52 rfl ?_
    refine x_iload_n dX10_enters_54 rfl rfl ?_
    refine x_icmp_ge (tgt := 71) dX10_enters_55 rfl (fun c => ?_) (fun c => ?_)
    · have hT := hT.1 c
      refine x_iconst (v := 2) dX10_enters_71 rfl ?_
      obtain ⟨hb, hT⟩ := hT
      refine m_iast dX10_enters_72 rfl hb hW hF ?_
      intro h hW hF
      refine x_aload_n dX10_enters_73 rfl rfl rfl ?_
      refine m_geta dX10_enters_74 f_TallySlateModel_228 (by decide) rfl hW ?_
      refine x_bipush (v := 14) dX10_enters_77 rfl ?_
      refine x_aload_n dX10_enters_79 rfl rfl rfl ?_
      refine m_geti (v := (s.1 130)) dX10_enters_80 f_TallySlateModel_531 (by decide) rfl hW rfl ?_
      refine x_imul dX10_enters_83 ?_
      refine x_iload dX10_enters_84 rfl ?_
      refine x_iadd dX10_enters_86 ?_
      refine x_iload dX10_enters_87 rfl ?_
      refine x_iload_n dX10_enters_89 rfl rfl ?_
      refine x_icmp_ge (tgt := 106) dX10_enters_90 rfl (fun c => ?_) (fun c => ?_)
      · have hT := hT.1 c
        refine x_iconst (v := 0) dX10_enters_106 rfl ?_
        obtain ⟨hb, hT⟩ := hT
        refine m_iast dX10_enters_107 rfl hb hW hF ?_
        intro h hW hF
        refine x_iinc (lo' := [some (.ref w.1), some (.int a1), some (.int a2), some (.int a3), some (.int a4), some (.int (a5 + 1))]) dX10_enters_108 rfl (show _ = (a5 + 1) from rfl) rfl ?_
        refine x_goto (tgt := 31) dX10_enters_111 rfl ?_
        exact hT h0 h hW hF
      · have hT := hT.2 c
        refine x_aload_n dX10_enters_93 rfl rfl rfl ?_
        refine m_geta dX10_enters_94 f_TallySlateModel_189 (by decide) rfl hW ?_
        refine x_iload dX10_enters_97 rfl ?_
        refine x_iload dX10_enters_99 rfl ?_
        refine x_iadd dX10_enters_101 ?_
        obtain ⟨hb, hT⟩ := hT
        refine m_iald (v := (s.2.2.1 107 (a4 + a5).toNatClampNeg)) dX10_enters_102 rfl hb hW rfl ?_
        refine x_goto (tgt := 107) dX10_enters_103 rfl ?_
        obtain ⟨hb, hT⟩ := hT
        refine m_iast dX10_enters_107 rfl hb hW hF ?_
        intro h hW hF
        refine x_iinc (lo' := [some (.ref w.1), some (.int a1), some (.int a2), some (.int a3), some (.int a4), some (.int (a5 + 1))]) dX10_enters_108 rfl (show _ = (a5 + 1) from rfl) rfl ?_
        refine x_goto (tgt := 31) dX10_enters_111 rfl ?_
        exact hT h0 h hW hF
    · have hT := hT.2 c
      refine x_aload_n dX10_enters_58 rfl rfl rfl ?_
      refine m_geta dX10_enters_59 f_TallySlateModel_186 (by decide) rfl hW ?_
      refine x_iload dX10_enters_62 rfl ?_
      refine x_iload dX10_enters_64 rfl ?_
      refine x_iadd dX10_enters_66 ?_
      obtain ⟨hb, hT⟩ := hT
      refine m_iald (v := (s.2.2.1 106 (a4 + a5).toNatClampNeg)) dX10_enters_67 rfl hb hW rfl ?_
      refine x_goto (tgt := 72) dX10_enters_68 rfl ?_
      obtain ⟨hb, hT⟩ := hT
      refine m_iast dX10_enters_72 rfl hb hW hF ?_
      intro h hW hF
      refine x_aload_n dX10_enters_73 rfl rfl rfl ?_
      refine m_geta dX10_enters_74 f_TallySlateModel_228 (by decide) rfl hW ?_
      refine x_bipush (v := 14) dX10_enters_77 rfl ?_
      refine x_aload_n dX10_enters_79 rfl rfl rfl ?_
      refine m_geti (v := (s.1 130)) dX10_enters_80 f_TallySlateModel_531 (by decide) rfl hW rfl ?_
      refine x_imul dX10_enters_83 ?_
      refine x_iload dX10_enters_84 rfl ?_
      refine x_iadd dX10_enters_86 ?_
      refine x_iload dX10_enters_87 rfl ?_
      refine x_iload_n dX10_enters_89 rfl rfl ?_
      refine x_icmp_ge (tgt := 106) dX10_enters_90 rfl (fun c => ?_) (fun c => ?_)
      · have hT := hT.1 c
        refine x_iconst (v := 0) dX10_enters_106 rfl ?_
        obtain ⟨hb, hT⟩ := hT
        refine m_iast dX10_enters_107 rfl hb hW hF ?_
        intro h hW hF
        refine x_iinc (lo' := [some (.ref w.1), some (.int a1), some (.int a2), some (.int a3), some (.int a4), some (.int (a5 + 1))]) dX10_enters_108 rfl (show _ = (a5 + 1) from rfl) rfl ?_
        refine x_goto (tgt := 31) dX10_enters_111 rfl ?_
        exact hT h0 h hW hF
      · have hT := hT.2 c
        refine x_aload_n dX10_enters_93 rfl rfl rfl ?_
        refine m_geta dX10_enters_94 f_TallySlateModel_189 (by decide) rfl hW ?_
        refine x_iload dX10_enters_97 rfl ?_
        refine x_iload dX10_enters_99 rfl ?_
        refine x_iadd dX10_enters_101 ?_
        obtain ⟨hb, hT⟩ := hT
        refine m_iald (v := (s.2.2.1 107 (a4 + a5).toNatClampNeg)) dX10_enters_102 rfl hb hW rfl ?_
        refine x_goto (tgt := 107) dX10_enters_103 rfl ?_
        obtain ⟨hb, hT⟩ := hT
        refine m_iast dX10_enters_107 rfl hb hW hF ?_
        intro h hW hF
        refine x_iinc (lo' := [some (.ref w.1), some (.int a1), some (.int a2), some (.int a3), some (.int a4), some (.int (a5 + 1))]) dX10_enters_108 rfl (show _ = (a5 + 1) from rfl) rfl ?_
        refine x_goto (tgt := 31) dX10_enters_111 rfl ?_
        exact hT h0 h hW hF
theorem vX10_trouble_0 {l : Launch} {E : EN} {w : MO} {d : Nat} {s : MS} {Q : Option Value → MS → Prop} {x1 : Int32} {x2 : Int32} (hT : (((s.1 123) ≤ 0 → Q none (sI (sI s 123 x1) 124 x2)) ∧ (¬ (s.1 123) ≤ 0 → Q none s))) : ExM l E w d MX10_trouble 0 [some (.ref w.1), some (.int x1), some (.int x2)] [] s Q := by
  intro h0 h hW hF
  refine x_aload_n dX10_trouble_0 rfl rfl rfl ?_
  refine m_geti (v := (s.1 123)) dX10_trouble_1 f_TallySlateModel_498 (by decide) rfl hW rfl ?_
  refine x_if_le (tgt := 8) dX10_trouble_4 rfl (fun c => ?_) (fun c => ?_)
  · have hT := hT.1 c
    refine x_aload_n dX10_trouble_8 rfl rfl rfl ?_
    refine x_iload_n dX10_trouble_9 rfl rfl ?_
    refine m_puti dX10_trouble_10 f_TallySlateModel_498 (by decide) rfl rfl rfl rfl hW hF ?_
    intro h hW hF
    refine x_aload_n dX10_trouble_13 rfl rfl rfl ?_
    refine x_iload_n dX10_trouble_14 rfl rfl ?_
    refine m_puti dX10_trouble_15 f_TallySlateModel_207 (by decide) rfl rfl rfl rfl hW hF ?_
    intro h hW hF
    exact x_vret dX10_trouble_18 rfl ⟨_, _, rfl, hW, hF, hT⟩
  · have hT := hT.2 c
    exact x_vret dX10_trouble_7 rfl ⟨_, _, rfl, hW, hF, hT⟩
theorem eX10_trouble {l : Launch} {E : EN} {w : MO} {d : Nat} {s : MS} {Q : Option Value → MS → Prop} {x1 : Int32} {x2 : Int32} (hst : l.stackTraces = false) (hT : (((s.1 123) ≤ 0 → Q none (sI (sI s 123 x1) 124 x2)) ∧ (¬ (s.1 123) ≤ 0 → Q none s))) : EvM l E w d MX10_trouble [.ref w.1, .int x1, .int x2] s Q :=
  EvM.of hst (by decide) (Nat.le_of_ble_eq_true rfl) (vX10_trouble_0 hT)
set_option maxHeartbeats 16000000 in
theorem vX10_does_0 {l : Launch} {E : EN} {w : MO} {d : Nat} {s : MS} {Q : Option Value → MS → Prop} {x1 : Int32} (hT : (inB x1 8000 ∧ (((s.2.2.1 80 x1.toNatClampNeg) = 1 ∨ (s.2.2.1 80 x1.toNatClampNeg) = 16 → (EvM l E w d MX10_step [.ref w.1] s (fun r s1 => r = none ∧ Q none s1))) ∧ (¬ ((s.2.2.1 80 x1.toNatClampNeg) = 1 ∨ (s.2.2.1 80 x1.toNatClampNeg) = 16) → (((s.2.2.1 80 x1.toNatClampNeg) = 2 → (inB x1 8000 ∧ (EvM l E w d MX10_push [.ref w.1, .int 0, .int (s.2.2.1 81 x1.toNatClampNeg)] s (fun r s2 => r = none ∧ Q none s2)))) ∧ (¬ ((s.2.2.1 80 x1.toNatClampNeg) = 2) → (((s.2.2.1 80 x1.toNatClampNeg) = 3 → (inB x1 8000 ∧ (EvM l E w d MX10_kindOf [.ref w.1, .int (s.2.2.1 81 x1.toNatClampNeg)] s (fun r s3 => ∃ v4 : Int32, r = some (.int v4) ∧ ((¬ v4 = 2 → (inB x1 8000 ∧ (EvM l E w d MX10_kindOf [.ref w.1, .int (s3.2.2.1 81 x1.toNatClampNeg)] s3 (fun r s5 => ∃ v6 : Int32, r = some (.int v6) ∧ (inB x1 8000 ∧ (EvM l E w d MX10_valueOf [.ref w.1, .int (s5.2.2.1 81 x1.toNatClampNeg)] s5 (fun r s7 => ∃ v8 : Int32, r = some (.int v8) ∧ (EvM l E w d MX10_push [.ref w.1, .int v6, .int v8] s7 (fun r s9 => r = none ∧ Q none s9))))))))) ∧ (v4 = 2 → (EvM l E w d MX10_trouble [.ref w.1, .int 7, .int (s3.1 127)] s3 (fun r s10 => r = none ∧ Q none s10)))))))) ∧ (¬ ((s.2.2.1 80 x1.toNatClampNeg) = 3) → (((s.2.2.1 80 x1.toNatClampNeg) = 4 ∨ (s.2.2.1 80 x1.toNatClampNeg) = 5 ∨ (s.2.2.1 80 x1.toNatClampNeg) = 6 ∨ (s.2.2.1 80 x1.toNatClampNeg) = 7 ∨ (s.2.2.1 80 x1.toNatClampNeg) = 8 ∨ (s.2.2.1 80 x1.toNatClampNeg) = 9 ∨ (s.2.2.1 80 x1.toNatClampNeg) = 10 → (EvM l E w d MX10_step [.ref w.1] s (fun r s11 => r = none ∧ ((¬ (s11.1 123) = 0 → Q none s11) ∧ ((s11.1 123) = 0 → (EvM l E w d MX10_works [.ref w.1, .int x1] s11 (fun r s12 => r = none ∧ Q none s12))))))) ∧ (¬ ((s.2.2.1 80 x1.toNatClampNeg) = 4 ∨ (s.2.2.1 80 x1.toNatClampNeg) = 5 ∨ (s.2.2.1 80 x1.toNatClampNeg) = 6 ∨ (s.2.2.1 80 x1.toNatClampNeg) = 7 ∨ (s.2.2.1 80 x1.toNatClampNeg) = 8 ∨ (s.2.2.1 80 x1.toNatClampNeg) = 9 ∨ (s.2.2.1 80 x1.toNatClampNeg) = 10) → (((s.2.2.1 80 x1.toNatClampNeg) = 11 → (EvM l E w d MX10_next [.ref w.1, .int x1] s (fun r s13 => r = none ∧ Q none s13))) ∧ (¬ ((s.2.2.1 80 x1.toNatClampNeg) = 11) → (((s.2.2.1 80 x1.toNatClampNeg) = 12 → (inB x1 8000 ∧ (inB ((s.1 108) - 1) 9000 ∧ (inB ((s.1 108) - 1) 9000 ∧ (EvM l E w d MX10_store [.ref w.1, .int (s.2.2.1 81 x1.toNatClampNeg), .int (s.2.2.1 106 ((s.1 108) - 1).toNatClampNeg), .int (s.2.2.1 107 ((s.1 108) - 1).toNatClampNeg)] (sI s 108 ((s.1 108) - 1)) (fun r s14 => r = none ∧ Q none s14)))))) ∧ (¬ ((s.2.2.1 80 x1.toNatClampNeg) = 12) → (((s.2.2.1 80 x1.toNatClampNeg) = 13 → (EvM l E w d MX10_putAt [.ref w.1, .int x1] s (fun r s15 => r = none ∧ Q none s15))) ∧ (¬ ((s.2.2.1 80 x1.toNatClampNeg) = 13) → (((s.2.2.1 80 x1.toNatClampNeg) = 15 → (inB x1 8000 ∧ Q none (sI s 126 (s.2.2.1 81 x1.toNatClampNeg)))) ∧ (¬ ((s.2.2.1 80 x1.toNatClampNeg) = 15) → (((s.2.2.1 80 x1.toNatClampNeg) = 18 → (EvM l E w d MX10_forNext [.ref w.1, .int x1] s (fun r s16 => r = none ∧ Q none s16))) ∧ (¬ ((s.2.2.1 80 x1.toNatClampNeg) = 18) → (((s.2.2.1 80 x1.toNatClampNeg) = 22 → Q none (sI s 108 ((s.1 108) - 1))) ∧ (¬ ((s.2.2.1 80 x1.toNatClampNeg) = 22) → (((s.2.2.1 80 x1.toNatClampNeg) = 23 → (inB x1 8000 ∧ (EvM l E w d MX10_way [.ref w.1, .int 2, .int (s.2.2.1 81 x1.toNatClampNeg), .int (s.1 127), .int (s.1 108)] s (fun r s17 => r = none ∧ (inB x1 8000 ∧ (inB ((s17.1 136) - 1) 400 ∧ Q none (sA s17 139 ((s17.1 136) - 1).toNatClampNeg (s17.2.2.1 82 x1.toNatClampNeg)))))))) ∧ (¬ ((s.2.2.1 80 x1.toNatClampNeg) = 23) → (((s.2.2.1 80 x1.toNatClampNeg) = 24 → (inB x1 8000 ∧ Q none (sI (sI s 136 ((s.1 136) - 1)) 126 (s.2.2.1 81 x1.toNatClampNeg)))) ∧ (¬ ((s.2.2.1 80 x1.toNatClampNeg) = 24) → ((EvM l E w d MX10_ofOne [.ref w.1, .int x1] (sI s 108 ((s.1 108) - 1)) (fun r s18 => r = none ∧ Q none s18))))))))))))))))))))))))))))) : ExM l E w (d + 1) MX10_does 0 [some (.ref w.1), some (.int x1)] [] s Q := by
  intro h0 h hW hF
  refine x_aload_n dX10_does_0 rfl rfl rfl ?_
  refine m_geta dX10_does_1 f_TallySlateModel_121 (by decide) rfl hW ?_
  refine x_iload_n dX10_does_4 rfl rfl ?_
  obtain ⟨hb, hT⟩ := hT
  refine m_iald (v := (s.2.2.1 80 x1.toNatClampNeg)) dX10_does_5 rfl hb hW rfl ?_
  by_cases c : (s.2.2.1 80 x1.toNatClampNeg) = 1 ∨ (s.2.2.1 80 x1.toNatClampNeg) = 16
  · have hT := hT.1 c
    rcases c with c | c
    · refine x_tableIn (tgt := 116) (off := 110) dX10_does_6 (by rw [c]; decide) (by rw [c]; decide) (by rw [c]; rfl) rfl ?_
      refine x_aload_n dX10_does_116 rfl rfl rfl ?_
      refine m_inv (vs := []) dX10_does_117 oX10_step q2704 q2702 qs100 rfl rfl (Nat.le_of_ble_eq_true rfl) rfl hW hF hT ?_
      rintro _ s1 ⟨rfl, hT⟩ h hW hF
      exact x_vret dX10_does_120 rfl ⟨_, _, rfl, hW, hF, hT⟩
    · refine x_tableIn (tgt := 116) (off := 110) dX10_does_6 (by rw [c]; decide) (by rw [c]; decide) (by rw [c]; rfl) rfl ?_
      refine x_aload_n dX10_does_116 rfl rfl rfl ?_
      refine m_inv (vs := []) dX10_does_117 oX10_step q2704 q2702 qs100 rfl rfl (Nat.le_of_ble_eq_true rfl) rfl hW hF hT ?_
      rintro _ s1 ⟨rfl, hT⟩ h hW hF
      exact x_vret dX10_does_120 rfl ⟨_, _, rfl, hW, hF, hT⟩
  · have hT := hT.2 c
    have cs0 := c
    by_cases c : (s.2.2.1 80 x1.toNatClampNeg) = 2
    · have hT := hT.1 c
      refine x_tableIn (tgt := 121) (off := 115) dX10_does_6 (by rw [c]; decide) (by rw [c]; decide) (by rw [c]; rfl) rfl ?_
      refine x_aload_n dX10_does_121 rfl rfl rfl ?_
      refine x_iconst (v := 0) dX10_does_122 rfl ?_
      refine x_aload_n dX10_does_123 rfl rfl rfl ?_
      refine m_geta dX10_does_124 f_TallySlateModel_124 (by decide) rfl hW ?_
      refine x_iload_n dX10_does_127 rfl rfl ?_
      obtain ⟨hb, hT⟩ := hT
      refine m_iald (v := (s.2.2.1 81 x1.toNatClampNeg)) dX10_does_128 rfl hb hW rfl ?_
      refine m_inv (vs := [.int 0, .int (s.2.2.1 81 x1.toNatClampNeg)]) dX10_does_129 oX10_push q2708 q2706 qs101 rfl rfl (Nat.le_of_ble_eq_true rfl) rfl hW hF hT ?_
      rintro _ s2 ⟨rfl, hT⟩ h hW hF
      exact x_vret dX10_does_132 rfl ⟨_, _, rfl, hW, hF, hT⟩
    · have hT := hT.2 c
      have cs1 := c
      by_cases c : (s.2.2.1 80 x1.toNatClampNeg) = 3
      · have hT := hT.1 c
        refine x_tableIn (tgt := 133) (off := 127) dX10_does_6 (by rw [c]; decide) (by rw [c]; decide) (by rw [c]; rfl) rfl ?_
        refine x_aload_n dX10_does_133 rfl rfl rfl ?_
        refine x_aload_n dX10_does_134 rfl rfl rfl ?_
        refine m_geta dX10_does_135 f_TallySlateModel_124 (by decide) rfl hW ?_
        refine x_iload_n dX10_does_138 rfl rfl ?_
        obtain ⟨hb, hT⟩ := hT
        refine m_iald (v := (s.2.2.1 81 x1.toNatClampNeg)) dX10_does_139 rfl hb hW rfl ?_
        refine m_inv (vs := [.int (s.2.2.1 81 x1.toNatClampNeg)]) dX10_does_140 oX10_kindOf q2712 q2710 qs102 rfl rfl (Nat.le_of_ble_eq_true rfl) rfl hW hF hT ?_
        rintro _ s3 ⟨v4, rfl, hT⟩ h hW hF
        refine x_iconst (v := 2) dX10_does_143 rfl ?_
        refine x_icmp_ne (tgt := 160) dX10_does_144 rfl (fun c => ?_) (fun c => ?_)
        · have hT := hT.1 c
          refine x_aload_n dX10_does_160 rfl rfl rfl ?_
          refine x_aload_n dX10_does_161 rfl rfl rfl ?_
          refine x_aload_n dX10_does_162 rfl rfl rfl ?_
          refine m_geta dX10_does_163 f_TallySlateModel_124 (by decide) rfl hW ?_
          refine x_iload_n dX10_does_166 rfl rfl ?_
          obtain ⟨hb, hT⟩ := hT
          refine m_iald (v := (s3.2.2.1 81 x1.toNatClampNeg)) dX10_does_167 rfl hb hW rfl ?_
          refine m_inv (vs := [.int (s3.2.2.1 81 x1.toNatClampNeg)]) dX10_does_168 oX10_kindOf q2712 q2710 qs102 rfl rfl (Nat.le_of_ble_eq_true rfl) rfl hW hF hT ?_
          rintro _ s5 ⟨v6, rfl, hT⟩ h hW hF
          refine x_aload_n dX10_does_171 rfl rfl rfl ?_
          refine x_aload_n dX10_does_172 rfl rfl rfl ?_
          refine m_geta dX10_does_173 f_TallySlateModel_124 (by decide) rfl hW ?_
          refine x_iload_n dX10_does_176 rfl rfl ?_
          obtain ⟨hb, hT⟩ := hT
          refine m_iald (v := (s5.2.2.1 81 x1.toNatClampNeg)) dX10_does_177 rfl hb hW rfl ?_
          refine m_inv (vs := [.int (s5.2.2.1 81 x1.toNatClampNeg)]) dX10_does_178 oX10_valueOf q2716 q2714 qs103 rfl rfl (Nat.le_of_ble_eq_true rfl) rfl hW hF hT ?_
          rintro _ s7 ⟨v8, rfl, hT⟩ h hW hF
          refine m_inv (vs := [.int v6, .int v8]) dX10_does_181 oX10_push q2708 q2706 qs101 rfl rfl (Nat.le_of_ble_eq_true rfl) rfl hW hF hT ?_
          rintro _ s9 ⟨rfl, hT⟩ h hW hF
          exact x_vret dX10_does_184 rfl ⟨_, _, rfl, hW, hF, hT⟩
        · have hT := hT.2 c
          refine x_aload_n dX10_does_147 rfl rfl rfl ?_
          refine x_bipush (v := 7) dX10_does_148 rfl ?_
          refine x_aload_n dX10_does_150 rfl rfl rfl ?_
          refine m_geti (v := (s3.1 127)) dX10_does_151 f_TallySlateModel_507 (by decide) rfl hW rfl ?_
          refine m_inv (vs := [.int 7, .int (s3.1 127)]) dX10_does_154 oX10_trouble q2696 q2694 qs98 rfl rfl (Nat.le_of_ble_eq_true rfl) rfl hW hF hT ?_
          rintro _ s10 ⟨rfl, hT⟩ h hW hF
          refine x_goto (tgt := 184) dX10_does_157 rfl ?_
          exact x_vret dX10_does_184 rfl ⟨_, _, rfl, hW, hF, hT⟩
      · have hT := hT.2 c
        have cs2 := c
        by_cases c : (s.2.2.1 80 x1.toNatClampNeg) = 4 ∨ (s.2.2.1 80 x1.toNatClampNeg) = 5 ∨ (s.2.2.1 80 x1.toNatClampNeg) = 6 ∨ (s.2.2.1 80 x1.toNatClampNeg) = 7 ∨ (s.2.2.1 80 x1.toNatClampNeg) = 8 ∨ (s.2.2.1 80 x1.toNatClampNeg) = 9 ∨ (s.2.2.1 80 x1.toNatClampNeg) = 10
        · have hT := hT.1 c
          rcases c with c | c | c | c | c | c | c
          · refine x_tableIn (tgt := 185) (off := 179) dX10_does_6 (by rw [c]; decide) (by rw [c]; decide) (by rw [c]; rfl) rfl ?_
            refine x_aload_n dX10_does_185 rfl rfl rfl ?_
            refine m_inv (vs := []) dX10_does_186 oX10_step q2704 q2702 qs100 rfl rfl (Nat.le_of_ble_eq_true rfl) rfl hW hF hT ?_
            rintro _ s11 ⟨rfl, hT⟩ h hW hF
            refine x_aload_n dX10_does_189 rfl rfl rfl ?_
            refine m_geti (v := (s11.1 123)) dX10_does_190 f_TallySlateModel_498 (by decide) rfl hW rfl ?_
            refine x_if_ne (tgt := 201) dX10_does_193 rfl (fun c => ?_) (fun c => ?_)
            · have hT := hT.1 c
              exact x_vret dX10_does_201 rfl ⟨_, _, rfl, hW, hF, hT⟩
            · have hT := hT.2 c
              refine x_aload_n dX10_does_196 rfl rfl rfl ?_
              refine x_iload_n dX10_does_197 rfl rfl ?_
              refine m_inv (vs := [.int x1]) dX10_does_198 oX10_works q2720 q2718 qs104 rfl rfl (Nat.le_of_ble_eq_true rfl) rfl hW hF hT ?_
              rintro _ s12 ⟨rfl, hT⟩ h hW hF
              exact x_vret dX10_does_201 rfl ⟨_, _, rfl, hW, hF, hT⟩
          · refine x_tableIn (tgt := 185) (off := 179) dX10_does_6 (by rw [c]; decide) (by rw [c]; decide) (by rw [c]; rfl) rfl ?_
            refine x_aload_n dX10_does_185 rfl rfl rfl ?_
            refine m_inv (vs := []) dX10_does_186 oX10_step q2704 q2702 qs100 rfl rfl (Nat.le_of_ble_eq_true rfl) rfl hW hF hT ?_
            rintro _ s11 ⟨rfl, hT⟩ h hW hF
            refine x_aload_n dX10_does_189 rfl rfl rfl ?_
            refine m_geti (v := (s11.1 123)) dX10_does_190 f_TallySlateModel_498 (by decide) rfl hW rfl ?_
            refine x_if_ne (tgt := 201) dX10_does_193 rfl (fun c => ?_) (fun c => ?_)
            · have hT := hT.1 c
              exact x_vret dX10_does_201 rfl ⟨_, _, rfl, hW, hF, hT⟩
            · have hT := hT.2 c
              refine x_aload_n dX10_does_196 rfl rfl rfl ?_
              refine x_iload_n dX10_does_197 rfl rfl ?_
              refine m_inv (vs := [.int x1]) dX10_does_198 oX10_works q2720 q2718 qs104 rfl rfl (Nat.le_of_ble_eq_true rfl) rfl hW hF hT ?_
              rintro _ s12 ⟨rfl, hT⟩ h hW hF
              exact x_vret dX10_does_201 rfl ⟨_, _, rfl, hW, hF, hT⟩
          · refine x_tableIn (tgt := 185) (off := 179) dX10_does_6 (by rw [c]; decide) (by rw [c]; decide) (by rw [c]; rfl) rfl ?_
            refine x_aload_n dX10_does_185 rfl rfl rfl ?_
            refine m_inv (vs := []) dX10_does_186 oX10_step q2704 q2702 qs100 rfl rfl (Nat.le_of_ble_eq_true rfl) rfl hW hF hT ?_
            rintro _ s11 ⟨rfl, hT⟩ h hW hF
            refine x_aload_n dX10_does_189 rfl rfl rfl ?_
            refine m_geti (v := (s11.1 123)) dX10_does_190 f_TallySlateModel_498 (by decide) rfl hW rfl ?_
            refine x_if_ne (tgt := 201) dX10_does_193 rfl (fun c => ?_) (fun c => ?_)
            · have hT := hT.1 c
              exact x_vret dX10_does_201 rfl ⟨_, _, rfl, hW, hF, hT⟩
            · have hT := hT.2 c
              refine x_aload_n dX10_does_196 rfl rfl rfl ?_
              refine x_iload_n dX10_does_197 rfl rfl ?_
              refine m_inv (vs := [.int x1]) dX10_does_198 oX10_works q2720 q2718 qs104 rfl rfl (Nat.le_of_ble_eq_true rfl) rfl hW hF hT ?_
              rintro _ s12 ⟨rfl, hT⟩ h hW hF
              exact x_vret dX10_does_201 rfl ⟨_, _, rfl, hW, hF, hT⟩
          · refine x_tableIn (tgt := 185) (off := 179) dX10_does_6 (by rw [c]; decide) (by rw [c]; decide) (by rw [c]; rfl) rfl ?_
            refine x_aload_n dX10_does_185 rfl rfl rfl ?_
            refine m_inv (vs := []) dX10_does_186 oX10_step q2704 q2702 qs100 rfl rfl (Nat.le_of_ble_eq_true rfl) rfl hW hF hT ?_
            rintro _ s11 ⟨rfl, hT⟩ h hW hF
            refine x_aload_n dX10_does_189 rfl rfl rfl ?_
            refine m_geti (v := (s11.1 123)) dX10_does_190 f_TallySlateModel_498 (by decide) rfl hW rfl ?_
            refine x_if_ne (tgt := 201) dX10_does_193 rfl (fun c => ?_) (fun c => ?_)
            · have hT := hT.1 c
              exact x_vret dX10_does_201 rfl ⟨_, _, rfl, hW, hF, hT⟩
            · have hT := hT.2 c
              refine x_aload_n dX10_does_196 rfl rfl rfl ?_
              refine x_iload_n dX10_does_197 rfl rfl ?_
              refine m_inv (vs := [.int x1]) dX10_does_198 oX10_works q2720 q2718 qs104 rfl rfl (Nat.le_of_ble_eq_true rfl) rfl hW hF hT ?_
              rintro _ s12 ⟨rfl, hT⟩ h hW hF
              exact x_vret dX10_does_201 rfl ⟨_, _, rfl, hW, hF, hT⟩
          · refine x_tableIn (tgt := 185) (off := 179) dX10_does_6 (by rw [c]; decide) (by rw [c]; decide) (by rw [c]; rfl) rfl ?_
            refine x_aload_n dX10_does_185 rfl rfl rfl ?_
            refine m_inv (vs := []) dX10_does_186 oX10_step q2704 q2702 qs100 rfl rfl (Nat.le_of_ble_eq_true rfl) rfl hW hF hT ?_
            rintro _ s11 ⟨rfl, hT⟩ h hW hF
            refine x_aload_n dX10_does_189 rfl rfl rfl ?_
            refine m_geti (v := (s11.1 123)) dX10_does_190 f_TallySlateModel_498 (by decide) rfl hW rfl ?_
            refine x_if_ne (tgt := 201) dX10_does_193 rfl (fun c => ?_) (fun c => ?_)
            · have hT := hT.1 c
              exact x_vret dX10_does_201 rfl ⟨_, _, rfl, hW, hF, hT⟩
            · have hT := hT.2 c
              refine x_aload_n dX10_does_196 rfl rfl rfl ?_
              refine x_iload_n dX10_does_197 rfl rfl ?_
              refine m_inv (vs := [.int x1]) dX10_does_198 oX10_works q2720 q2718 qs104 rfl rfl (Nat.le_of_ble_eq_true rfl) rfl hW hF hT ?_
              rintro _ s12 ⟨rfl, hT⟩ h hW hF
              exact x_vret dX10_does_201 rfl ⟨_, _, rfl, hW, hF, hT⟩
          · refine x_tableIn (tgt := 185) (off := 179) dX10_does_6 (by rw [c]; decide) (by rw [c]; decide) (by rw [c]; rfl) rfl ?_
            refine x_aload_n dX10_does_185 rfl rfl rfl ?_
            refine m_inv (vs := []) dX10_does_186 oX10_step q2704 q2702 qs100 rfl rfl (Nat.le_of_ble_eq_true rfl) rfl hW hF hT ?_
            rintro _ s11 ⟨rfl, hT⟩ h hW hF
            refine x_aload_n dX10_does_189 rfl rfl rfl ?_
            refine m_geti (v := (s11.1 123)) dX10_does_190 f_TallySlateModel_498 (by decide) rfl hW rfl ?_
            refine x_if_ne (tgt := 201) dX10_does_193 rfl (fun c => ?_) (fun c => ?_)
            · have hT := hT.1 c
              exact x_vret dX10_does_201 rfl ⟨_, _, rfl, hW, hF, hT⟩
            · have hT := hT.2 c
              refine x_aload_n dX10_does_196 rfl rfl rfl ?_
              refine x_iload_n dX10_does_197 rfl rfl ?_
              refine m_inv (vs := [.int x1]) dX10_does_198 oX10_works q2720 q2718 qs104 rfl rfl (Nat.le_of_ble_eq_true rfl) rfl hW hF hT ?_
              rintro _ s12 ⟨rfl, hT⟩ h hW hF
              exact x_vret dX10_does_201 rfl ⟨_, _, rfl, hW, hF, hT⟩
          · refine x_tableIn (tgt := 185) (off := 179) dX10_does_6 (by rw [c]; decide) (by rw [c]; decide) (by rw [c]; rfl) rfl ?_
            refine x_aload_n dX10_does_185 rfl rfl rfl ?_
            refine m_inv (vs := []) dX10_does_186 oX10_step q2704 q2702 qs100 rfl rfl (Nat.le_of_ble_eq_true rfl) rfl hW hF hT ?_
            rintro _ s11 ⟨rfl, hT⟩ h hW hF
            refine x_aload_n dX10_does_189 rfl rfl rfl ?_
            refine m_geti (v := (s11.1 123)) dX10_does_190 f_TallySlateModel_498 (by decide) rfl hW rfl ?_
            refine x_if_ne (tgt := 201) dX10_does_193 rfl (fun c => ?_) (fun c => ?_)
            · have hT := hT.1 c
              exact x_vret dX10_does_201 rfl ⟨_, _, rfl, hW, hF, hT⟩
            · have hT := hT.2 c
              refine x_aload_n dX10_does_196 rfl rfl rfl ?_
              refine x_iload_n dX10_does_197 rfl rfl ?_
              refine m_inv (vs := [.int x1]) dX10_does_198 oX10_works q2720 q2718 qs104 rfl rfl (Nat.le_of_ble_eq_true rfl) rfl hW hF hT ?_
              rintro _ s12 ⟨rfl, hT⟩ h hW hF
              exact x_vret dX10_does_201 rfl ⟨_, _, rfl, hW, hF, hT⟩
        · have hT := hT.2 c
          have cs3 := c
          by_cases c : (s.2.2.1 80 x1.toNatClampNeg) = 11
          · have hT := hT.1 c
            refine x_tableIn (tgt := 202) (off := 196) dX10_does_6 (by rw [c]; decide) (by rw [c]; decide) (by rw [c]; rfl) rfl ?_
            refine x_aload_n dX10_does_202 rfl rfl rfl ?_
            refine x_iload_n dX10_does_203 rfl rfl ?_
            refine m_inv (vs := [.int x1]) dX10_does_204 oX10_next q2895 q2893 qs144 rfl rfl (Nat.le_of_ble_eq_true rfl) rfl hW hF hT ?_
            rintro _ s13 ⟨rfl, hT⟩ h hW hF
            exact x_vret dX10_does_207 rfl ⟨_, _, rfl, hW, hF, hT⟩
          · have hT := hT.2 c
            have cs4 := c
            by_cases c : (s.2.2.1 80 x1.toNatClampNeg) = 12
            · have hT := hT.1 c
              refine x_tableIn (tgt := 208) (off := 202) dX10_does_6 (by rw [c]; decide) (by rw [c]; decide) (by rw [c]; rfl) rfl ?_
              refine x_aload_n dX10_does_208 rfl rfl rfl ?_
              refine x_dup dX10_does_209 rfl ?_
              refine m_geti (v := (s.1 108)) dX10_does_210 f_TallySlateModel_461 (by decide) rfl hW rfl ?_
              refine x_iconst (v := 1) dX10_does_213 rfl ?_
              refine x_isub dX10_does_214 ?_
              refine m_puti dX10_does_215 f_TallySlateModel_461 (by decide) rfl rfl rfl rfl hW hF ?_
              intro h hW hF
              refine x_aload_n dX10_does_218 rfl rfl rfl ?_
              refine x_aload_n dX10_does_219 rfl rfl rfl ?_
              refine m_geta dX10_does_220 f_TallySlateModel_124 (by decide) rfl hW ?_
              refine x_iload_n dX10_does_223 rfl rfl ?_
              obtain ⟨hb, hT⟩ := hT
              refine m_iald (v := (s.2.2.1 81 x1.toNatClampNeg)) dX10_does_224 rfl hb hW rfl ?_
              refine x_aload_n dX10_does_225 rfl rfl rfl ?_
              refine m_geta dX10_does_226 f_TallySlateModel_186 (by decide) rfl hW ?_
              refine x_aload_n dX10_does_229 rfl rfl rfl ?_
              refine m_geti (v := ((s.1 108) - 1)) dX10_does_230 f_TallySlateModel_461 (by decide) rfl hW rfl ?_
              obtain ⟨hb, hT⟩ := hT
              refine m_iald (v := (s.2.2.1 106 ((s.1 108) - 1).toNatClampNeg)) dX10_does_233 rfl hb hW rfl ?_
              refine x_aload_n dX10_does_234 rfl rfl rfl ?_
              refine m_geta dX10_does_235 f_TallySlateModel_189 (by decide) rfl hW ?_
              refine x_aload_n dX10_does_238 rfl rfl rfl ?_
              refine m_geti (v := ((s.1 108) - 1)) dX10_does_239 f_TallySlateModel_461 (by decide) rfl hW rfl ?_
              obtain ⟨hb, hT⟩ := hT
              refine m_iald (v := (s.2.2.1 107 ((s.1 108) - 1).toNatClampNeg)) dX10_does_242 rfl hb hW rfl ?_
              refine m_inv (vs := [.int (s.2.2.1 81 x1.toNatClampNeg), .int (s.2.2.1 106 ((s.1 108) - 1).toNatClampNeg), .int (s.2.2.1 107 ((s.1 108) - 1).toNatClampNeg)]) dX10_does_243 oX10_store q2899 q2897 qs145 rfl rfl (Nat.le_of_ble_eq_true rfl) rfl hW hF hT ?_
              rintro _ s14 ⟨rfl, hT⟩ h hW hF
              exact x_vret dX10_does_246 rfl ⟨_, _, rfl, hW, hF, hT⟩
            · have hT := hT.2 c
              have cs5 := c
              by_cases c : (s.2.2.1 80 x1.toNatClampNeg) = 13
              · have hT := hT.1 c
                refine x_tableIn (tgt := 247) (off := 241) dX10_does_6 (by rw [c]; decide) (by rw [c]; decide) (by rw [c]; rfl) rfl ?_
                refine x_aload_n dX10_does_247 rfl rfl rfl ?_
                refine x_iload_n dX10_does_248 rfl rfl ?_
                refine m_inv (vs := [.int x1]) dX10_does_249 oX10_putAt q2903 q2901 qs146 rfl rfl (Nat.le_of_ble_eq_true rfl) rfl hW hF hT ?_
                rintro _ s15 ⟨rfl, hT⟩ h hW hF
                exact x_vret dX10_does_252 rfl ⟨_, _, rfl, hW, hF, hT⟩
              · have hT := hT.2 c
                have cs6 := c
                by_cases c : (s.2.2.1 80 x1.toNatClampNeg) = 15
                · have hT := hT.1 c
                  refine x_tableIn (tgt := 253) (off := 247) dX10_does_6 (by rw [c]; decide) (by rw [c]; decide) (by rw [c]; rfl) rfl ?_
                  refine x_aload_n dX10_does_253 rfl rfl rfl ?_
                  refine x_aload_n dX10_does_254 rfl rfl rfl ?_
                  refine m_geta dX10_does_255 f_TallySlateModel_124 (by decide) rfl hW ?_
                  refine x_iload_n dX10_does_258 rfl rfl ?_
                  obtain ⟨hb, hT⟩ := hT
                  refine m_iald (v := (s.2.2.1 81 x1.toNatClampNeg)) dX10_does_259 rfl hb hW rfl ?_
                  refine m_puti dX10_does_260 f_TallySlateModel_540 (by decide) rfl rfl rfl rfl hW hF ?_
                  intro h hW hF
                  exact x_vret dX10_does_263 rfl ⟨_, _, rfl, hW, hF, hT⟩
                · have hT := hT.2 c
                  have cs7 := c
                  by_cases c : (s.2.2.1 80 x1.toNatClampNeg) = 18
                  · have hT := hT.1 c
                    refine x_tableIn (tgt := 264) (off := 258) dX10_does_6 (by rw [c]; decide) (by rw [c]; decide) (by rw [c]; rfl) rfl ?_
                    refine x_aload_n dX10_does_264 rfl rfl rfl ?_
                    refine x_iload_n dX10_does_265 rfl rfl ?_
                    refine m_inv (vs := [.int x1]) dX10_does_266 oX10_forNext q2907 q2905 qs147 rfl rfl (Nat.le_of_ble_eq_true rfl) rfl hW hF hT ?_
                    rintro _ s16 ⟨rfl, hT⟩ h hW hF
                    exact x_vret dX10_does_269 rfl ⟨_, _, rfl, hW, hF, hT⟩
                  · have hT := hT.2 c
                    have cs8 := c
                    by_cases c : (s.2.2.1 80 x1.toNatClampNeg) = 22
                    · have hT := hT.1 c
                      refine x_tableIn (tgt := 270) (off := 264) dX10_does_6 (by rw [c]; decide) (by rw [c]; decide) (by rw [c]; rfl) rfl ?_
                      refine x_aload_n dX10_does_270 rfl rfl rfl ?_
                      refine x_dup dX10_does_271 rfl ?_
                      refine m_geti (v := (s.1 108)) dX10_does_272 f_TallySlateModel_461 (by decide) rfl hW rfl ?_
                      refine x_iconst (v := 1) dX10_does_275 rfl ?_
                      refine x_isub dX10_does_276 ?_
                      refine m_puti dX10_does_277 f_TallySlateModel_461 (by decide) rfl rfl rfl rfl hW hF ?_
                      intro h hW hF
                      exact x_vret dX10_does_280 rfl ⟨_, _, rfl, hW, hF, hT⟩
                    · have hT := hT.2 c
                      have cs9 := c
                      by_cases c : (s.2.2.1 80 x1.toNatClampNeg) = 23
                      · have hT := hT.1 c
                        refine x_tableIn (tgt := 281) (off := 275) dX10_does_6 (by rw [c]; decide) (by rw [c]; decide) (by rw [c]; rfl) rfl ?_
                        refine x_aload_n dX10_does_281 rfl rfl rfl ?_
                        refine x_iconst (v := 2) dX10_does_282 rfl ?_
                        refine x_aload_n dX10_does_283 rfl rfl rfl ?_
                        refine m_geta dX10_does_284 f_TallySlateModel_124 (by decide) rfl hW ?_
                        refine x_iload_n dX10_does_287 rfl rfl ?_
                        obtain ⟨hb, hT⟩ := hT
                        refine m_iald (v := (s.2.2.1 81 x1.toNatClampNeg)) dX10_does_288 rfl hb hW rfl ?_
                        refine x_aload_n dX10_does_289 rfl rfl rfl ?_
                        refine m_geti (v := (s.1 127)) dX10_does_290 f_TallySlateModel_507 (by decide) rfl hW rfl ?_
                        refine x_aload_n dX10_does_293 rfl rfl rfl ?_
                        refine m_geti (v := (s.1 108)) dX10_does_294 f_TallySlateModel_461 (by decide) rfl hW rfl ?_
                        refine m_inv (vs := [.int 2, .int (s.2.2.1 81 x1.toNatClampNeg), .int (s.1 127), .int (s.1 108)]) dX10_does_297 oX10_way q2891 q2889 qs143 rfl rfl (Nat.le_of_ble_eq_true rfl) rfl hW hF hT ?_
                        rintro _ s17 ⟨rfl, hT⟩ h hW hF
                        refine x_aload_n dX10_does_300 rfl rfl rfl ?_
                        refine m_geta dX10_does_301 f_TallySlateModel_237 (by decide) rfl hW ?_
                        refine x_aload_n dX10_does_304 rfl rfl rfl ?_
                        refine m_geti (v := (s17.1 136)) dX10_does_305 f_TallySlateModel_534 (by decide) rfl hW rfl ?_
                        refine x_iconst (v := 1) dX10_does_308 rfl ?_
                        refine x_isub dX10_does_309 ?_
                        refine x_aload_n dX10_does_310 rfl rfl rfl ?_
                        refine m_geta dX10_does_311 f_TallySlateModel_127 (by decide) rfl hW ?_
                        refine x_iload_n dX10_does_314 rfl rfl ?_
                        obtain ⟨hb, hT⟩ := hT
                        refine m_iald (v := (s17.2.2.1 82 x1.toNatClampNeg)) dX10_does_315 rfl hb hW rfl ?_
                        obtain ⟨hb, hT⟩ := hT
                        refine m_iast dX10_does_316 rfl hb hW hF ?_
                        intro h hW hF
                        exact x_vret dX10_does_317 rfl ⟨_, _, rfl, hW, hF, hT⟩
                      · have hT := hT.2 c
                        have cs10 := c
                        by_cases c : (s.2.2.1 80 x1.toNatClampNeg) = 24
                        · have hT := hT.1 c
                          refine x_tableIn (tgt := 318) (off := 312) dX10_does_6 (by rw [c]; decide) (by rw [c]; decide) (by rw [c]; rfl) rfl ?_
                          refine x_aload_n dX10_does_318 rfl rfl rfl ?_
                          refine x_dup dX10_does_319 rfl ?_
                          refine m_geti (v := (s.1 136)) dX10_does_320 f_TallySlateModel_534 (by decide) rfl hW rfl ?_
                          refine x_iconst (v := 1) dX10_does_323 rfl ?_
                          refine x_isub dX10_does_324 ?_
                          refine m_puti dX10_does_325 f_TallySlateModel_534 (by decide) rfl rfl rfl rfl hW hF ?_
                          intro h hW hF
                          refine x_aload_n dX10_does_328 rfl rfl rfl ?_
                          refine x_aload_n dX10_does_329 rfl rfl rfl ?_
                          refine m_geta dX10_does_330 f_TallySlateModel_124 (by decide) rfl hW ?_
                          refine x_iload_n dX10_does_333 rfl rfl ?_
                          obtain ⟨hb, hT⟩ := hT
                          refine m_iald (v := (s.2.2.1 81 x1.toNatClampNeg)) dX10_does_334 rfl hb hW rfl ?_
                          refine m_puti dX10_does_335 f_TallySlateModel_540 (by decide) rfl rfl rfl rfl hW hF ?_
                          intro h hW hF
                          exact x_vret dX10_does_338 rfl ⟨_, _, rfl, hW, hF, hT⟩
                        · have hT := hT.2 c
                          have cs11 := c
                          refine x_tableD (tgt := 339) [1, 16, 2, 3, 4, 5, 6, 7, 8, 9, 10, 11, 12, 13, 15, 18, 22, 23, 24] dX10_does_6 (List.forall_mem_cons.mpr ⟨fun h => cs0 (Or.inl (i32_of (h.trans (show (1 : Int) = (1 : Int32).toInt from by decide)))), List.forall_mem_cons.mpr ⟨fun h => cs0 (Or.inr (i32_of (h.trans (show (16 : Int) = (16 : Int32).toInt from by decide)))), List.forall_mem_cons.mpr ⟨fun h => cs1 (i32_of (h.trans (show (2 : Int) = (2 : Int32).toInt from by decide))), List.forall_mem_cons.mpr ⟨fun h => cs2 (i32_of (h.trans (show (3 : Int) = (3 : Int32).toInt from by decide))), List.forall_mem_cons.mpr ⟨fun h => cs3 (Or.inl (i32_of (h.trans (show (4 : Int) = (4 : Int32).toInt from by decide)))), List.forall_mem_cons.mpr ⟨fun h => cs3 (Or.inr (Or.inl (i32_of (h.trans (show (5 : Int) = (5 : Int32).toInt from by decide))))), List.forall_mem_cons.mpr ⟨fun h => cs3 (Or.inr (Or.inr (Or.inl (i32_of (h.trans (show (6 : Int) = (6 : Int32).toInt from by decide)))))), List.forall_mem_cons.mpr ⟨fun h => cs3 (Or.inr (Or.inr (Or.inr (Or.inl (i32_of (h.trans (show (7 : Int) = (7 : Int32).toInt from by decide))))))), List.forall_mem_cons.mpr ⟨fun h => cs3 (Or.inr (Or.inr (Or.inr (Or.inr (Or.inl (i32_of (h.trans (show (8 : Int) = (8 : Int32).toInt from by decide)))))))), List.forall_mem_cons.mpr ⟨fun h => cs3 (Or.inr (Or.inr (Or.inr (Or.inr (Or.inr (Or.inl (i32_of (h.trans (show (9 : Int) = (9 : Int32).toInt from by decide))))))))), List.forall_mem_cons.mpr ⟨fun h => cs3 (Or.inr (Or.inr (Or.inr (Or.inr (Or.inr (Or.inr (i32_of (h.trans (show (10 : Int) = (10 : Int32).toInt from by decide))))))))), List.forall_mem_cons.mpr ⟨fun h => cs4 (i32_of (h.trans (show (11 : Int) = (11 : Int32).toInt from by decide))), List.forall_mem_cons.mpr ⟨fun h => cs5 (i32_of (h.trans (show (12 : Int) = (12 : Int32).toInt from by decide))), List.forall_mem_cons.mpr ⟨fun h => cs6 (i32_of (h.trans (show (13 : Int) = (13 : Int32).toInt from by decide))), List.forall_mem_cons.mpr ⟨fun h => cs7 (i32_of (h.trans (show (15 : Int) = (15 : Int32).toInt from by decide))), List.forall_mem_cons.mpr ⟨fun h => cs8 (i32_of (h.trans (show (18 : Int) = (18 : Int32).toInt from by decide))), List.forall_mem_cons.mpr ⟨fun h => cs9 (i32_of (h.trans (show (22 : Int) = (22 : Int32).toInt from by decide))), List.forall_mem_cons.mpr ⟨fun h => cs10 (i32_of (h.trans (show (23 : Int) = (23 : Int32).toInt from by decide))), List.forall_mem_cons.mpr ⟨fun h => cs11 (i32_of (h.trans (show (24 : Int) = (24 : Int32).toInt from by decide))), fun _ h => absurd h List.not_mem_nil⟩⟩⟩⟩⟩⟩⟩⟩⟩⟩⟩⟩⟩⟩⟩⟩⟩⟩⟩) (by decide) (by decide) rfl ?_
                          refine x_aload_n dX10_does_339 rfl rfl rfl ?_
                          refine x_dup dX10_does_340 rfl ?_
                          refine m_geti (v := (s.1 108)) dX10_does_341 f_TallySlateModel_461 (by decide) rfl hW rfl ?_
                          refine x_iconst (v := 1) dX10_does_344 rfl ?_
                          refine x_isub dX10_does_345 ?_
                          refine m_puti dX10_does_346 f_TallySlateModel_461 (by decide) rfl rfl rfl rfl hW hF ?_
                          intro h hW hF
                          refine x_aload_n dX10_does_349 rfl rfl rfl ?_
                          refine x_iload_n dX10_does_350 rfl rfl ?_
                          refine m_inv (vs := [.int x1]) dX10_does_351 oX10_ofOne q2911 q2909 qs148 rfl rfl (Nat.le_of_ble_eq_true rfl) rfl hW hF hT ?_
                          rintro _ s18 ⟨rfl, hT⟩ h hW hF
                          exact x_vret dX10_does_354 rfl ⟨_, _, rfl, hW, hF, hT⟩
theorem eX10_does {l : Launch} {E : EN} {w : MO} {d : Nat} {s : MS} {Q : Option Value → MS → Prop} {x1 : Int32} (hst : l.stackTraces = false) (hT : (inB x1 8000 ∧ (((s.2.2.1 80 x1.toNatClampNeg) = 1 ∨ (s.2.2.1 80 x1.toNatClampNeg) = 16 → (EvM l E w d MX10_step [.ref w.1] s (fun r s1 => r = none ∧ Q none s1))) ∧ (¬ ((s.2.2.1 80 x1.toNatClampNeg) = 1 ∨ (s.2.2.1 80 x1.toNatClampNeg) = 16) → (((s.2.2.1 80 x1.toNatClampNeg) = 2 → (inB x1 8000 ∧ (EvM l E w d MX10_push [.ref w.1, .int 0, .int (s.2.2.1 81 x1.toNatClampNeg)] s (fun r s2 => r = none ∧ Q none s2)))) ∧ (¬ ((s.2.2.1 80 x1.toNatClampNeg) = 2) → (((s.2.2.1 80 x1.toNatClampNeg) = 3 → (inB x1 8000 ∧ (EvM l E w d MX10_kindOf [.ref w.1, .int (s.2.2.1 81 x1.toNatClampNeg)] s (fun r s3 => ∃ v4 : Int32, r = some (.int v4) ∧ ((¬ v4 = 2 → (inB x1 8000 ∧ (EvM l E w d MX10_kindOf [.ref w.1, .int (s3.2.2.1 81 x1.toNatClampNeg)] s3 (fun r s5 => ∃ v6 : Int32, r = some (.int v6) ∧ (inB x1 8000 ∧ (EvM l E w d MX10_valueOf [.ref w.1, .int (s5.2.2.1 81 x1.toNatClampNeg)] s5 (fun r s7 => ∃ v8 : Int32, r = some (.int v8) ∧ (EvM l E w d MX10_push [.ref w.1, .int v6, .int v8] s7 (fun r s9 => r = none ∧ Q none s9))))))))) ∧ (v4 = 2 → (EvM l E w d MX10_trouble [.ref w.1, .int 7, .int (s3.1 127)] s3 (fun r s10 => r = none ∧ Q none s10)))))))) ∧ (¬ ((s.2.2.1 80 x1.toNatClampNeg) = 3) → (((s.2.2.1 80 x1.toNatClampNeg) = 4 ∨ (s.2.2.1 80 x1.toNatClampNeg) = 5 ∨ (s.2.2.1 80 x1.toNatClampNeg) = 6 ∨ (s.2.2.1 80 x1.toNatClampNeg) = 7 ∨ (s.2.2.1 80 x1.toNatClampNeg) = 8 ∨ (s.2.2.1 80 x1.toNatClampNeg) = 9 ∨ (s.2.2.1 80 x1.toNatClampNeg) = 10 → (EvM l E w d MX10_step [.ref w.1] s (fun r s11 => r = none ∧ ((¬ (s11.1 123) = 0 → Q none s11) ∧ ((s11.1 123) = 0 → (EvM l E w d MX10_works [.ref w.1, .int x1] s11 (fun r s12 => r = none ∧ Q none s12))))))) ∧ (¬ ((s.2.2.1 80 x1.toNatClampNeg) = 4 ∨ (s.2.2.1 80 x1.toNatClampNeg) = 5 ∨ (s.2.2.1 80 x1.toNatClampNeg) = 6 ∨ (s.2.2.1 80 x1.toNatClampNeg) = 7 ∨ (s.2.2.1 80 x1.toNatClampNeg) = 8 ∨ (s.2.2.1 80 x1.toNatClampNeg) = 9 ∨ (s.2.2.1 80 x1.toNatClampNeg) = 10) → (((s.2.2.1 80 x1.toNatClampNeg) = 11 → (EvM l E w d MX10_next [.ref w.1, .int x1] s (fun r s13 => r = none ∧ Q none s13))) ∧ (¬ ((s.2.2.1 80 x1.toNatClampNeg) = 11) → (((s.2.2.1 80 x1.toNatClampNeg) = 12 → (inB x1 8000 ∧ (inB ((s.1 108) - 1) 9000 ∧ (inB ((s.1 108) - 1) 9000 ∧ (EvM l E w d MX10_store [.ref w.1, .int (s.2.2.1 81 x1.toNatClampNeg), .int (s.2.2.1 106 ((s.1 108) - 1).toNatClampNeg), .int (s.2.2.1 107 ((s.1 108) - 1).toNatClampNeg)] (sI s 108 ((s.1 108) - 1)) (fun r s14 => r = none ∧ Q none s14)))))) ∧ (¬ ((s.2.2.1 80 x1.toNatClampNeg) = 12) → (((s.2.2.1 80 x1.toNatClampNeg) = 13 → (EvM l E w d MX10_putAt [.ref w.1, .int x1] s (fun r s15 => r = none ∧ Q none s15))) ∧ (¬ ((s.2.2.1 80 x1.toNatClampNeg) = 13) → (((s.2.2.1 80 x1.toNatClampNeg) = 15 → (inB x1 8000 ∧ Q none (sI s 126 (s.2.2.1 81 x1.toNatClampNeg)))) ∧ (¬ ((s.2.2.1 80 x1.toNatClampNeg) = 15) → (((s.2.2.1 80 x1.toNatClampNeg) = 18 → (EvM l E w d MX10_forNext [.ref w.1, .int x1] s (fun r s16 => r = none ∧ Q none s16))) ∧ (¬ ((s.2.2.1 80 x1.toNatClampNeg) = 18) → (((s.2.2.1 80 x1.toNatClampNeg) = 22 → Q none (sI s 108 ((s.1 108) - 1))) ∧ (¬ ((s.2.2.1 80 x1.toNatClampNeg) = 22) → (((s.2.2.1 80 x1.toNatClampNeg) = 23 → (inB x1 8000 ∧ (EvM l E w d MX10_way [.ref w.1, .int 2, .int (s.2.2.1 81 x1.toNatClampNeg), .int (s.1 127), .int (s.1 108)] s (fun r s17 => r = none ∧ (inB x1 8000 ∧ (inB ((s17.1 136) - 1) 400 ∧ Q none (sA s17 139 ((s17.1 136) - 1).toNatClampNeg (s17.2.2.1 82 x1.toNatClampNeg)))))))) ∧ (¬ ((s.2.2.1 80 x1.toNatClampNeg) = 23) → (((s.2.2.1 80 x1.toNatClampNeg) = 24 → (inB x1 8000 ∧ Q none (sI (sI s 136 ((s.1 136) - 1)) 126 (s.2.2.1 81 x1.toNatClampNeg)))) ∧ (¬ ((s.2.2.1 80 x1.toNatClampNeg) = 24) → ((EvM l E w d MX10_ofOne [.ref w.1, .int x1] (sI s 108 ((s.1 108) - 1)) (fun r s18 => r = none ∧ Q none s18))))))))))))))))))))))))))))) : EvM l E w (d + 1) MX10_does [.ref w.1, .int x1] s Q :=
  EvM.of hst (by decide) (Nat.le_of_ble_eq_true rfl) (vX10_does_0 hT)
theorem vX10_step_0 {l : Launch} {E : EN} {w : MO} {d : Nat} {s : MS} {Q : Option Value → MS → Prop}  (hT : ((¬ (s.1 117) = (s.1 118) → Q none (sI s 117 ((s.1 117) + 1))) ∧ ((s.1 117) = (s.1 118) → (EvM l E w d MX10_trouble [.ref w.1, .int 10, .int (s.1 127)] s (fun r s1 => r = none ∧ Q none s1))))) : ExM l E w (d + 1) MX10_step 0 [some (.ref w.1)] [] s Q := by
  intro h0 h hW hF
  refine x_aload_n dX10_step_0 rfl rfl rfl ?_
  refine m_geti (v := (s.1 117)) dX10_step_1 f_TallySlateModel_501 (by decide) rfl hW rfl ?_
  refine x_aload_n dX10_step_4 rfl rfl rfl ?_
  refine m_geti (v := (s.1 118)) dX10_step_5 f_TallySlateModel_504 (by decide) rfl hW rfl ?_
  refine x_icmp_ne (tgt := 24) dX10_step_8 rfl (fun c => ?_) (fun c => ?_)
  · have hT := hT.1 c
    refine x_aload_n dX10_step_24 rfl rfl rfl ?_
    refine x_dup dX10_step_25 rfl ?_
    refine m_geti (v := (s.1 117)) dX10_step_26 f_TallySlateModel_501 (by decide) rfl hW rfl ?_
    refine x_iconst (v := 1) dX10_step_29 rfl ?_
    refine x_iadd dX10_step_30 ?_
    refine m_puti dX10_step_31 f_TallySlateModel_501 (by decide) rfl rfl rfl rfl hW hF ?_
    intro h hW hF
    exact x_vret dX10_step_34 rfl ⟨_, _, rfl, hW, hF, hT⟩
  · have hT := hT.2 c
    refine x_aload_n dX10_step_11 rfl rfl rfl ?_
    refine x_bipush (v := 10) dX10_step_12 rfl ?_
    refine x_aload_n dX10_step_14 rfl rfl rfl ?_
    refine m_geti (v := (s.1 127)) dX10_step_15 f_TallySlateModel_507 (by decide) rfl hW rfl ?_
    refine m_inv (vs := [.int 10, .int (s.1 127)]) dX10_step_18 oX10_trouble q2696 q2694 qs98 rfl rfl (Nat.le_of_ble_eq_true rfl) rfl hW hF hT ?_
    rintro _ s1 ⟨rfl, hT⟩ h hW hF
    refine x_goto (tgt := 34) dX10_step_21 rfl ?_
    exact x_vret dX10_step_34 rfl ⟨_, _, rfl, hW, hF, hT⟩
theorem eX10_step {l : Launch} {E : EN} {w : MO} {d : Nat} {s : MS} {Q : Option Value → MS → Prop}  (hst : l.stackTraces = false) (hT : ((¬ (s.1 117) = (s.1 118) → Q none (sI s 117 ((s.1 117) + 1))) ∧ ((s.1 117) = (s.1 118) → (EvM l E w d MX10_trouble [.ref w.1, .int 10, .int (s.1 127)] s (fun r s1 => r = none ∧ Q none s1))))) : EvM l E w (d + 1) MX10_step [.ref w.1] s Q :=
  EvM.of hst (by decide) (Nat.le_of_ble_eq_true rfl) (vX10_step_0 hT)
theorem vX10_push_0 {l : Launch} {E : EN} {w : MO} {d : Nat} {s : MS} {Q : Option Value → MS → Prop} {x1 : Int32} {x2 : Int32} (hT : (inB (s.1 108) 9000 ∧ (inB (s.1 108) 9000 ∧ Q none (sI (sA (sA s 106 (s.1 108).toNatClampNeg x1) 107 (s.1 108).toNatClampNeg x2) 108 ((s.1 108) + 1))))) : ExM l E w d MX10_push 0 [some (.ref w.1), some (.int x1), some (.int x2)] [] s Q := by
  intro h0 h hW hF
  refine x_aload_n dX10_push_0 rfl rfl rfl ?_
  refine m_geta dX10_push_1 f_TallySlateModel_186 (by decide) rfl hW ?_
  refine x_aload_n dX10_push_4 rfl rfl rfl ?_
  refine m_geti (v := (s.1 108)) dX10_push_5 f_TallySlateModel_461 (by decide) rfl hW rfl ?_
  refine x_iload_n dX10_push_8 rfl rfl ?_
  obtain ⟨hb, hT⟩ := hT
  refine m_iast dX10_push_9 rfl hb hW hF ?_
  intro h hW hF
  refine x_aload_n dX10_push_10 rfl rfl rfl ?_
  refine m_geta dX10_push_11 f_TallySlateModel_189 (by decide) rfl hW ?_
  refine x_aload_n dX10_push_14 rfl rfl rfl ?_
  refine m_geti (v := (s.1 108)) dX10_push_15 f_TallySlateModel_461 (by decide) rfl hW rfl ?_
  refine x_iload_n dX10_push_18 rfl rfl ?_
  obtain ⟨hb, hT⟩ := hT
  refine m_iast dX10_push_19 rfl hb hW hF ?_
  intro h hW hF
  refine x_aload_n dX10_push_20 rfl rfl rfl ?_
  refine x_dup dX10_push_21 rfl ?_
  refine m_geti (v := (s.1 108)) dX10_push_22 f_TallySlateModel_461 (by decide) rfl hW rfl ?_
  refine x_iconst (v := 1) dX10_push_25 rfl ?_
  refine x_iadd dX10_push_26 ?_
  refine m_puti dX10_push_27 f_TallySlateModel_461 (by decide) rfl rfl rfl rfl hW hF ?_
  intro h hW hF
  exact x_vret dX10_push_30 rfl ⟨_, _, rfl, hW, hF, hT⟩
theorem eX10_push {l : Launch} {E : EN} {w : MO} {d : Nat} {s : MS} {Q : Option Value → MS → Prop} {x1 : Int32} {x2 : Int32} (hst : l.stackTraces = false) (hT : (inB (s.1 108) 9000 ∧ (inB (s.1 108) 9000 ∧ Q none (sI (sA (sA s 106 (s.1 108).toNatClampNeg x1) 107 (s.1 108).toNatClampNeg x2) 108 ((s.1 108) + 1))))) : EvM l E w d MX10_push [.ref w.1, .int x1, .int x2] s Q :=
  EvM.of hst (by decide) (Nat.le_of_ble_eq_true rfl) (vX10_push_0 hT)
theorem vX10_kindOf_0 {l : Launch} {E : EN} {w : MO} {d : Nat} {s : MS} {Q : Option Value → MS → Prop} {x1 : Int32} (hT : ((8 ≤ x1 → (inB (((14 * ((s.1 130) - 1)) + x1) - 8) 140 ∧ Q (some (.int (s.2.2.1 134 (((14 * ((s.1 130) - 1)) + x1) - 8).toNatClampNeg))) s)) ∧ (¬ 8 ≤ x1 → (inB x1 8 ∧ Q (some (.int (s.2.2.1 128 x1.toNatClampNeg))) s)))) : ExM l E w d MX10_kindOf 0 [some (.ref w.1), some (.int x1)] [] s Q := by
  intro h0 h hW hF
  refine x_iload_n dX10_kindOf_0 rfl rfl ?_
  refine x_bipush (v := 8) dX10_kindOf_1 rfl ?_
  refine x_icmp_ge (tgt := 15) dX10_kindOf_3 rfl (fun c => ?_) (fun c => ?_)
  · have hT := hT.1 c
    refine x_aload_n dX10_kindOf_15 rfl rfl rfl ?_
    refine m_geta dX10_kindOf_16 f_TallySlateModel_225 (by decide) rfl hW ?_
    refine x_bipush (v := 14) dX10_kindOf_19 rfl ?_
    refine x_aload_n dX10_kindOf_21 rfl rfl rfl ?_
    refine m_geti (v := (s.1 130)) dX10_kindOf_22 f_TallySlateModel_531 (by decide) rfl hW rfl ?_
    refine x_iconst (v := 1) dX10_kindOf_25 rfl ?_
    refine x_isub dX10_kindOf_26 ?_
    refine x_imul dX10_kindOf_27 ?_
    refine x_iload_n dX10_kindOf_28 rfl rfl ?_
    refine x_iadd dX10_kindOf_29 ?_
    refine x_bipush (v := 8) dX10_kindOf_30 rfl ?_
    refine x_isub dX10_kindOf_32 ?_
    obtain ⟨hb, hT⟩ := hT
    refine m_iald (v := (s.2.2.1 134 (((14 * ((s.1 130) - 1)) + x1) - 8).toNatClampNeg)) dX10_kindOf_33 rfl hb hW rfl ?_
    exact x_iret dX10_kindOf_34 rfl rfl ⟨_, _, rfl, hW, hF, hT⟩
  · have hT := hT.2 c
    refine x_aload_n dX10_kindOf_6 rfl rfl rfl ?_
    refine m_geta dX10_kindOf_7 f_TallySlateModel_210 (by decide) rfl hW ?_
    refine x_iload_n dX10_kindOf_10 rfl rfl ?_
    obtain ⟨hb, hT⟩ := hT
    refine m_iald (v := (s.2.2.1 128 x1.toNatClampNeg)) dX10_kindOf_11 rfl hb hW rfl ?_
    refine x_goto (tgt := 34) dX10_kindOf_12 rfl ?_
    exact x_iret dX10_kindOf_34 rfl rfl ⟨_, _, rfl, hW, hF, hT⟩
theorem eX10_kindOf {l : Launch} {E : EN} {w : MO} {d : Nat} {s : MS} {Q : Option Value → MS → Prop} {x1 : Int32} (hst : l.stackTraces = false) (hT : ((8 ≤ x1 → (inB (((14 * ((s.1 130) - 1)) + x1) - 8) 140 ∧ Q (some (.int (s.2.2.1 134 (((14 * ((s.1 130) - 1)) + x1) - 8).toNatClampNeg))) s)) ∧ (¬ 8 ≤ x1 → (inB x1 8 ∧ Q (some (.int (s.2.2.1 128 x1.toNatClampNeg))) s)))) : EvM l E w d MX10_kindOf [.ref w.1, .int x1] s Q :=
  EvM.of hst (by decide) (Nat.le_of_ble_eq_true rfl) (vX10_kindOf_0 hT)
theorem vX10_valueOf_0 {l : Launch} {E : EN} {w : MO} {d : Nat} {s : MS} {Q : Option Value → MS → Prop} {x1 : Int32} (hT : ((8 ≤ x1 → (inB (((14 * ((s.1 130) - 1)) + x1) - 8) 140 ∧ Q (some (.int (s.2.2.1 135 (((14 * ((s.1 130) - 1)) + x1) - 8).toNatClampNeg))) s)) ∧ (¬ 8 ≤ x1 → (inB x1 8 ∧ Q (some (.int (s.2.2.1 129 x1.toNatClampNeg))) s)))) : ExM l E w d MX10_valueOf 0 [some (.ref w.1), some (.int x1)] [] s Q := by
  intro h0 h hW hF
  refine x_iload_n dX10_valueOf_0 rfl rfl ?_
  refine x_bipush (v := 8) dX10_valueOf_1 rfl ?_
  refine x_icmp_ge (tgt := 15) dX10_valueOf_3 rfl (fun c => ?_) (fun c => ?_)
  · have hT := hT.1 c
    refine x_aload_n dX10_valueOf_15 rfl rfl rfl ?_
    refine m_geta dX10_valueOf_16 f_TallySlateModel_228 (by decide) rfl hW ?_
    refine x_bipush (v := 14) dX10_valueOf_19 rfl ?_
    refine x_aload_n dX10_valueOf_21 rfl rfl rfl ?_
    refine m_geti (v := (s.1 130)) dX10_valueOf_22 f_TallySlateModel_531 (by decide) rfl hW rfl ?_
    refine x_iconst (v := 1) dX10_valueOf_25 rfl ?_
    refine x_isub dX10_valueOf_26 ?_
    refine x_imul dX10_valueOf_27 ?_
    refine x_iload_n dX10_valueOf_28 rfl rfl ?_
    refine x_iadd dX10_valueOf_29 ?_
    refine x_bipush (v := 8) dX10_valueOf_30 rfl ?_
    refine x_isub dX10_valueOf_32 ?_
    obtain ⟨hb, hT⟩ := hT
    refine m_iald (v := (s.2.2.1 135 (((14 * ((s.1 130) - 1)) + x1) - 8).toNatClampNeg)) dX10_valueOf_33 rfl hb hW rfl ?_
    exact x_iret dX10_valueOf_34 rfl rfl ⟨_, _, rfl, hW, hF, hT⟩
  · have hT := hT.2 c
    refine x_aload_n dX10_valueOf_6 rfl rfl rfl ?_
    refine m_geta dX10_valueOf_7 f_TallySlateModel_213 (by decide) rfl hW ?_
    refine x_iload_n dX10_valueOf_10 rfl rfl ?_
    obtain ⟨hb, hT⟩ := hT
    refine m_iald (v := (s.2.2.1 129 x1.toNatClampNeg)) dX10_valueOf_11 rfl hb hW rfl ?_
    refine x_goto (tgt := 34) dX10_valueOf_12 rfl ?_
    exact x_iret dX10_valueOf_34 rfl rfl ⟨_, _, rfl, hW, hF, hT⟩
theorem eX10_valueOf {l : Launch} {E : EN} {w : MO} {d : Nat} {s : MS} {Q : Option Value → MS → Prop} {x1 : Int32} (hst : l.stackTraces = false) (hT : ((8 ≤ x1 → (inB (((14 * ((s.1 130) - 1)) + x1) - 8) 140 ∧ Q (some (.int (s.2.2.1 135 (((14 * ((s.1 130) - 1)) + x1) - 8).toNatClampNeg))) s)) ∧ (¬ 8 ≤ x1 → (inB x1 8 ∧ Q (some (.int (s.2.2.1 129 x1.toNatClampNeg))) s)))) : EvM l E w d MX10_valueOf [.ref w.1, .int x1] s Q :=
  EvM.of hst (by decide) (Nat.le_of_ble_eq_true rfl) (vX10_valueOf_0 hT)
set_option maxHeartbeats 16000000 in
theorem vX10_works_0 {l : Launch} {E : EN} {w : MO} {d : Nat} {s : MS} {Q : Option Value → MS → Prop} {x1 : Int32} (hT : (inB x1 8000 ∧ (((s.2.2.1 80 x1.toNatClampNeg) = 4 → (inB x1 8000 ∧ (EvM l E w d MX10_one [.ref w.1, .int (s.2.2.1 81 x1.toNatClampNeg)] s (fun r s1 => r = none ∧ Q none s1)))) ∧ (¬ ((s.2.2.1 80 x1.toNatClampNeg) = 4) → (((s.2.2.1 80 x1.toNatClampNeg) = 5 → (inB x1 8000 ∧ (EvM l E w d MX10_two [.ref w.1, .int (s.2.2.1 81 x1.toNatClampNeg)] s (fun r s2 => r = none ∧ Q none s2)))) ∧ (¬ ((s.2.2.1 80 x1.toNatClampNeg) = 5) → (((s.2.2.1 80 x1.toNatClampNeg) = 6 → (inB x1 8000 ∧ (EvM l E w d MX10_literal [.ref w.1, .int ((s.1 108) - (s.2.2.1 81 x1.toNatClampNeg))] s (fun r s3 => r = none ∧ Q none s3)))) ∧ (¬ ((s.2.2.1 80 x1.toNatClampNeg) = 6) → (((s.2.2.1 80 x1.toNatClampNeg) = 7 → (EvM l E w d MX10_index [.ref w.1] s (fun r s4 => r = none ∧ Q none s4))) ∧ (¬ ((s.2.2.1 80 x1.toNatClampNeg) = 7) → (((s.2.2.1 80 x1.toNatClampNeg) = 8 → (inB x1 8000 ∧ (inB x1 8000 ∧ (EvM l E w d MX10_builtIn [.ref w.1, .int (s.2.2.1 81 x1.toNatClampNeg), .int ((s.1 108) - (s.2.2.1 82 x1.toNatClampNeg))] s (fun r s5 => r = none ∧ Q none s5))))) ∧ (¬ ((s.2.2.1 80 x1.toNatClampNeg) = 8) → (((s.2.2.1 80 x1.toNatClampNeg) = 9 → (inB x1 8000 ∧ (inB x1 8000 ∧ (EvM l E w d MX10_enters [.ref w.1, .int (s.2.2.1 81 x1.toNatClampNeg), .int (s.2.2.1 82 x1.toNatClampNeg), .int (s.1 126)] s (fun r s6 => r = none ∧ Q none s6))))) ∧ (¬ ((s.2.2.1 80 x1.toNatClampNeg) = 9) → ((inB ((s.1 108) - 1) 9000 ∧ ((¬ (s.2.2.1 106 ((s.1 108) - 1).toNatClampNeg) = 0 → (inB x1 8000 ∧ ((¬ (s.2.2.1 81 x1.toNatClampNeg) = 28 → (inB ((s.1 108) - 1) 9000 ∧ (inB ((s.1 108) - 1) 9000 ∧ (EvM l E w d MX10_sizeAt [.ref w.1, .int (s.2.2.1 107 ((s.1 108) - 1).toNatClampNeg)] (sI s 108 ((s.1 108) - 1)) (fun r s7 => ∃ v8 : Int32, r = some (.int v8) ∧ (EvM l E w d MX10_way [.ref w.1, .int 4, .int (s.2.2.1 107 ((s.1 108) - 1).toNatClampNeg), .int v8, .int (s7.1 108)] s7 (fun r s9 => r = none ∧ Q none s9))))))) ∧ ((s.2.2.1 81 x1.toNatClampNeg) = 28 → (inB ((s.1 108) - 1) 9000 ∧ (inB ((s.1 108) - 1) 9000 ∧ (EvM l E w d MX10_sizeAt [.ref w.1, .int (s.2.2.1 107 ((s.1 108) - 1).toNatClampNeg)] (sI s 108 ((s.1 108) - 1)) (fun r s10 => ∃ v11 : Int32, r = some (.int v11) ∧ (EvM l E w d MX10_way [.ref w.1, .int 3, .int (s.2.2.1 107 ((s.1 108) - 1).toNatClampNeg), .int v11, .int (s10.1 108)] s10 (fun r s12 => r = none ∧ Q none s12)))))))))) ∧ ((s.2.2.1 106 ((s.1 108) - 1).toNatClampNeg) = 0 → (EvM l E w d MX10_trouble [.ref w.1, .int 3, .int (s.1 127)] s (fun r s13 => r = none ∧ Q none s13)))))))))))))))))))) : ExM l E w (d + 1) MX10_works 0 [some (.ref w.1), some (.int x1)] [] s Q := by
  intro h0 h hW hF
  refine x_aload_n dX10_works_0 rfl rfl rfl ?_
  refine m_geta dX10_works_1 f_TallySlateModel_121 (by decide) rfl hW ?_
  refine x_iload_n dX10_works_4 rfl rfl ?_
  obtain ⟨hb, hT⟩ := hT
  refine m_iald (v := (s.2.2.1 80 x1.toNatClampNeg)) dX10_works_5 rfl hb hW rfl ?_
  by_cases c : (s.2.2.1 80 x1.toNatClampNeg) = 4
  · have hT := hT.1 c
    refine x_tableIn (tgt := 44) (off := 38) dX10_works_6 (by rw [c]; decide) (by rw [c]; decide) (by rw [c]; rfl) rfl ?_
    refine x_aload_n dX10_works_44 rfl rfl rfl ?_
    refine x_aload_n dX10_works_45 rfl rfl rfl ?_
    refine m_geta dX10_works_46 f_TallySlateModel_124 (by decide) rfl hW ?_
    refine x_iload_n dX10_works_49 rfl rfl ?_
    obtain ⟨hb, hT⟩ := hT
    refine m_iald (v := (s.2.2.1 81 x1.toNatClampNeg)) dX10_works_50 rfl hb hW rfl ?_
    refine m_inv (vs := [.int (s.2.2.1 81 x1.toNatClampNeg)]) dX10_works_51 oX10_one q2724 q2722 qs105 rfl rfl (Nat.le_of_ble_eq_true rfl) rfl hW hF hT ?_
    rintro _ s1 ⟨rfl, hT⟩ h hW hF
    exact x_vret dX10_works_54 rfl ⟨_, _, rfl, hW, hF, hT⟩
  · have hT := hT.2 c
    have cs0 := c
    by_cases c : (s.2.2.1 80 x1.toNatClampNeg) = 5
    · have hT := hT.1 c
      refine x_tableIn (tgt := 55) (off := 49) dX10_works_6 (by rw [c]; decide) (by rw [c]; decide) (by rw [c]; rfl) rfl ?_
      refine x_aload_n dX10_works_55 rfl rfl rfl ?_
      refine x_aload_n dX10_works_56 rfl rfl rfl ?_
      refine m_geta dX10_works_57 f_TallySlateModel_124 (by decide) rfl hW ?_
      refine x_iload_n dX10_works_60 rfl rfl ?_
      obtain ⟨hb, hT⟩ := hT
      refine m_iald (v := (s.2.2.1 81 x1.toNatClampNeg)) dX10_works_61 rfl hb hW rfl ?_
      refine m_inv (vs := [.int (s.2.2.1 81 x1.toNatClampNeg)]) dX10_works_62 oX10_two q2779 q2777 qs118 rfl rfl (Nat.le_of_ble_eq_true rfl) rfl hW hF hT ?_
      rintro _ s2 ⟨rfl, hT⟩ h hW hF
      exact x_vret dX10_works_65 rfl ⟨_, _, rfl, hW, hF, hT⟩
    · have hT := hT.2 c
      have cs1 := c
      by_cases c : (s.2.2.1 80 x1.toNatClampNeg) = 6
      · have hT := hT.1 c
        refine x_tableIn (tgt := 66) (off := 60) dX10_works_6 (by rw [c]; decide) (by rw [c]; decide) (by rw [c]; rfl) rfl ?_
        refine x_aload_n dX10_works_66 rfl rfl rfl ?_
        refine x_aload_n dX10_works_67 rfl rfl rfl ?_
        refine m_geti (v := (s.1 108)) dX10_works_68 f_TallySlateModel_461 (by decide) rfl hW rfl ?_
        refine x_aload_n dX10_works_71 rfl rfl rfl ?_
        refine m_geta dX10_works_72 f_TallySlateModel_124 (by decide) rfl hW ?_
        refine x_iload_n dX10_works_75 rfl rfl ?_
        obtain ⟨hb, hT⟩ := hT
        refine m_iald (v := (s.2.2.1 81 x1.toNatClampNeg)) dX10_works_76 rfl hb hW rfl ?_
        refine x_isub dX10_works_77 ?_
        refine m_inv (vs := [.int ((s.1 108) - (s.2.2.1 81 x1.toNatClampNeg))]) dX10_works_78 oX10_literal q2790 q2788 qs120 rfl rfl (Nat.le_of_ble_eq_true rfl) rfl hW hF hT ?_
        rintro _ s3 ⟨rfl, hT⟩ h hW hF
        exact x_vret dX10_works_81 rfl ⟨_, _, rfl, hW, hF, hT⟩
      · have hT := hT.2 c
        have cs2 := c
        by_cases c : (s.2.2.1 80 x1.toNatClampNeg) = 7
        · have hT := hT.1 c
          refine x_tableIn (tgt := 82) (off := 76) dX10_works_6 (by rw [c]; decide) (by rw [c]; decide) (by rw [c]; rfl) rfl ?_
          refine x_aload_n dX10_works_82 rfl rfl rfl ?_
          refine m_inv (vs := []) dX10_works_83 oX10_index q2794 q2792 qs121 rfl rfl (Nat.le_of_ble_eq_true rfl) rfl hW hF hT ?_
          rintro _ s4 ⟨rfl, hT⟩ h hW hF
          exact x_vret dX10_works_86 rfl ⟨_, _, rfl, hW, hF, hT⟩
        · have hT := hT.2 c
          have cs3 := c
          by_cases c : (s.2.2.1 80 x1.toNatClampNeg) = 8
          · have hT := hT.1 c
            refine x_tableIn (tgt := 87) (off := 81) dX10_works_6 (by rw [c]; decide) (by rw [c]; decide) (by rw [c]; rfl) rfl ?_
            refine x_aload_n dX10_works_87 rfl rfl rfl ?_
            refine x_aload_n dX10_works_88 rfl rfl rfl ?_
            refine m_geta dX10_works_89 f_TallySlateModel_124 (by decide) rfl hW ?_
            refine x_iload_n dX10_works_92 rfl rfl ?_
            obtain ⟨hb, hT⟩ := hT
            refine m_iald (v := (s.2.2.1 81 x1.toNatClampNeg)) dX10_works_93 rfl hb hW rfl ?_
            refine x_aload_n dX10_works_94 rfl rfl rfl ?_
            refine m_geti (v := (s.1 108)) dX10_works_95 f_TallySlateModel_461 (by decide) rfl hW rfl ?_
            refine x_aload_n dX10_works_98 rfl rfl rfl ?_
            refine m_geta dX10_works_99 f_TallySlateModel_127 (by decide) rfl hW ?_
            refine x_iload_n dX10_works_102 rfl rfl ?_
            obtain ⟨hb, hT⟩ := hT
            refine m_iald (v := (s.2.2.1 82 x1.toNatClampNeg)) dX10_works_103 rfl hb hW rfl ?_
            refine x_isub dX10_works_104 ?_
            refine m_inv (vs := [.int (s.2.2.1 81 x1.toNatClampNeg), .int ((s.1 108) - (s.2.2.1 82 x1.toNatClampNeg))]) dX10_works_105 oX10_builtIn q2802 q2800 qs123 rfl rfl (Nat.le_of_ble_eq_true rfl) rfl hW hF hT ?_
            rintro _ s5 ⟨rfl, hT⟩ h hW hF
            exact x_vret dX10_works_108 rfl ⟨_, _, rfl, hW, hF, hT⟩
          · have hT := hT.2 c
            have cs4 := c
            by_cases c : (s.2.2.1 80 x1.toNatClampNeg) = 9
            · have hT := hT.1 c
              refine x_tableIn (tgt := 109) (off := 103) dX10_works_6 (by rw [c]; decide) (by rw [c]; decide) (by rw [c]; rfl) rfl ?_
              refine x_aload_n dX10_works_109 rfl rfl rfl ?_
              refine x_aload_n dX10_works_110 rfl rfl rfl ?_
              refine m_geta dX10_works_111 f_TallySlateModel_124 (by decide) rfl hW ?_
              refine x_iload_n dX10_works_114 rfl rfl ?_
              obtain ⟨hb, hT⟩ := hT
              refine m_iald (v := (s.2.2.1 81 x1.toNatClampNeg)) dX10_works_115 rfl hb hW rfl ?_
              refine x_aload_n dX10_works_116 rfl rfl rfl ?_
              refine m_geta dX10_works_117 f_TallySlateModel_127 (by decide) rfl hW ?_
              refine x_iload_n dX10_works_120 rfl rfl ?_
              obtain ⟨hb, hT⟩ := hT
              refine m_iald (v := (s.2.2.1 82 x1.toNatClampNeg)) dX10_works_121 rfl hb hW rfl ?_
              refine x_aload_n dX10_works_122 rfl rfl rfl ?_
              refine m_geti (v := (s.1 126)) dX10_works_123 f_TallySlateModel_540 (by decide) rfl hW rfl ?_
              refine m_inv (vs := [.int (s.2.2.1 81 x1.toNatClampNeg), .int (s.2.2.1 82 x1.toNatClampNeg), .int (s.1 126)]) dX10_works_126 oX10_enters q2692 q2690 qs97 rfl rfl (Nat.le_of_ble_eq_true rfl) rfl hW hF hT ?_
              rintro _ s6 ⟨rfl, hT⟩ h hW hF
              exact x_vret dX10_works_129 rfl ⟨_, _, rfl, hW, hF, hT⟩
            · have hT := hT.2 c
              have cs5 := c
              refine x_tableD (tgt := 130) [4, 5, 6, 7, 8, 9] dX10_works_6 (List.forall_mem_cons.mpr ⟨fun h => cs0 (i32_of (h.trans (show (4 : Int) = (4 : Int32).toInt from by decide))), List.forall_mem_cons.mpr ⟨fun h => cs1 (i32_of (h.trans (show (5 : Int) = (5 : Int32).toInt from by decide))), List.forall_mem_cons.mpr ⟨fun h => cs2 (i32_of (h.trans (show (6 : Int) = (6 : Int32).toInt from by decide))), List.forall_mem_cons.mpr ⟨fun h => cs3 (i32_of (h.trans (show (7 : Int) = (7 : Int32).toInt from by decide))), List.forall_mem_cons.mpr ⟨fun h => cs4 (i32_of (h.trans (show (8 : Int) = (8 : Int32).toInt from by decide))), List.forall_mem_cons.mpr ⟨fun h => cs5 (i32_of (h.trans (show (9 : Int) = (9 : Int32).toInt from by decide))), fun _ h => absurd h List.not_mem_nil⟩⟩⟩⟩⟩⟩) (by decide) (by decide) rfl ?_
              refine x_aload_n dX10_works_130 rfl rfl rfl ?_
              refine m_geta dX10_works_131 f_TallySlateModel_186 (by decide) rfl hW ?_
              refine x_aload_n dX10_works_134 rfl rfl rfl ?_
              refine m_geti (v := (s.1 108)) dX10_works_135 f_TallySlateModel_461 (by decide) rfl hW rfl ?_
              refine x_iconst (v := 1) dX10_works_138 rfl ?_
              refine x_isub dX10_works_139 ?_
              obtain ⟨hb, hT⟩ := hT
              refine m_iald (v := (s.2.2.1 106 ((s.1 108) - 1).toNatClampNeg)) dX10_works_140 rfl hb hW rfl ?_
              refine x_if_ne (tgt := 154) dX10_works_141 rfl (fun c => ?_) (fun c => ?_)
              · have hT := hT.1 c
                refine x_aload_n dX10_works_154 rfl rfl rfl ?_
                refine x_dup dX10_works_155 rfl ?_
                refine m_geti (v := (s.1 108)) dX10_works_156 f_TallySlateModel_461 (by decide) rfl hW rfl ?_
                refine x_iconst (v := 1) dX10_works_159 rfl ?_
                refine x_isub dX10_works_160 ?_
                refine m_puti dX10_works_161 f_TallySlateModel_461 (by decide) rfl rfl rfl rfl hW hF ?_
                intro h hW hF
                refine x_aload_n dX10_works_164 rfl rfl rfl ?_
                refine x_aload_n dX10_works_165 rfl rfl rfl ?_
                refine m_geta dX10_works_166 f_TallySlateModel_124 (by decide) rfl hW ?_
                refine x_iload_n dX10_works_169 rfl rfl ?_
                obtain ⟨hb, hT⟩ := hT
                refine m_iald (v := (s.2.2.1 81 x1.toNatClampNeg)) dX10_works_170 rfl hb hW rfl ?_
                refine x_bipush (v := 28) dX10_works_171 rfl ?_
                refine x_icmp_ne (tgt := 180) dX10_works_173 rfl (fun c => ?_) (fun c => ?_)
                · have hT := hT.1 c
                  refine x_iconst (v := 4) dX10_works_180 rfl ?_
                  refine x_aload_n dX10_works_181 rfl rfl rfl ?_
                  refine m_geta dX10_works_182 f_TallySlateModel_189 (by decide) rfl hW ?_
                  refine x_aload_n dX10_works_185 rfl rfl rfl ?_
                  refine m_geti (v := ((s.1 108) - 1)) dX10_works_186 f_TallySlateModel_461 (by decide) rfl hW rfl ?_
                  obtain ⟨hb, hT⟩ := hT
                  refine m_iald (v := (s.2.2.1 107 ((s.1 108) - 1).toNatClampNeg)) dX10_works_189 rfl hb hW rfl ?_
                  refine x_aload_n dX10_works_190 rfl rfl rfl ?_
                  refine x_aload_n dX10_works_191 rfl rfl rfl ?_
                  refine m_geta dX10_works_192 f_TallySlateModel_189 (by decide) rfl hW ?_
                  refine x_aload_n dX10_works_195 rfl rfl rfl ?_
                  refine m_geti (v := ((s.1 108) - 1)) dX10_works_196 f_TallySlateModel_461 (by decide) rfl hW rfl ?_
                  obtain ⟨hb, hT⟩ := hT
                  refine m_iald (v := (s.2.2.1 107 ((s.1 108) - 1).toNatClampNeg)) dX10_works_199 rfl hb hW rfl ?_
                  refine m_inv (vs := [.int (s.2.2.1 107 ((s.1 108) - 1).toNatClampNeg)]) dX10_works_200 oX10_sizeAt q2735 q2733 qs107 rfl rfl (Nat.le_of_ble_eq_true rfl) rfl hW hF hT ?_
                  rintro _ s7 ⟨v8, rfl, hT⟩ h hW hF
                  refine x_aload_n dX10_works_203 rfl rfl rfl ?_
                  refine m_geti (v := (s7.1 108)) dX10_works_204 f_TallySlateModel_461 (by decide) rfl hW rfl ?_
                  refine m_inv (vs := [.int 4, .int (s.2.2.1 107 ((s.1 108) - 1).toNatClampNeg), .int v8, .int (s7.1 108)]) dX10_works_207 oX10_way q2891 q2889 qs143 rfl rfl (Nat.le_of_ble_eq_true rfl) rfl hW hF hT ?_
                  rintro _ s9 ⟨rfl, hT⟩ h hW hF
                  exact x_vret dX10_works_210 rfl ⟨_, _, rfl, hW, hF, hT⟩
                · have hT := hT.2 c
                  refine x_iconst (v := 3) dX10_works_176 rfl ?_
                  refine x_goto (tgt := 181) dX10_works_177 rfl ?_
                  refine x_aload_n dX10_works_181 rfl rfl rfl ?_
                  refine m_geta dX10_works_182 f_TallySlateModel_189 (by decide) rfl hW ?_
                  refine x_aload_n dX10_works_185 rfl rfl rfl ?_
                  refine m_geti (v := ((s.1 108) - 1)) dX10_works_186 f_TallySlateModel_461 (by decide) rfl hW rfl ?_
                  obtain ⟨hb, hT⟩ := hT
                  refine m_iald (v := (s.2.2.1 107 ((s.1 108) - 1).toNatClampNeg)) dX10_works_189 rfl hb hW rfl ?_
                  refine x_aload_n dX10_works_190 rfl rfl rfl ?_
                  refine x_aload_n dX10_works_191 rfl rfl rfl ?_
                  refine m_geta dX10_works_192 f_TallySlateModel_189 (by decide) rfl hW ?_
                  refine x_aload_n dX10_works_195 rfl rfl rfl ?_
                  refine m_geti (v := ((s.1 108) - 1)) dX10_works_196 f_TallySlateModel_461 (by decide) rfl hW rfl ?_
                  obtain ⟨hb, hT⟩ := hT
                  refine m_iald (v := (s.2.2.1 107 ((s.1 108) - 1).toNatClampNeg)) dX10_works_199 rfl hb hW rfl ?_
                  refine m_inv (vs := [.int (s.2.2.1 107 ((s.1 108) - 1).toNatClampNeg)]) dX10_works_200 oX10_sizeAt q2735 q2733 qs107 rfl rfl (Nat.le_of_ble_eq_true rfl) rfl hW hF hT ?_
                  rintro _ s10 ⟨v11, rfl, hT⟩ h hW hF
                  refine x_aload_n dX10_works_203 rfl rfl rfl ?_
                  refine m_geti (v := (s10.1 108)) dX10_works_204 f_TallySlateModel_461 (by decide) rfl hW rfl ?_
                  refine m_inv (vs := [.int 3, .int (s.2.2.1 107 ((s.1 108) - 1).toNatClampNeg), .int v11, .int (s10.1 108)]) dX10_works_207 oX10_way q2891 q2889 qs143 rfl rfl (Nat.le_of_ble_eq_true rfl) rfl hW hF hT ?_
                  rintro _ s12 ⟨rfl, hT⟩ h hW hF
                  exact x_vret dX10_works_210 rfl ⟨_, _, rfl, hW, hF, hT⟩
              · have hT := hT.2 c
                refine x_aload_n dX10_works_144 rfl rfl rfl ?_
                refine x_iconst (v := 3) dX10_works_145 rfl ?_
                refine x_aload_n dX10_works_146 rfl rfl rfl ?_
                refine m_geti (v := (s.1 127)) dX10_works_147 f_TallySlateModel_507 (by decide) rfl hW rfl ?_
                refine m_inv (vs := [.int 3, .int (s.1 127)]) dX10_works_150 oX10_trouble q2696 q2694 qs98 rfl rfl (Nat.le_of_ble_eq_true rfl) rfl hW hF hT ?_
                rintro _ s13 ⟨rfl, hT⟩ h hW hF
                exact x_vret dX10_works_153 rfl ⟨_, _, rfl, hW, hF, hT⟩
theorem eX10_works {l : Launch} {E : EN} {w : MO} {d : Nat} {s : MS} {Q : Option Value → MS → Prop} {x1 : Int32} (hst : l.stackTraces = false) (hT : (inB x1 8000 ∧ (((s.2.2.1 80 x1.toNatClampNeg) = 4 → (inB x1 8000 ∧ (EvM l E w d MX10_one [.ref w.1, .int (s.2.2.1 81 x1.toNatClampNeg)] s (fun r s1 => r = none ∧ Q none s1)))) ∧ (¬ ((s.2.2.1 80 x1.toNatClampNeg) = 4) → (((s.2.2.1 80 x1.toNatClampNeg) = 5 → (inB x1 8000 ∧ (EvM l E w d MX10_two [.ref w.1, .int (s.2.2.1 81 x1.toNatClampNeg)] s (fun r s2 => r = none ∧ Q none s2)))) ∧ (¬ ((s.2.2.1 80 x1.toNatClampNeg) = 5) → (((s.2.2.1 80 x1.toNatClampNeg) = 6 → (inB x1 8000 ∧ (EvM l E w d MX10_literal [.ref w.1, .int ((s.1 108) - (s.2.2.1 81 x1.toNatClampNeg))] s (fun r s3 => r = none ∧ Q none s3)))) ∧ (¬ ((s.2.2.1 80 x1.toNatClampNeg) = 6) → (((s.2.2.1 80 x1.toNatClampNeg) = 7 → (EvM l E w d MX10_index [.ref w.1] s (fun r s4 => r = none ∧ Q none s4))) ∧ (¬ ((s.2.2.1 80 x1.toNatClampNeg) = 7) → (((s.2.2.1 80 x1.toNatClampNeg) = 8 → (inB x1 8000 ∧ (inB x1 8000 ∧ (EvM l E w d MX10_builtIn [.ref w.1, .int (s.2.2.1 81 x1.toNatClampNeg), .int ((s.1 108) - (s.2.2.1 82 x1.toNatClampNeg))] s (fun r s5 => r = none ∧ Q none s5))))) ∧ (¬ ((s.2.2.1 80 x1.toNatClampNeg) = 8) → (((s.2.2.1 80 x1.toNatClampNeg) = 9 → (inB x1 8000 ∧ (inB x1 8000 ∧ (EvM l E w d MX10_enters [.ref w.1, .int (s.2.2.1 81 x1.toNatClampNeg), .int (s.2.2.1 82 x1.toNatClampNeg), .int (s.1 126)] s (fun r s6 => r = none ∧ Q none s6))))) ∧ (¬ ((s.2.2.1 80 x1.toNatClampNeg) = 9) → ((inB ((s.1 108) - 1) 9000 ∧ ((¬ (s.2.2.1 106 ((s.1 108) - 1).toNatClampNeg) = 0 → (inB x1 8000 ∧ ((¬ (s.2.2.1 81 x1.toNatClampNeg) = 28 → (inB ((s.1 108) - 1) 9000 ∧ (inB ((s.1 108) - 1) 9000 ∧ (EvM l E w d MX10_sizeAt [.ref w.1, .int (s.2.2.1 107 ((s.1 108) - 1).toNatClampNeg)] (sI s 108 ((s.1 108) - 1)) (fun r s7 => ∃ v8 : Int32, r = some (.int v8) ∧ (EvM l E w d MX10_way [.ref w.1, .int 4, .int (s.2.2.1 107 ((s.1 108) - 1).toNatClampNeg), .int v8, .int (s7.1 108)] s7 (fun r s9 => r = none ∧ Q none s9))))))) ∧ ((s.2.2.1 81 x1.toNatClampNeg) = 28 → (inB ((s.1 108) - 1) 9000 ∧ (inB ((s.1 108) - 1) 9000 ∧ (EvM l E w d MX10_sizeAt [.ref w.1, .int (s.2.2.1 107 ((s.1 108) - 1).toNatClampNeg)] (sI s 108 ((s.1 108) - 1)) (fun r s10 => ∃ v11 : Int32, r = some (.int v11) ∧ (EvM l E w d MX10_way [.ref w.1, .int 3, .int (s.2.2.1 107 ((s.1 108) - 1).toNatClampNeg), .int v11, .int (s10.1 108)] s10 (fun r s12 => r = none ∧ Q none s12)))))))))) ∧ ((s.2.2.1 106 ((s.1 108) - 1).toNatClampNeg) = 0 → (EvM l E w d MX10_trouble [.ref w.1, .int 3, .int (s.1 127)] s (fun r s13 => r = none ∧ Q none s13)))))))))))))))))))) : EvM l E w (d + 1) MX10_works [.ref w.1, .int x1] s Q :=
  EvM.of hst (by decide) (Nat.le_of_ble_eq_true rfl) (vX10_works_0 hT)
