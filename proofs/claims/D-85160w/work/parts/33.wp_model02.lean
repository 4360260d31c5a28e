/-! weakest preconditions of methods of the model: printed by wp.py -/
set_option maxRecDepth 100000
theorem vX10_name_0 {l : Launch} {E : EN} {w : MO} {d : Nat} {s : MS} {Q : Option Value → MS → Prop}  (hT : (((s.1 66) ≤ 0 → (EvM l E w d MX10_isName [.ref w.1] s (fun r s1 => ∃ v2 : Int32, r = some (.int v2) ∧ ((¬ v2 = 0 → (EvM l E w d MX10_isShelf [.long (s1.2.1 64)] s1 (fun r s3 => ∃ v4 : Int32, r = some (.int v4) ∧ ((v4 = 0 → ExM l E w (d + 1) MX10_name 48 [some (.ref w.1), some (.int 0)] [] s3 Q) ∧ (¬ v4 = 0 → (∀ y5 : Int32, y5 = ((s3.2.1 64).toInt32 - 1) → (EvM l E w d MX10_take [.ref w.1] s3 (fun r s6 => r = none ∧ Q (some (.int y5)) s6)))))))) ∧ (v2 = 0 → (EvM l E w d MX10_wrong [.ref w.1] s1 (fun r s7 => r = none ∧ Q (some (.int 0)) s7))))))) ∧ (¬ (s.1 66) ≤ 0 → Q (some (.int 0)) s))) : ExM l E w (d + 1) MX10_name 0 [some (.ref w.1), none] [] s Q := by
  intro h0 h hW hF
  refine x_aload_n dX10_name_0 rfl rfl rfl ?_
  refine m_geti (v := (s.1 66)) dX10_name_1 f_TallySlateModel_311 (by decide) rfl hW rfl ?_
  refine x_if_le (tgt := 9) dX10_name_4 rfl (fun c => ?_) (fun c => ?_)
  · have hT := hT.1 c
    refine x_aload_n dX10_name_9 rfl rfl rfl ?_
    refine m_inv (vs := []) dX10_name_10 oX10_isName q2570 q2568 qs72 rfl rfl (Nat.le_of_ble_eq_true rfl) rfl hW hF hT ?_
    rintro _ s1 ⟨v2, rfl, hT⟩ h hW hF
    refine x_if_ne (tgt := 22) dX10_name_13 rfl (fun c => ?_) (fun c => ?_)
    · have hT := hT.1 c
      refine x_aload_n dX10_name_22 rfl rfl rfl ?_
      refine m_getl (v := (s1.2.1 64)) dX10_name_23 f_TallySlateModel_272 (by decide) rfl hW rfl ?_
      refine m_invS (vs := [.long (s1.2.1 64)]) dX10_name_26 oX10_isShelf q2577 q2576 rfl rfl (Nat.le_of_ble_eq_true rfl) rfl hW hF hT ?_
      rintro _ s3 ⟨v4, rfl, hT⟩ h hW hF
      refine x_if_eq (tgt := 46) dX10_name_29 rfl (fun c => ?_) (fun c => ?_)
      · have hT := hT.1 c
        refine x_iconst (v := 0) dX10_name_46 rfl ?_
        refine x_istore_n (lo' := [some (.ref w.1), some (.int 0)]) dX10_name_47 rfl (Nat.le_of_ble_eq_true rfl) rfl ?_
        exact hT h0 h hW hF
      · have hT := hT.2 c
        refine x_aload_n dX10_name_32 rfl rfl rfl ?_
        refine m_getl (v := (s3.2.1 64)) dX10_name_33 f_TallySlateModel_272 (by decide) rfl hW rfl ?_
        refine x_l2i dX10_name_36 ?_
        refine x_iconst (v := 1) dX10_name_37 rfl ?_
        refine x_isub dX10_name_38 ?_
        obtain ⟨y5, ey5⟩ : ∃ z : Int32, z = ((s3.2.1 64).toInt32 - 1) := ⟨_, rfl⟩
        have hT := hT y5 ey5
        refine x_istore_n (lo' := [some (.ref w.1), some (.int y5)]) dX10_name_39 rfl (Nat.le_of_ble_eq_true rfl) (by rw [ey5]; rfl) ?_
        refine x_aload_n dX10_name_40 rfl rfl rfl ?_
        refine m_inv (vs := []) dX10_name_41 oX10_take q2558 q2556 qs69 rfl rfl (Nat.le_of_ble_eq_true rfl) rfl hW hF hT ?_
        rintro _ s6 ⟨rfl, hT⟩ h hW hF
        refine x_iload_n dX10_name_44 rfl rfl ?_
        exact x_iret dX10_name_45 rfl rfl ⟨_, _, rfl, hW, hF, hT⟩
    · have hT := hT.2 c
      refine x_aload_n dX10_name_16 rfl rfl rfl ?_
      refine m_inv (vs := []) dX10_name_17 oX10_wrong q2562 q2560 qs70 rfl rfl (Nat.le_of_ble_eq_true rfl) rfl hW hF hT ?_
      rintro _ s7 ⟨rfl, hT⟩ h hW hF
      refine x_iconst (v := 0) dX10_name_20 rfl ?_
      exact x_iret dX10_name_21 rfl rfl ⟨_, _, rfl, hW, hF, hT⟩
  · have hT := hT.2 c
    refine x_iconst (v := 0) dX10_name_7 rfl ?_
    exact x_iret dX10_name_8 rfl rfl ⟨_, _, rfl, hW, hF, hT⟩
theorem eX10_name {l : Launch} {E : EN} {w : MO} {d : Nat} {s : MS} {Q : Option Value → MS → Prop}  (hst : l.stackTraces = false) (hT : (((s.1 66) ≤ 0 → (EvM l E w d MX10_isName [.ref w.1] s (fun r s1 => ∃ v2 : Int32, r = some (.int v2) ∧ ((¬ v2 = 0 → (EvM l E w d MX10_isShelf [.long (s1.2.1 64)] s1 (fun r s3 => ∃ v4 : Int32, r = some (.int v4) ∧ ((v4 = 0 → ExM l E w (d + 1) MX10_name 48 [some (.ref w.1), some (.int 0)] [] s3 Q) ∧ (¬ v4 = 0 → (∀ y5 : Int32, y5 = ((s3.2.1 64).toInt32 - 1) → (EvM l E w d MX10_take [.ref w.1] s3 (fun r s6 => r = none ∧ Q (some (.int y5)) s6)))))))) ∧ (v2 = 0 → (EvM l E w d MX10_wrong [.ref w.1] s1 (fun r s7 => r = none ∧ Q (some (.int 0)) s7))))))) ∧ (¬ (s.1 66) ≤ 0 → Q (some (.int 0)) s))) : EvM l E w (d + 1) MX10_name [.ref w.1] s Q :=
  EvM.of hst (by decide) (Nat.le_of_ble_eq_true rfl) (vX10_name_0 hT)
set_option maxHeartbeats 16000000 in
theorem vX10_name_48 {l : Launch} {E : EN} {w : MO} {d : Nat} {s : MS} {Q : Option Value → MS → Prop} {a1 : Int32} (hT : (((s.1 79) ≤ a1 → ((¬ a1 = 14 → (inB a1 14 ∧ ((¬ a1 = (s.1 79) → (EvM l E w d MX10_take [.ref w.1] (sB s 78 a1.toNatClampNeg (s.2.1 64)) (fun r s1 => r = none ∧ Q (some (.int (8 + a1))) s1))) ∧ (a1 = (s.1 79) → (EvM l E w d MX10_take [.ref w.1] (sI (sB s 78 a1.toNatClampNeg (s.2.1 64)) 79 ((s.1 79) + 1)) (fun r s2 => r = none ∧ Q (some (.int (8 + a1))) s2)))))) ∧ (a1 = 14 → (EvM l E w d MX10_breaks [.ref w.1, .int 3, .int (s.1 63)] s (fun r s3 => r = none ∧ Q (some (.int 0)) s3))))) ∧ (¬ (s.1 79) ≤ a1 → (inB a1 14 ∧ (((lg_cmp (s.2.2.2 78 a1.toNatClampNeg) (s.2.1 64)) = 0 → ((¬ a1 = 14 → (inB a1 14 ∧ ((¬ a1 = (s.1 79) → (EvM l E w d MX10_take [.ref w.1] (sB s 78 a1.toNatClampNeg (s.2.1 64)) (fun r s4 => r = none ∧ Q (some (.int (8 + a1))) s4))) ∧ (a1 = (s.1 79) → (EvM l E w d MX10_take [.ref w.1] (sI (sB s 78 a1.toNatClampNeg (s.2.1 64)) 79 ((s.1 79) + 1)) (fun r s5 => r = none ∧ Q (some (.int (8 + a1))) s5)))))) ∧ (a1 = 14 → (EvM l E w d MX10_breaks [.ref w.1, .int 3, .int (s.1 63)] s (fun r s6 => r = none ∧ Q (some (.int 0)) s6))))) ∧ (¬ (lg_cmp (s.2.2.2 78 a1.toNatClampNeg) (s.2.1 64)) = 0 → ExM l E w (d + 1) MX10_name 48 [some (.ref w.1), some (.int (a1 + 1))] [] s Q)))))) : ExM l E w (d + 1) MX10_name 48 [some (.ref w.1), some (.int a1)] [] s Q := by
  intro h0 h hW hF
  refine x_iload_n dX10_name_48 rfl rfl ?_
  refine x_aload_n dX10_name_49 rfl rfl rfl ?_
  refine m_geti (v := (s.1 79)) dX10_name_50 f_TallySlateModel_359 (by decide) rfl hW rfl ?_
  refine x_icmp_ge (tgt := 76) dX10_name_53 rfl (fun c => ?_) (fun c => ?_)
  · have hT := hT.1 c
    refine x_iload_n dX10_name_76 rfl rfl ?_
    refine x_bipush (v := 14) dX10_name_77 rfl ?_
    refine x_icmp_ne (tgt := 93) dX10_name_79 rfl (fun c => ?_) (fun c => ?_)
    · have hT := hT.1 c
      refine x_aload_n dX10_name_93 rfl rfl rfl ?_
      refine m_geta dX10_name_94 f_TallySlateModel_118 (by decide) rfl hW ?_
      refine x_iload_n dX10_name_97 rfl rfl ?_
      refine x_aload_n dX10_name_98 rfl rfl rfl ?_
      refine m_getl (v := (s.2.1 64)) dX10_name_99 f_TallySlateModel_272 (by decide) rfl hW rfl ?_
      obtain ⟨hb, hT⟩ := hT
      refine m_last dX10_name_102 rfl hb hW hF ?_
      intro h hW hF
      refine x_iload_n dX10_name_103 rfl rfl ?_
      refine x_aload_n dX10_name_104 rfl rfl rfl ?_
      refine m_geti (v := (s.1 79)) dX10_name_105 f_TallySlateModel_359 (by decide) rfl hW rfl ?_
      refine x_icmp_ne (tgt := 121) dX10_name_108 rfl (fun c => ?_) (fun c => ?_)
      · have hT := hT.1 c
        refine x_aload_n dX10_name_121 rfl rfl rfl ?_
        refine m_inv (vs := []) dX10_name_122 oX10_take q2558 q2556 qs69 rfl rfl (Nat.le_of_ble_eq_true rfl) rfl hW hF hT ?_
        rintro _ s1 ⟨rfl, hT⟩ h hW hF
        refine x_bipush (v := 8) dX10_name_125 rfl ?_
        refine x_iload_n dX10_name_127 rfl rfl ?_
        refine x_iadd dX10_name_128 ?_
        exact x_iret dX10_name_129 rfl rfl ⟨_, _, rfl, hW, hF, hT⟩
      · have hT := hT.2 c
        refine x_aload_n dX10_name_111 rfl rfl rfl ?_
        refine x_dup dX10_name_112 rfl ?_
        refine m_geti (v := (s.1 79)) dX10_name_113 f_TallySlateModel_359 (by decide) rfl hW rfl ?_
        refine x_iconst (v := 1) dX10_name_116 rfl ?_
        refine x_iadd dX10_name_117 ?_
        refine m_puti dX10_name_118 f_TallySlateModel_359 (by decide) rfl rfl rfl rfl hW hF ?_
        intro h hW hF
        refine x_aload_n dX10_name_121 rfl rfl rfl ?_
        refine m_inv (vs := []) dX10_name_122 oX10_take q2558 q2556 qs69 rfl rfl (Nat.le_of_ble_eq_true rfl) rfl hW hF hT ?_
        rintro _ s2 ⟨rfl, hT⟩ h hW hF
        refine x_bipush (v := 8) dX10_name_125 rfl ?_
        refine x_iload_n dX10_name_127 rfl rfl ?_
        refine x_iadd dX10_name_128 ?_
        exact x_iret dX10_name_129 rfl rfl ⟨_, _, rfl, hW, hF, hT⟩
    · have hT := hT.2 c
      refine x_aload_n dX10_name_82 rfl rfl rfl ?_
      refine x_iconst (v := 3) dX10_name_83 rfl ?_
      refine x_aload_n dX10_name_84 rfl rfl rfl ?_
      refine m_geti (v := (s.1 63)) dX10_name_85 f_TallySlateModel_269 (by decide) rfl hW rfl ?_
      refine m_inv (vs := [.int 3, .int (s.1 63)]) dX10_name_88 oX10_breaks q2512 q2510 qs61 rfl rfl (Nat.le_of_ble_eq_true rfl) rfl hW hF hT ?_
      rintro _ s3 ⟨rfl, hT⟩ h hW hF
      refine x_iconst (v := 0) dX10_name_91 rfl ?_
      exact x_iret dX10_name_92 rfl rfl ⟨_, _, rfl, hW, hF, hT⟩
  · have hT := hT.2 c
    refine x_aload_n dX10_name_56 rfl rfl rfl ?_
    refine m_geta dX10_name_57 f_TallySlateModel_118 (by decide) rfl hW ?_
    refine x_iload_n dX10_name_60 rfl rfl ?_
    obtain ⟨hb, hT⟩ := hT
    refine m_lald (v := (s.2.2.2 78 a1.toNatClampNeg)) dX10_name_61 rfl hb hW rfl ?_
    refine x_aload_n dX10_name_62 rfl rfl rfl ?_
    refine m_getl (v := (s.2.1 64)) dX10_name_63 f_TallySlateModel_272 (by decide) rfl hW rfl ?_
    refine x_lcmp dX10_name_66 ?_
    refine x_if_eq (tgt := 76) dX10_name_67 rfl (fun c => ?_) (fun c => ?_)
    · have hT := hT.1 c
      refine x_iload_n dX10_name_76 rfl rfl ?_
      refine x_bipush (v := 14) dX10_name_77 rfl ?_
      refine x_icmp_ne (tgt := 93) dX10_name_79 rfl (fun c => ?_) (fun c => ?_)
      · have hT := hT.1 c
        refine x_aload_n dX10_name_93 rfl rfl rfl ?_
        refine m_geta dX10_name_94 f_TallySlateModel_118 (by decide) rfl hW ?_
        refine x_iload_n dX10_name_97 rfl rfl ?_
        refine x_aload_n dX10_name_98 rfl rfl rfl ?_
        refine m_getl (v := (s.2.1 64)) dX10_name_99 f_TallySlateModel_272 (by decide) rfl hW rfl ?_
        obtain ⟨hb, hT⟩ := hT
        refine m_last dX10_name_102 rfl hb hW hF ?_
        intro h hW hF
        refine x_iload_n dX10_name_103 rfl rfl ?_
        refine x_aload_n dX10_name_104 rfl rfl rfl ?_
        refine m_geti (v := (s.1 79)) dX10_name_105 f_TallySlateModel_359 (by decide) rfl hW rfl ?_
        refine x_icmp_ne (tgt := 121) dX10_name_108 rfl (fun c => ?_) (fun c => ?_)
        · have hT := hT.1 c
          refine x_aload_n dX10_name_121 rfl rfl rfl ?_
          refine m_inv (vs := []) dX10_name_122 oX10_take q2558 q2556 qs69 rfl rfl (Nat.le_of_ble_eq_true rfl) rfl hW hF hT ?_
          rintro _ s4 ⟨rfl, hT⟩ h hW hF
          refine x_bipush (v := 8) dX10_name_125 rfl ?_
          refine x_iload_n dX10_name_127 rfl rfl ?_
          refine x_iadd dX10_name_128 ?_
          exact x_iret dX10_name_129 rfl rfl ⟨_, _, rfl, hW, hF, hT⟩
        · have hT := hT.2 c
          refine x_aload_n dX10_name_111 rfl rfl rfl ?_
          refine x_dup dX10_name_112 rfl ?_
          refine m_geti (v := (s.1 79)) dX10_name_113 f_TallySlateModel_359 (by decide) rfl hW rfl ?_
          refine x_iconst (v := 1) dX10_name_116 rfl ?_
          refine x_iadd dX10_name_117 ?_
          refine m_puti dX10_name_118 f_TallySlateModel_359 (by decide) rfl rfl rfl rfl hW hF ?_
          intro h hW hF
          refine x_aload_n dX10_name_121 rfl rfl rfl ?_
          refine m_inv (vs := []) dX10_name_122 oX10_take q2558 q2556 qs69 rfl rfl (Nat.le_of_ble_eq_true rfl) rfl hW hF hT ?_
          rintro _ s5 ⟨rfl, hT⟩ h hW hF
          refine x_bipush (v := 8) dX10_name_125 rfl ?_
          refine x_iload_n dX10_name_127 rfl rfl ?_
          refine x_iadd dX10_name_128 ?_
          exact x_iret dX10_name_129 rfl rfl ⟨_, _, rfl, hW, hF, hT⟩
      · have hT := hT.2 c
        refine x_aload_n dX10_name_82 rfl rfl rfl ?_
        refine x_iconst (v := 3) dX10_name_83 rfl ?_
        refine x_aload_n dX10_name_84 rfl rfl rfl ?_
        refine m_geti (v := (s.1 63)) dX10_name_85 f_TallySlateModel_269 (by decide) rfl hW rfl ?_
        refine m_inv (vs := [.int 3, .int (s.1 63)]) dX10_name_88 oX10_breaks q2512 q2510 qs61 rfl rfl (Nat.le_of_ble_eq_true rfl) rfl hW hF hT ?_
        rintro _ s6 ⟨rfl, hT⟩ h hW hF
        refine x_iconst (v := 0) dX10_name_91 rfl ?_
        exact x_iret dX10_name_92 rfl rfl ⟨_, _, rfl, hW, hF, hT⟩
    · have hT := hT.2 c
      refine x_iinc (lo' := [some (.ref w.1), some (.int (a1 + 1))]) dX10_name_70 rfl (show _ = (a1 + 1) from rfl) rfl ?_
      refine x_goto (tgt := 48) dX10_name_73 rfl ?_
      exact hT h0 h hW hF
set_option maxHeartbeats 16000000 in
theorem vX10_statement_0 {l : Launch} {E : EN} {w : MO} {d : Nat} {s : MS} {Q : Option Value → MS → Prop}  (hT : (∀ y1 : Int32, y1 = (s.1 63) → (EvM l E w d MX10_wordHere [.ref w.1] s (fun r s2 => ∃ v3 : Int32, r = some (.int v3) ∧ ((¬ (s2.1 62) = 1 → (EvM l E w d MX10_wrong [.ref w.1] s2 (fun r s4 => r = none ∧ Q none s4))) ∧ ((s2.1 62) = 1 → ((v3 = 0 → (EvM l E w d MX10_wrong [.ref w.1] s2 (fun r s5 => r = none ∧ Q none s5))) ∧ (¬ v3 = 0 → ((v3 = 2 → (EvM l E w d MX10_wrong [.ref w.1] s2 (fun r s6 => r = none ∧ Q none s6))) ∧ (¬ v3 = 2 → ((v3 = 5 → (EvM l E w d MX10_wrong [.ref w.1] s2 (fun r s7 => r = none ∧ Q none s7))) ∧ (¬ v3 = 5 → ((¬ v3 = 10 → (EvM l E w d MX10_order [.ref w.1, .int 1, .int 0, .int 0, .int y1] s2 (fun r s8 => ∃ v9 : Int32, r = some (.int v9) ∧ ((11 ≤ v3 → (EvM l E w d MX10_expression [.ref w.1, .int 1] s8 (fun r s10 => r = none ∧ (EvM l E w d MX10_sign [.ref w.1, .int 59] s10 (fun r s11 => r = none ∧ (EvM l E w d MX10_order [.ref w.1, .int 22, .int 0, .int 0, .int y1] s11 (fun r s12 => ∃ v13 : Int32, r = some (.int v13) ∧ Q none s12))))))) ∧ (¬ 11 ≤ v3 → ((0 ≤ v3 → ExM l E w (d + 1) MX10_statement 93 [some (.ref w.1), some (.int y1), some (.int v3), none, none] [] s8 Q) ∧ (¬ 0 ≤ v3 → (EvM l E w d MX10_isBracketBehind [.ref w.1] s8 (fun r s14 => ∃ v15 : Int32, r = some (.int v15) ∧ ((v15 = 0 → ExM l E w (d + 1) MX10_statement 93 [some (.ref w.1), some (.int y1), some (.int v3), none, none] [] s14 Q) ∧ (¬ v15 = 0 → (EvM l E w d MX10_expression [.ref w.1, .int 1] s14 (fun r s16 => r = none ∧ (EvM l E w d MX10_sign [.ref w.1, .int 59] s16 (fun r s17 => r = none ∧ (EvM l E w d MX10_order [.ref w.1, .int 22, .int 0, .int 0, .int y1] s17 (fun r s18 => ∃ v19 : Int32, r = some (.int v19) ∧ Q none s18))))))))))))))))) ∧ (v3 = 10 → (EvM l E w d MX10_wrong [.ref w.1] s2 (fun r s20 => r = none ∧ Q none s20)))))))))))))))) : ExM l E w (d + 1) MX10_statement 0 [some (.ref w.1), none, none, none, none] [] s Q := by
  intro h0 h hW hF
  refine x_aload_n dX10_statement_0 rfl rfl rfl ?_
  refine m_geti (v := (s.1 63)) dX10_statement_1 f_TallySlateModel_269 (by decide) rfl hW rfl ?_
  obtain ⟨y1, ey1⟩ : ∃ z : Int32, z = (s.1 63) := ⟨_, rfl⟩
  have hT := hT y1 ey1
  refine x_istore_n (lo' := [some (.ref w.1), some (.int y1), none, none, none]) dX10_statement_4 rfl (Nat.le_of_ble_eq_true rfl) (by rw [ey1]; rfl) ?_
  refine x_aload_n dX10_statement_5 rfl rfl rfl ?_
  refine m_inv (vs := []) dX10_statement_6 oX10_wordHere q2574 q2572 qs73 rfl rfl (Nat.le_of_ble_eq_true rfl) rfl hW hF hT ?_
  rintro _ s2 ⟨v3, rfl, hT⟩ h hW hF
  refine x_istore_n (lo' := [some (.ref w.1), some (.int y1), some (.int v3), none, none]) dX10_statement_9 rfl (Nat.le_of_ble_eq_true rfl) rfl ?_
  refine x_aload_n dX10_statement_10 rfl rfl rfl ?_
  refine m_geti (v := (s2.1 62)) dX10_statement_11 f_TallySlateModel_276 (by decide) rfl hW rfl ?_
  refine x_iconst (v := 1) dX10_statement_14 rfl ?_
  refine x_icmp_ne (tgt := 38) dX10_statement_15 rfl (fun c => ?_) (fun c => ?_)
  · have hT := hT.1 c
    refine x_aload_n dX10_statement_38 rfl rfl rfl ?_
    refine m_inv (vs := []) dX10_statement_39 oX10_wrong q2562 q2560 qs70 rfl rfl (Nat.le_of_ble_eq_true rfl) rfl hW hF hT ?_
    rintro _ s4 ⟨rfl, hT⟩ h hW hF
    exact x_vret dX10_statement_42 rfl ⟨_, _, rfl, hW, hF, hT⟩
  · have hT := hT.2 c
    refine x_iload_n dX10_statement_18 rfl rfl ?_
    refine x_if_eq (tgt := 38) dX10_statement_19 rfl (fun c => ?_) (fun c => ?_)
    · have hT := hT.1 c
      refine x_aload_n dX10_statement_38 rfl rfl rfl ?_
      refine m_inv (vs := []) dX10_statement_39 oX10_wrong q2562 q2560 qs70 rfl rfl (Nat.le_of_ble_eq_true rfl) rfl hW hF hT ?_
      rintro _ s5 ⟨rfl, hT⟩ h hW hF
      exact x_vret dX10_statement_42 rfl ⟨_, _, rfl, hW, hF, hT⟩
    · have hT := hT.2 c
      refine x_iload_n dX10_statement_22 rfl rfl ?_
      refine x_iconst (v := 2) dX10_statement_23 rfl ?_
      refine x_icmp_eq (tgt := 38) dX10_statement_24 rfl (fun c => ?_) (fun c => ?_)
      · have hT := hT.1 c
        refine x_aload_n dX10_statement_38 rfl rfl rfl ?_
        refine m_inv (vs := []) dX10_statement_39 oX10_wrong q2562 q2560 qs70 rfl rfl (Nat.le_of_ble_eq_true rfl) rfl hW hF hT ?_
        rintro _ s6 ⟨rfl, hT⟩ h hW hF
        exact x_vret dX10_statement_42 rfl ⟨_, _, rfl, hW, hF, hT⟩
      · have hT := hT.2 c
        refine x_iload_n dX10_statement_27 rfl rfl ?_
        refine x_iconst (v := 5) dX10_statement_28 rfl ?_
        refine x_icmp_eq (tgt := 38) dX10_statement_29 rfl (fun c => ?_) (fun c => ?_)
        · have hT := hT.1 c
          refine x_aload_n dX10_statement_38 rfl rfl rfl ?_
          refine m_inv (vs := []) dX10_statement_39 oX10_wrong q2562 q2560 qs70 rfl rfl (Nat.le_of_ble_eq_true rfl) rfl hW hF hT ?_
          rintro _ s7 ⟨rfl, hT⟩ h hW hF
          exact x_vret dX10_statement_42 rfl ⟨_, _, rfl, hW, hF, hT⟩
        · have hT := hT.2 c
          refine x_iload_n dX10_statement_32 rfl rfl ?_
          refine x_bipush (v := 10) dX10_statement_33 rfl ?_
          refine x_icmp_ne (tgt := 43) dX10_statement_35 rfl (fun c => ?_) (fun c => ?_)
          · have hT := hT.1 c
            refine x_aload_n dX10_statement_43 rfl rfl rfl ?_
            refine x_iconst (v := 1) dX10_statement_44 rfl ?_
            refine x_iconst (v := 0) dX10_statement_45 rfl ?_
            refine x_iconst (v := 0) dX10_statement_46 rfl ?_
            refine x_iload_n dX10_statement_47 rfl rfl ?_
            refine m_inv (vs := [.int 1, .int 0, .int 0, .int y1]) dX10_statement_48 oX10_order q2610 q2608 qs81 rfl rfl (Nat.le_of_ble_eq_true rfl) rfl hW hF hT ?_
            rintro _ s8 ⟨v9, rfl, hT⟩ h hW hF
            refine x_pop dX10_statement_51 rfl ?_
            refine x_iload_n dX10_statement_52 rfl rfl ?_
            refine x_bipush (v := 11) dX10_statement_53 rfl ?_
            refine x_icmp_ge (tgt := 69) dX10_statement_55 rfl (fun c => ?_) (fun c => ?_)
            · have hT := hT.1 c
              refine x_aload_n dX10_statement_69 rfl rfl rfl ?_
              refine x_iconst (v := 1) dX10_statement_70 rfl ?_
              refine m_inv (vs := [.int 1]) dX10_statement_71 oX10_expression q2626 q2624 qs85 rfl rfl (Nat.le_of_ble_eq_true rfl) rfl hW hF hT ?_
              rintro _ s10 ⟨rfl, hT⟩ h hW hF
              refine x_aload_n dX10_statement_74 rfl rfl rfl ?_
              refine x_bipush (v := 59) dX10_statement_75 rfl ?_
              refine m_inv (vs := [.int 59]) dX10_statement_77 oX10_sign q2594 q2592 qs77 rfl rfl (Nat.le_of_ble_eq_true rfl) rfl hW hF hT ?_
              rintro _ s11 ⟨rfl, hT⟩ h hW hF
              refine x_aload_n dX10_statement_80 rfl rfl rfl ?_
              refine x_bipush (v := 22) dX10_statement_81 rfl ?_
              refine x_iconst (v := 0) dX10_statement_83 rfl ?_
              refine x_iconst (v := 0) dX10_statement_84 rfl ?_
              refine x_iload_n dX10_statement_85 rfl rfl ?_
              refine m_inv (vs := [.int 22, .int 0, .int 0, .int y1]) dX10_statement_86 oX10_order q2610 q2608 qs81 rfl rfl (Nat.le_of_ble_eq_true rfl) rfl hW hF hT ?_
              rintro _ s12 ⟨v13, rfl, hT⟩ h hW hF
              refine x_pop dX10_statement_89 rfl ?_
              refine x_goto (tgt := 318) dX10_statement_90 rfl ?_
              exact x_vret dX10_statement_318 rfl ⟨_, _, rfl, hW, hF, hT⟩
            · have hT := hT.2 c
              refine x_iload_n dX10_statement_58 rfl rfl ?_
              refine x_if_ge (tgt := 93) dX10_statement_59 rfl (fun c => ?_) (fun c => ?_)
              · have hT := hT.1 c
                exact hT h0 h hW hF
              · have hT := hT.2 c
                refine x_aload_n dX10_statement_62 rfl rfl rfl ?_
                refine m_inv (vs := []) dX10_statement_63 oX10_isBracketBehind q2622 q2620 qs84 rfl rfl (Nat.le_of_ble_eq_true rfl) rfl hW hF hT ?_
                rintro _ s14 ⟨v15, rfl, hT⟩ h hW hF
                refine x_if_eq (tgt := 93) dX10_statement_66 rfl (fun c => ?_) (fun c => ?_)
                · have hT := hT.1 c
                  exact hT h0 h hW hF
                · have hT := hT.2 c
                  refine x_aload_n dX10_statement_69 rfl rfl rfl ?_
                  refine x_iconst (v := 1) dX10_statement_70 rfl ?_
                  refine m_inv (vs := [.int 1]) dX10_statement_71 oX10_expression q2626 q2624 qs85 rfl rfl (Nat.le_of_ble_eq_true rfl) rfl hW hF hT ?_
                  rintro _ s16 ⟨rfl, hT⟩ h hW hF
                  refine x_aload_n dX10_statement_74 rfl rfl rfl ?_
                  refine x_bipush (v := 59) dX10_statement_75 rfl ?_
                  refine m_inv (vs := [.int 59]) dX10_statement_77 oX10_sign q2594 q2592 qs77 rfl rfl (Nat.le_of_ble_eq_true rfl) rfl hW hF hT ?_
                  rintro _ s17 ⟨rfl, hT⟩ h hW hF
                  refine x_aload_n dX10_statement_80 rfl rfl rfl ?_
                  refine x_bipush (v := 22) dX10_statement_81 rfl ?_
                  refine x_iconst (v := 0) dX10_statement_83 rfl ?_
                  refine x_iconst (v := 0) dX10_statement_84 rfl ?_
                  refine x_iload_n dX10_statement_85 rfl rfl ?_
                  refine m_inv (vs := [.int 22, .int 0, .int 0, .int y1]) dX10_statement_86 oX10_order q2610 q2608 qs81 rfl rfl (Nat.le_of_ble_eq_true rfl) rfl hW hF hT ?_
                  rintro _ s18 ⟨v19, rfl, hT⟩ h hW hF
                  refine x_pop dX10_statement_89 rfl ?_
                  refine x_goto (tgt := 318) dX10_statement_90 rfl ?_
                  exact x_vret dX10_statement_318 rfl ⟨_, _, rfl, hW, hF, hT⟩
          · have hT := hT.2 c
            refine x_aload_n dX10_statement_38 rfl rfl rfl ?_
            refine m_inv (vs := []) dX10_statement_39 oX10_wrong q2562 q2560 qs70 rfl rfl (Nat.le_of_ble_eq_true rfl) rfl hW hF hT ?_
            rintro _ s20 ⟨rfl, hT⟩ h hW hF
            exact x_vret dX10_statement_42 rfl ⟨_, _, rfl, hW, hF, hT⟩
theorem eX10_statement {l : Launch} {E : EN} {w : MO} {d : Nat} {s : MS} {Q : Option Value → MS → Prop}  (hst : l.stackTraces = false) (hT : (∀ y1 : Int32, y1 = (s.1 63) → (EvM l E w d MX10_wordHere [.ref w.1] s (fun r s2 => ∃ v3 : Int32, r = some (.int v3) ∧ ((¬ (s2.1 62) = 1 → (EvM l E w d MX10_wrong [.ref w.1] s2 (fun r s4 => r = none ∧ Q none s4))) ∧ ((s2.1 62) = 1 → ((v3 = 0 → (EvM l E w d MX10_wrong [.ref w.1] s2 (fun r s5 => r = none ∧ Q none s5))) ∧ (¬ v3 = 0 → ((v3 = 2 → (EvM l E w d MX10_wrong [.ref w.1] s2 (fun r s6 => r = none ∧ Q none s6))) ∧ (¬ v3 = 2 → ((v3 = 5 → (EvM l E w d MX10_wrong [.ref w.1] s2 (fun r s7 => r = none ∧ Q none s7))) ∧ (¬ v3 = 5 → ((¬ v3 = 10 → (EvM l E w d MX10_order [.ref w.1, .int 1, .int 0, .int 0, .int y1] s2 (fun r s8 => ∃ v9 : Int32, r = some (.int v9) ∧ ((11 ≤ v3 → (EvM l E w d MX10_expression [.ref w.1, .int 1] s8 (fun r s10 => r = none ∧ (EvM l E w d MX10_sign [.ref w.1, .int 59] s10 (fun r s11 => r = none ∧ (EvM l E w d MX10_order [.ref w.1, .int 22, .int 0, .int 0, .int y1] s11 (fun r s12 => ∃ v13 : Int32, r = some (.int v13) ∧ Q none s12))))))) ∧ (¬ 11 ≤ v3 → ((0 ≤ v3 → ExM l E w (d + 1) MX10_statement 93 [some (.ref w.1), some (.int y1), some (.int v3), none, none] [] s8 Q) ∧ (¬ 0 ≤ v3 → (EvM l E w d MX10_isBracketBehind [.ref w.1] s8 (fun r s14 => ∃ v15 : Int32, r = some (.int v15) ∧ ((v15 = 0 → ExM l E w (d + 1) MX10_statement 93 [some (.ref w.1), some (.int y1), some (.int v3), none, none] [] s14 Q) ∧ (¬ v15 = 0 → (EvM l E w d MX10_expression [.ref w.1, .int 1] s14 (fun r s16 => r = none ∧ (EvM l E w d MX10_sign [.ref w.1, .int 59] s16 (fun r s17 => r = none ∧ (EvM l E w d MX10_order [.ref w.1, .int 22, .int 0, .int 0, .int y1] s17 (fun r s18 => ∃ v19 : Int32, r = some (.int v19) ∧ Q none s18))))))))))))))))) ∧ (v3 = 10 → (EvM l E w d MX10_wrong [.ref w.1] s2 (fun r s20 => r = none ∧ Q none s20)))))))))))))))) : EvM l E w (d + 1) MX10_statement [.ref w.1] s Q :=
  EvM.of hst (by decide) (Nat.le_of_ble_eq_true rfl) (vX10_statement_0 hT)
set_option maxHeartbeats 16000000 in
theorem vX10_statement_93 {l : Launch} {E : EN} {w : MO} {d : Nat} {s : MS} {Q : Option Value → MS → Prop} {a1 : Int32} {a2 : Int32} (hT : ((0 ≤ a2 → ((a2 = 1 → (EvM l E w d MX10_take [.ref w.1] s (fun r s1 => r = none ∧ (EvM l E w d MX10_here [.ref w.1] s1 (fun r s2 => ∃ v3 : Int32, r = some (.int v3) ∧ ((¬ a2 = 3 → (EvM l E w d MX10_opens [.ref w.1, .int 40] s2 (fun r s4 => r = none ∧ (EvM l E w d MX10_expression [.ref w.1, .int 0] s4 (fun r s5 => r = none ∧ (EvM l E w d MX10_sign [.ref w.1, .int 41] s5 (fun r s6 => r = none ∧ (EvM l E w d MX10_order [.ref w.1, .int 14, .int 0, .int 0, .int a1] s6 (fun r s7 => ∃ v8 : Int32, r = some (.int v8) ∧ ((¬ a2 = 1 → (EvM l E w d MX10_block [.ref w.1, .int 3, .int v8, .int v3] s7 (fun r s9 => r = none ∧ Q none s9))) ∧ (a2 = 1 → (EvM l E w d MX10_block [.ref w.1, .int 1, .int v8, .int v3] s7 (fun r s10 => r = none ∧ Q none s10))))))))))))) ∧ (a2 = 3 → (EvM l E w d MX10_order [.ref w.1, .int 16, .int 0, .int 0, .int a1] s2 (fun r s11 => ∃ v12 : Int32, r = some (.int v12) ∧ (EvM l E w d MX10_opens [.ref w.1, .int 40] s11 (fun r s13 => r = none ∧ (EvM l E w d MX10_expression [.ref w.1, .int 0] s13 (fun r s14 => r = none ∧ (EvM l E w d MX10_sign [.ref w.1, .int 41] s14 (fun r s15 => r = none ∧ (EvM l E w d MX10_order [.ref w.1, .int 14, .int 0, .int 0, .int a1] s15 (fun r s16 => ∃ v17 : Int32, r = some (.int v17) ∧ ((¬ a2 = 1 → (EvM l E w d MX10_block [.ref w.1, .int 3, .int v17, .int v3] s16 (fun r s18 => r = none ∧ Q none s18))) ∧ (a2 = 1 → (EvM l E w d MX10_block [.ref w.1, .int 1, .int v17, .int v3] s16 (fun r s19 => r = none ∧ Q none s19))))))))))))))))))))) ∧ (¬ a2 = 1 → ((¬ a2 = 3 → ((¬ a2 = 4 → ((¬ a2 = 9 → (EvM l E w d MX10_take [.ref w.1] s (fun r s20 => r = none ∧ (EvM l E w d MX10_expression [.ref w.1, .int 0] s20 (fun r s21 => r = none ∧ (EvM l E w d MX10_sign [.ref w.1, .int 59] s21 (fun r s22 => r = none ∧ ((¬ a2 = 6 → ((¬ a2 = 7 → (EvM l E w d MX10_order [.ref w.1, .int 21, .int 0, .int 0, .int a1] s22 (fun r s23 => ∃ v24 : Int32, r = some (.int v24) ∧ Q none s23))) ∧ (a2 = 7 → (EvM l E w d MX10_order [.ref w.1, .int 20, .int 0, .int 0, .int a1] s22 (fun r s25 => ∃ v26 : Int32, r = some (.int v26) ∧ Q none s25))))) ∧ (a2 = 6 → (EvM l E w d MX10_order [.ref w.1, .int 19, .int 0, .int 0, .int a1] s22 (fun r s27 => ∃ v28 : Int32, r = some (.int v28) ∧ Q none s27))))))))))) ∧ (a2 = 9 → (EvM l E w d MX10_take [.ref w.1] s (fun r s29 => r = none ∧ (EvM l E w d MX10_order [.ref w.1, .int 23, .int 0, .int 0, .int 0] s29 (fun r s30 => ∃ v31 : Int32, r = some (.int v31) ∧ (EvM l E w d MX10_block [.ref w.1, .int 5, .int v31, .int 0] s30 (fun r s32 => r = none ∧ Q none s32))))))))) ∧ (a2 = 4 → (EvM l E w d MX10_take [.ref w.1] s (fun r s33 => r = none ∧ (EvM l E w d MX10_name [.ref w.1] s33 (fun r s34 => ∃ v35 : Int32, r = some (.int v35) ∧ (EvM l E w d MX10_word [.ref w.1, .int 5] s34 (fun r s36 => r = none ∧ (EvM l E w d MX10_expression [.ref w.1, .int 0] s36 (fun r s37 => r = none ∧ (EvM l E w d MX10_order [.ref w.1, .int 17, .int 0, .int 0, .int a1] s37 (fun r s38 => ∃ v39 : Int32, r = some (.int v39) ∧ (EvM l E w d MX10_order [.ref w.1, .int 18, .int 0, .int v35, .int a1] s38 (fun r s40 => ∃ v41 : Int32, r = some (.int v41) ∧ (EvM l E w d MX10_block [.ref w.1, .int 4, .int v41, .int v41] s40 (fun r s42 => r = none ∧ Q none s42))))))))))))))))) ∧ (a2 = 3 → (EvM l E w d MX10_take [.ref w.1] s (fun r s43 => r = none ∧ (EvM l E w d MX10_here [.ref w.1] s43 (fun r s44 => ∃ v45 : Int32, r = some (.int v45) ∧ ((¬ a2 = 3 → (EvM l E w d MX10_opens [.ref w.1, .int 40] s44 (fun r s46 => r = none ∧ (EvM l E w d MX10_expression [.ref w.1, .int 0] s46 (fun r s47 => r = none ∧ (EvM l E w d MX10_sign [.ref w.1, .int 41] s47 (fun r s48 => r = none ∧ (EvM l E w d MX10_order [.ref w.1, .int 14, .int 0, .int 0, .int a1] s48 (fun r s49 => ∃ v50 : Int32, r = some (.int v50) ∧ ((¬ a2 = 1 → (EvM l E w d MX10_block [.ref w.1, .int 3, .int v50, .int v45] s49 (fun r s51 => r = none ∧ Q none s51))) ∧ (a2 = 1 → (EvM l E w d MX10_block [.ref w.1, .int 1, .int v50, .int v45] s49 (fun r s52 => r = none ∧ Q none s52))))))))))))) ∧ (a2 = 3 → (EvM l E w d MX10_order [.ref w.1, .int 16, .int 0, .int 0, .int a1] s44 (fun r s53 => ∃ v54 : Int32, r = some (.int v54) ∧ (EvM l E w d MX10_opens [.ref w.1, .int 40] s53 (fun r s55 => r = none ∧ (EvM l E w d MX10_expression [.ref w.1, .int 0] s55 (fun r s56 => r = none ∧ (EvM l E w d MX10_sign [.ref w.1, .int 41] s56 (fun r s57 => r = none ∧ (EvM l E w d MX10_order [.ref w.1, .int 14, .int 0, .int 0, .int a1] s57 (fun r s58 => ∃ v59 : Int32, r = some (.int v59) ∧ ((¬ a2 = 1 → (EvM l E w d MX10_block [.ref w.1, .int 3, .int v59, .int v45] s58 (fun r s60 => r = none ∧ Q none s60))) ∧ (a2 = 1 → (EvM l E w d MX10_block [.ref w.1, .int 1, .int v59, .int v45] s58 (fun r s61 => r = none ∧ Q none s61))))))))))))))))))))))))) ∧ (¬ 0 ≤ a2 → (EvM l E w d MX10_puts [.ref w.1] s (fun r s62 => r = none ∧ Q none s62))))) : ExM l E w (d + 1) MX10_statement 93 [some (.ref w.1), some (.int a1), some (.int a2), none, none] [] s Q := by
  intro h0 h hW hF
  refine x_iload_n dX10_statement_93 rfl rfl ?_
  refine x_if_ge (tgt := 104) dX10_statement_94 rfl (fun c => ?_) (fun c => ?_)
  · have hT := hT.1 c
    refine x_iload_n dX10_statement_104 rfl rfl ?_
    refine x_iconst (v := 1) dX10_statement_105 rfl ?_
    refine x_icmp_eq (tgt := 114) dX10_statement_106 rfl (fun c => ?_) (fun c => ?_)
    · have hT := hT.1 c
      refine x_aload_n dX10_statement_114 rfl rfl rfl ?_
      refine m_inv (vs := []) dX10_statement_115 oX10_take q2558 q2556 qs69 rfl rfl (Nat.le_of_ble_eq_true rfl) rfl hW hF hT ?_
      rintro _ s1 ⟨rfl, hT⟩ h hW hF
      refine x_aload_n dX10_statement_118 rfl rfl rfl ?_
      refine m_inv (vs := []) dX10_statement_119 oX10_here q2598 q2596 qs78 rfl rfl (Nat.le_of_ble_eq_true rfl) rfl hW hF hT ?_
      rintro _ s2 ⟨v3, rfl, hT⟩ h hW hF
      refine x_istore_n (lo' := [some (.ref w.1), some (.int a1), some (.int a2), some (.int v3), none]) dX10_statement_122 rfl (Nat.le_of_ble_eq_true rfl) rfl ?_
      refine x_iload_n dX10_statement_123 rfl rfl ?_
      refine x_iconst (v := 3) dX10_statement_124 rfl ?_
      refine x_icmp_ne (tgt := 138) dX10_statement_125 rfl (fun c => ?_) (fun c => ?_)
      · have hT := hT.1 c
        refine x_aload_n dX10_statement_138 rfl rfl rfl ?_
        refine x_bipush (v := 40) dX10_statement_139 rfl ?_
        refine m_inv (vs := [.int 40]) dX10_statement_141 oX10_opens q2586 q2584 qs75 rfl rfl (Nat.le_of_ble_eq_true rfl) rfl hW hF hT ?_
        rintro _ s4 ⟨rfl, hT⟩ h hW hF
        refine x_aload_n dX10_statement_144 rfl rfl rfl ?_
        refine x_iconst (v := 0) dX10_statement_145 rfl ?_
        refine m_inv (vs := [.int 0]) dX10_statement_146 oX10_expression q2626 q2624 qs85 rfl rfl (Nat.le_of_ble_eq_true rfl) rfl hW hF hT ?_
        rintro _ s5 ⟨rfl, hT⟩ h hW hF
        refine x_aload_n dX10_statement_149 rfl rfl rfl ?_
        refine x_bipush (v := 41) dX10_statement_150 rfl ?_
        refine m_inv (vs := [.int 41]) dX10_statement_152 oX10_sign q2594 q2592 qs77 rfl rfl (Nat.le_of_ble_eq_true rfl) rfl hW hF hT ?_
        rintro _ s6 ⟨rfl, hT⟩ h hW hF
        refine x_aload_n dX10_statement_155 rfl rfl rfl ?_
        refine x_bipush (v := 14) dX10_statement_156 rfl ?_
        refine x_iconst (v := 0) dX10_statement_158 rfl ?_
        refine x_iconst (v := 0) dX10_statement_159 rfl ?_
        refine x_iload_n dX10_statement_160 rfl rfl ?_
        refine m_inv (vs := [.int 14, .int 0, .int 0, .int a1]) dX10_statement_161 oX10_order q2610 q2608 qs81 rfl rfl (Nat.le_of_ble_eq_true rfl) rfl hW hF hT ?_
        rintro _ s7 ⟨v8, rfl, hT⟩ h hW hF
        refine x_istore (lo' := [some (.ref w.1), some (.int a1), some (.int a2), some (.int v3), some (.int v8)]) dX10_statement_164 (Nat.le_of_ble_eq_true rfl) rfl ?_
        refine x_aload_n dX10_statement_166 rfl rfl rfl ?_
        refine x_iload_n dX10_statement_167 rfl rfl ?_
        refine x_iconst (v := 1) dX10_statement_168 rfl ?_
        refine x_icmp_ne (tgt := 176) dX10_statement_169 rfl (fun c => ?_) (fun c => ?_)
        · have hT := hT.1 c
          refine x_iconst (v := 3) dX10_statement_176 rfl ?_
          refine x_iload dX10_statement_177 rfl ?_
          refine x_iload_n dX10_statement_179 rfl rfl ?_
          refine m_inv (vs := [.int 3, .int v8, .int v3]) dX10_statement_180 oX10_block q2602 q2600 qs79 rfl rfl (Nat.le_of_ble_eq_true rfl) rfl hW hF hT ?_
          rintro _ s9 ⟨rfl, hT⟩ h hW hF
          refine x_goto (tgt := 318) dX10_statement_183 rfl ?_
          exact x_vret dX10_statement_318 rfl ⟨_, _, rfl, hW, hF, hT⟩
        · have hT := hT.2 c
          refine x_iconst (v := 1) dX10_statement_172 rfl ?_
          refine x_goto (tgt := 177) dX10_statement_173 rfl ?_
          refine x_iload dX10_statement_177 rfl ?_
          refine x_iload_n dX10_statement_179 rfl rfl ?_
          refine m_inv (vs := [.int 1, .int v8, .int v3]) dX10_statement_180 oX10_block q2602 q2600 qs79 rfl rfl (Nat.le_of_ble_eq_true rfl) rfl hW hF hT ?_
          rintro _ s10 ⟨rfl, hT⟩ h hW hF
          refine x_goto (tgt := 318) dX10_statement_183 rfl ?_
          exact x_vret dX10_statement_318 rfl ⟨_, _, rfl, hW, hF, hT⟩
      · have hT := hT.2 c
        refine x_aload_n dX10_statement_128 rfl rfl rfl ?_
        refine x_bipush (v := 16) dX10_statement_129 rfl ?_
        refine x_iconst (v := 0) dX10_statement_131 rfl ?_
        refine x_iconst (v := 0) dX10_statement_132 rfl ?_
        refine x_iload_n dX10_statement_133 rfl rfl ?_
        refine m_inv (vs := [.int 16, .int 0, .int 0, .int a1]) dX10_statement_134 oX10_order q2610 q2608 qs81 rfl rfl (Nat.le_of_ble_eq_true rfl) rfl hW hF hT ?_
        rintro _ s11 ⟨v12, rfl, hT⟩ h hW hF
        refine x_pop dX10_statement_137 rfl ?_
        refine x_aload_n dX10_statement_138 rfl rfl rfl ?_
        refine x_bipush (v := 40) dX10_statement_139 rfl ?_
        refine m_inv (vs := [.int 40]) dX10_statement_141 oX10_opens q2586 q2584 qs75 rfl rfl (Nat.le_of_ble_eq_true rfl) rfl hW hF hT ?_
        rintro _ s13 ⟨rfl, hT⟩ h hW hF
        refine x_aload_n dX10_statement_144 rfl rfl rfl ?_
        refine x_iconst (v := 0) dX10_statement_145 rfl ?_
        refine m_inv (vs := [.int 0]) dX10_statement_146 oX10_expression q2626 q2624 qs85 rfl rfl (Nat.le_of_ble_eq_true rfl) rfl hW hF hT ?_
        rintro _ s14 ⟨rfl, hT⟩ h hW hF
        refine x_aload_n dX10_statement_149 rfl rfl rfl ?_
        refine x_bipush (v := 41) dX10_statement_150 rfl ?_
        refine m_inv (vs := [.int 41]) dX10_statement_152 oX10_sign q2594 q2592 qs77 rfl rfl (Nat.le_of_ble_eq_true rfl) rfl hW hF hT ?_
        rintro _ s15 ⟨rfl, hT⟩ h hW hF
        refine x_aload_n dX10_statement_155 rfl rfl rfl ?_
        refine x_bipush (v := 14) dX10_statement_156 rfl ?_
        refine x_iconst (v := 0) dX10_statement_158 rfl ?_
        refine x_iconst (v := 0) dX10_statement_159 rfl ?_
        refine x_iload_n dX10_statement_160 rfl rfl ?_
        refine m_inv (vs := [.int 14, .int 0, .int 0, .int a1]) dX10_statement_161 oX10_order q2610 q2608 qs81 rfl rfl (Nat.le_of_ble_eq_true rfl) rfl hW hF hT ?_
        rintro _ s16 ⟨v17, rfl, hT⟩ h hW hF
        refine x_istore (lo' := [some (.ref w.1), some (.int a1), some (.int a2), some (.int v3), some (.int v17)]) dX10_statement_164 (Nat.le_of_ble_eq_true rfl) rfl ?_
        refine x_aload_n dX10_statement_166 rfl rfl rfl ?_
        refine x_iload_n dX10_statement_167 rfl rfl ?_
        refine x_iconst (v := 1) dX10_statement_168 rfl ?_
        refine x_icmp_ne (tgt := 176) dX10_statement_169 rfl (fun c => ?_) (fun c => ?_)
        · have hT := hT.1 c
          refine x_iconst (v := 3) dX10_statement_176 rfl ?_
          refine x_iload dX10_statement_177 rfl ?_
          refine x_iload_n dX10_statement_179 rfl rfl ?_
          refine m_inv (vs := [.int 3, .int v17, .int v3]) dX10_statement_180 oX10_block q2602 q2600 qs79 rfl rfl (Nat.le_of_ble_eq_true rfl) rfl hW hF hT ?_
          rintro _ s18 ⟨rfl, hT⟩ h hW hF
          refine x_goto (tgt := 318) dX10_statement_183 rfl ?_
          exact x_vret dX10_statement_318 rfl ⟨_, _, rfl, hW, hF, hT⟩
        · have hT := hT.2 c
          refine x_iconst (v := 1) dX10_statement_172 rfl ?_
          refine x_goto (tgt := 177) dX10_statement_173 rfl ?_
          refine x_iload dX10_statement_177 rfl ?_
          refine x_iload_n dX10_statement_179 rfl rfl ?_
          refine m_inv (vs := [.int 1, .int v17, .int v3]) dX10_statement_180 oX10_block q2602 q2600 qs79 rfl rfl (Nat.le_of_ble_eq_true rfl) rfl hW hF hT ?_
          rintro _ s19 ⟨rfl, hT⟩ h hW hF
          refine x_goto (tgt := 318) dX10_statement_183 rfl ?_
          exact x_vret dX10_statement_318 rfl ⟨_, _, rfl, hW, hF, hT⟩
    · have hT := hT.2 c
      refine x_iload_n dX10_statement_109 rfl rfl ?_
      refine x_iconst (v := 3) dX10_statement_110 rfl ?_
      refine x_icmp_ne (tgt := 186) dX10_statement_111 rfl (fun c => ?_) (fun c => ?_)
      · have hT := hT.1 c
        refine x_iload_n dX10_statement_186 rfl rfl ?_
        refine x_iconst (v := 4) dX10_statement_187 rfl ?_
        refine x_icmp_ne (tgt := 243) dX10_statement_188 rfl (fun c => ?_) (fun c => ?_)
        · have hT := hT.1 c
          refine x_iload_n dX10_statement_243 rfl rfl ?_
          refine x_bipush (v := 9) dX10_statement_244 rfl ?_
          refine x_icmp_ne (tgt := 271) dX10_statement_246 rfl (fun c => ?_) (fun c => ?_)
          · have hT := hT.1 c
            refine x_aload_n dX10_statement_271 rfl rfl rfl ?_
            refine m_inv (vs := []) dX10_statement_272 oX10_take q2558 q2556 qs69 rfl rfl (Nat.le_of_ble_eq_true rfl) rfl hW hF hT ?_
            rintro _ s20 ⟨rfl, hT⟩ h hW hF
            refine x_aload_n dX10_statement_275 rfl rfl rfl ?_
            refine x_iconst (v := 0) dX10_statement_276 rfl ?_
            refine m_inv (vs := [.int 0]) dX10_statement_277 oX10_expression q2626 q2624 qs85 rfl rfl (Nat.le_of_ble_eq_true rfl) rfl hW hF hT ?_
            rintro _ s21 ⟨rfl, hT⟩ h hW hF
            refine x_aload_n dX10_statement_280 rfl rfl rfl ?_
            refine x_bipush (v := 59) dX10_statement_281 rfl ?_
            refine m_inv (vs := [.int 59]) dX10_statement_283 oX10_sign q2594 q2592 qs77 rfl rfl (Nat.le_of_ble_eq_true rfl) rfl hW hF hT ?_
            rintro _ s22 ⟨rfl, hT⟩ h hW hF
            refine x_aload_n dX10_statement_286 rfl rfl rfl ?_
            refine x_iload_n dX10_statement_287 rfl rfl ?_
            refine x_bipush (v := 6) dX10_statement_288 rfl ?_
            refine x_icmp_ne (tgt := 298) dX10_statement_290 rfl (fun c => ?_) (fun c => ?_)
            · have hT := hT.1 c
              refine x_iload_n dX10_statement_298 rfl rfl ?_
              refine x_bipush (v := 7) dX10_statement_299 rfl ?_
              refine x_icmp_ne (tgt := 309) dX10_statement_301 rfl (fun c => ?_) (fun c => ?_)
              · have hT := hT.1 c
                refine x_bipush (v := 21) dX10_statement_309 rfl ?_
                refine x_iconst (v := 0) dX10_statement_311 rfl ?_
                refine x_iconst (v := 0) dX10_statement_312 rfl ?_
                refine x_iload_n dX10_statement_313 rfl rfl ?_
                refine m_inv (vs := [.int 21, .int 0, .int 0, .int a1]) dX10_statement_314 oX10_order q2610 q2608 qs81 rfl rfl (Nat.le_of_ble_eq_true rfl) rfl hW hF hT ?_
                rintro _ s23 ⟨v24, rfl, hT⟩ h hW hF
                refine x_pop dX10_statement_317 rfl ?_
                exact x_vret dX10_statement_318 rfl ⟨_, _, rfl, hW, hF, hT⟩
              · have hT := hT.2 c
                refine x_bipush (v := 20) dX10_statement_304 rfl ?_
                refine x_goto (tgt := 311) dX10_statement_306 rfl ?_
                refine x_iconst (v := 0) dX10_statement_311 rfl ?_
                refine x_iconst (v := 0) dX10_statement_312 rfl ?_
                refine x_iload_n dX10_statement_313 rfl rfl ?_
                refine m_inv (vs := [.int 20, .int 0, .int 0, .int a1]) dX10_statement_314 oX10_order q2610 q2608 qs81 rfl rfl (Nat.le_of_ble_eq_true rfl) rfl hW hF hT ?_
                rintro _ s25 ⟨v26, rfl, hT⟩ h hW hF
                refine x_pop dX10_statement_317 rfl ?_
                exact x_vret dX10_statement_318 rfl ⟨_, _, rfl, hW, hF, hT⟩
            · have hT := hT.2 c
              refine x_bipush (v := 19) dX10_statement_293 rfl ?_
              refine x_goto (tgt := 311) dX10_statement_295 rfl ?_
              refine x_iconst (v := 0) dX10_statement_311 rfl ?_
              refine x_iconst (v := 0) dX10_statement_312 rfl ?_
              refine x_iload_n dX10_statement_313 rfl rfl ?_
              refine m_inv (vs := [.int 19, .int 0, .int 0, .int a1]) dX10_statement_314 oX10_order q2610 q2608 qs81 rfl rfl (Nat.le_of_ble_eq_true rfl) rfl hW hF hT ?_
              rintro _ s27 ⟨v28, rfl, hT⟩ h hW hF
              refine x_pop dX10_statement_317 rfl ?_
              exact x_vret dX10_statement_318 rfl ⟨_, _, rfl, hW, hF, hT⟩
          · have hT := hT.2 c
            refine x_aload_n dX10_statement_249 rfl rfl rfl ?_
            refine m_inv (vs := []) dX10_statement_250 oX10_take q2558 q2556 qs69 rfl rfl (Nat.le_of_ble_eq_true rfl) rfl hW hF hT ?_
            rintro _ s29 ⟨rfl, hT⟩ h hW hF
            refine x_aload_n dX10_statement_253 rfl rfl rfl ?_
            refine x_iconst (v := 5) dX10_statement_254 rfl ?_
            refine x_aload_n dX10_statement_255 rfl rfl rfl ?_
            refine x_bipush (v := 23) dX10_statement_256 rfl ?_
            refine x_iconst (v := 0) dX10_statement_258 rfl ?_
            refine x_iconst (v := 0) dX10_statement_259 rfl ?_
            refine x_iconst (v := 0) dX10_statement_260 rfl ?_
            refine m_inv (vs := [.int 23, .int 0, .int 0, .int 0]) dX10_statement_261 oX10_order q2610 q2608 qs81 rfl rfl (Nat.le_of_ble_eq_true rfl) rfl hW hF hT ?_
            rintro _ s30 ⟨v31, rfl, hT⟩ h hW hF
            refine x_iconst (v := 0) dX10_statement_264 rfl ?_
            refine m_inv (vs := [.int 5, .int v31, .int 0]) dX10_statement_265 oX10_block q2602 q2600 qs79 rfl rfl (Nat.le_of_ble_eq_true rfl) rfl hW hF hT ?_
            rintro _ s32 ⟨rfl, hT⟩ h hW hF
            refine x_goto (tgt := 318) dX10_statement_268 rfl ?_
            exact x_vret dX10_statement_318 rfl ⟨_, _, rfl, hW, hF, hT⟩
        · have hT := hT.2 c
          refine x_aload_n dX10_statement_191 rfl rfl rfl ?_
          refine m_inv (vs := []) dX10_statement_192 oX10_take q2558 q2556 qs69 rfl rfl (Nat.le_of_ble_eq_true rfl) rfl hW hF hT ?_
          rintro _ s33 ⟨rfl, hT⟩ h hW hF
          refine x_aload_n dX10_statement_195 rfl rfl rfl ?_
          refine m_inv (vs := []) dX10_statement_196 oX10_name q2614 q2612 qs82 rfl rfl (Nat.le_of_ble_eq_true rfl) rfl hW hF hT ?_
          rintro _ s34 ⟨v35, rfl, hT⟩ h hW hF
          refine x_istore_n (lo' := [some (.ref w.1), some (.int a1), some (.int a2), some (.int v35), none]) dX10_statement_199 rfl (Nat.le_of_ble_eq_true rfl) rfl ?_
          refine x_aload_n dX10_statement_200 rfl rfl rfl ?_
          refine x_iconst (v := 5) dX10_statement_201 rfl ?_
          refine m_inv (vs := [.int 5]) dX10_statement_202 oX10_word q2550 q2548 qs67 rfl rfl (Nat.le_of_ble_eq_true rfl) rfl hW hF hT ?_
          rintro _ s36 ⟨rfl, hT⟩ h hW hF
          refine x_aload_n dX10_statement_205 rfl rfl rfl ?_
          refine x_iconst (v := 0) dX10_statement_206 rfl ?_
          refine m_inv (vs := [.int 0]) dX10_statement_207 oX10_expression q2626 q2624 qs85 rfl rfl (Nat.le_of_ble_eq_true rfl) rfl hW hF hT ?_
          rintro _ s37 ⟨rfl, hT⟩ h hW hF
          refine x_aload_n dX10_statement_210 rfl rfl rfl ?_
          refine x_bipush (v := 17) dX10_statement_211 rfl ?_
          refine x_iconst (v := 0) dX10_statement_213 rfl ?_
          refine x_iconst (v := 0) dX10_statement_214 rfl ?_
          refine x_iload_n dX10_statement_215 rfl rfl ?_
          refine m_inv (vs := [.int 17, .int 0, .int 0, .int a1]) dX10_statement_216 oX10_order q2610 q2608 qs81 rfl rfl (Nat.le_of_ble_eq_true rfl) rfl hW hF hT ?_
          rintro _ s38 ⟨v39, rfl, hT⟩ h hW hF
          refine x_pop dX10_statement_219 rfl ?_
          refine x_aload_n dX10_statement_220 rfl rfl rfl ?_
          refine x_bipush (v := 18) dX10_statement_221 rfl ?_
          refine x_iconst (v := 0) dX10_statement_223 rfl ?_
          refine x_iload_n dX10_statement_224 rfl rfl ?_
          refine x_iload_n dX10_statement_225 rfl rfl ?_
          refine m_inv (vs := [.int 18, .int 0, .int v35, .int a1]) dX10_statement_226 oX10_order q2610 q2608 qs81 rfl rfl (Nat.le_of_ble_eq_true rfl) rfl hW hF hT ?_
          rintro _ s40 ⟨v41, rfl, hT⟩ h hW hF
          refine x_istore (lo' := [some (.ref w.1), some (.int a1), some (.int a2), some (.int v35), some (.int v41)]) dX10_statement_229 (Nat.le_of_ble_eq_true rfl) rfl ?_
          refine x_aload_n dX10_statement_231 rfl rfl rfl ?_
          refine x_iconst (v := 4) dX10_statement_232 rfl ?_
          refine x_iload dX10_statement_233 rfl ?_
          refine x_iload dX10_statement_235 rfl ?_
          refine m_inv (vs := [.int 4, .int v41, .int v41]) dX10_statement_237 oX10_block q2602 q2600 qs79 rfl rfl (Nat.le_of_ble_eq_true rfl) rfl hW hF hT ?_
          rintro _ s42 ⟨rfl, hT⟩ h hW hF
          refine x_goto (tgt := 318) dX10_statement_240 rfl ?_
          exact x_vret dX10_statement_318 rfl ⟨_, _, rfl, hW, hF, hT⟩
      · have hT := hT.2 c
        refine x_aload_n dX10_statement_114 rfl rfl rfl ?_
        refine m_inv (vs := []) dX10_statement_115 oX10_take q2558 q2556 qs69 rfl rfl (Nat.le_of_ble_eq_true rfl) rfl hW hF hT ?_
        rintro _ s43 ⟨rfl, hT⟩ h hW hF
        refine x_aload_n dX10_statement_118 rfl rfl rfl ?_
        refine m_inv (vs := []) dX10_statement_119 oX10_here q2598 q2596 qs78 rfl rfl (Nat.le_of_ble_eq_true rfl) rfl hW hF hT ?_
        rintro _ s44 ⟨v45, rfl, hT⟩ h hW hF
        refine x_istore_n (lo' := [some (.ref w.1), some (.int a1), some (.int a2), some (.int v45), none]) dX10_statement_122 rfl (Nat.le_of_ble_eq_true rfl) rfl ?_
        refine x_iload_n dX10_statement_123 rfl rfl ?_
        refine x_iconst (v := 3) dX10_statement_124 rfl ?_
        refine x_icmp_ne (tgt := 138) dX10_statement_125 rfl (fun c => ?_) (fun c => ?_)
        · have hT := hT.1 c
          refine x_aload_n dX10_statement_138 rfl rfl rfl ?_
          refine x_bipush (v := 40) dX10_statement_139 rfl ?_
          refine m_inv (vs := [.int 40]) dX10_statement_141 oX10_opens q2586 q2584 qs75 rfl rfl (Nat.le_of_ble_eq_true rfl) rfl hW hF hT ?_
          rintro _ s46 ⟨rfl, hT⟩ h hW hF
          refine x_aload_n dX10_statement_144 rfl rfl rfl ?_
          refine x_iconst (v := 0) dX10_statement_145 rfl ?_
          refine m_inv (vs := [.int 0]) dX10_statement_146 oX10_expression q2626 q2624 qs85 rfl rfl (Nat.le_of_ble_eq_true rfl) rfl hW hF hT ?_
          rintro _ s47 ⟨rfl, hT⟩ h hW hF
          refine x_aload_n dX10_statement_149 rfl rfl rfl ?_
          refine x_bipush (v := 41) dX10_statement_150 rfl ?_
          refine m_inv (vs := [.int 41]) dX10_statement_152 oX10_sign q2594 q2592 qs77 rfl rfl (Nat.le_of_ble_eq_true rfl) rfl hW hF hT ?_
          rintro _ s48 ⟨rfl, hT⟩ h hW hF
          refine x_aload_n dX10_statement_155 rfl rfl rfl ?_
          refine x_bipush (v := 14) dX10_statement_156 rfl ?_
          refine x_iconst (v := 0) dX10_statement_158 rfl ?_
          refine x_iconst (v := 0) dX10_statement_159 rfl ?_
          refine x_iload_n dX10_statement_160 rfl rfl ?_
          refine m_inv (vs := [.int 14, .int 0, .int 0, .int a1]) dX10_statement_161 oX10_order q2610 q2608 qs81 rfl rfl (Nat.le_of_ble_eq_true rfl) rfl hW hF hT ?_
          rintro _ s49 ⟨v50, rfl, hT⟩ h hW hF
          refine x_istore (lo' := [some (.ref w.1), some (.int a1), some (.int a2), some (.int v45), some (.int v50)]) dX10_statement_164 (Nat.le_of_ble_eq_true rfl) rfl ?_
          refine x_aload_n dX10_statement_166 rfl rfl rfl ?_
          refine x_iload_n dX10_statement_167 rfl rfl ?_
          refine x_iconst (v := 1) dX10_statement_168 rfl ?_
          refine x_icmp_ne (tgt := 176) dX10_statement_169 rfl (fun c => ?_) (fun c => ?_)
          · have hT := hT.1 c
            refine x_iconst (v := 3) dX10_statement_176 rfl ?_
            refine x_iload dX10_statement_177 rfl ?_
            refine x_iload_n dX10_statement_179 rfl rfl ?_
            refine m_inv (vs := [.int 3, .int v50, .int v45]) dX10_statement_180 oX10_block q2602 q2600 qs79 rfl rfl (Nat.le_of_ble_eq_true rfl) rfl hW hF hT ?_
            rintro _ s51 ⟨rfl, hT⟩ h hW hF
            refine x_goto (tgt := 318) dX10_statement_183 rfl ?_
            exact x_vret dX10_statement_318 rfl ⟨_, _, rfl, hW, hF, hT⟩
          · have hT := hT.2 c
            refine x_iconst (v := 1) dX10_statement_172 rfl ?_
            refine x_goto (tgt := 177) dX10_statement_173 rfl ?_
            refine x_iload dX10_statement_177 rfl ?_
            refine x_iload_n dX10_statement_179 rfl rfl ?_
            refine m_inv (vs := [.int 1, .int v50, .int v45]) dX10_statement_180 oX10_block q2602 q2600 qs79 rfl rfl (Nat.le_of_ble_eq_true rfl) rfl hW hF hT ?_
            rintro _ s52 ⟨rfl, hT⟩ h hW hF
            refine x_goto (tgt := 318) dX10_statement_183 rfl ?_
            exact x_vret dX10_statement_318 rfl ⟨_, _, rfl, hW, hF, hT⟩
        · have hT := hT.2 c
          refine x_aload_n dX10_statement_128 rfl rfl rfl ?_
          refine x_bipush (v := 16) dX10_statement_129 rfl ?_
          refine x_iconst (v := 0) dX10_statement_131 rfl ?_
          refine x_iconst (v := 0) dX10_statement_132 rfl ?_
          refine x_iload_n dX10_statement_133 rfl rfl ?_
          refine m_inv (vs := [.int 16, .int 0, .int 0, .int a1]) dX10_statement_134 oX10_order q2610 q2608 qs81 rfl rfl (Nat.le_of_ble_eq_true rfl) rfl hW hF hT ?_
          rintro _ s53 ⟨v54, rfl, hT⟩ h hW hF
          refine x_pop dX10_statement_137 rfl ?_
          refine x_aload_n dX10_statement_138 rfl rfl rfl ?_
          refine x_bipush (v := 40) dX10_statement_139 rfl ?_
          refine m_inv (vs := [.int 40]) dX10_statement_141 oX10_opens q2586 q2584 qs75 rfl rfl (Nat.le_of_ble_eq_true rfl) rfl hW hF hT ?_
          rintro _ s55 ⟨rfl, hT⟩ h hW hF
          refine x_aload_n dX10_statement_144 rfl rfl rfl ?_
          refine x_iconst (v := 0) dX10_statement_145 rfl ?_
          refine m_inv (vs := [.int 0]) dX10_statement_146 oX10_expression q2626 q2624 qs85 rfl rfl (Nat.le_of_ble_eq_true rfl) rfl hW hF hT ?_
          rintro _ s56 ⟨rfl, hT⟩ h hW hF
          refine x_aload_n dX10_statement_149 rfl rfl rfl ?_
          refine x_bipush (v := 41) dX10_statement_150 rfl ?_
          refine m_inv (vs := [.int 41]) dX10_statement_152 oX10_sign q2594 q2592 qs77 rfl rfl (Nat.le_of_ble_eq_true rfl) rfl hW hF hT ?_
          rintro _ s57 ⟨rfl, hT⟩ h hW hF
          refine x_aload_n dX10_statement_155 rfl rfl rfl ?_
          refine x_bipush (v := 14) dX10_statement_156 rfl ?_
          refine x_iconst (v := 0) dX10_statement_158 rfl ?_
          refine x_iconst (v := 0) dX10_statement_159 rfl ?_
          refine x_iload_n dX10_statement_160 rfl rfl ?_
          refine m_inv (vs := [.int 14, .int 0, .int 0, .int a1]) dX10_statement_161 oX10_order q2610 q2608 qs81 rfl rfl (Nat.le_of_ble_eq_true rfl) rfl hW hF hT ?_
          rintro _ s58 ⟨v59, rfl, hT⟩ h hW hF
          refine x_istore (lo' := [some (.ref w.1), some (.int a1), some (.int a2), some (.int v45), some (.int v59)]) dX10_statement_164 (Nat.le_of_ble_eq_true rfl) rfl ?_
          refine x_aload_n dX10_statement_166 rfl rfl rfl ?_
          refine x_iload_n dX10_statement_167 rfl rfl ?_
          refine x_iconst (v := 1) dX10_statement_168 rfl ?_
          refine x_icmp_ne (tgt := 176) dX10_statement_169 rfl (fun c => ?_) (fun c => ?_)
          · have hT := hT.1 c
            refine x_iconst (v := 3) dX10_statement_176 rfl ?_
            refine x_iload dX10_statement_177 rfl ?_
            refine x_iload_n dX10_statement_179 rfl rfl ?_
            refine m_inv (vs := [.int 3, .int v59, .int v45]) dX10_statement_180 oX10_block q2602 q2600 qs79 rfl rfl (Nat.le_of_ble_eq_true rfl) rfl hW hF hT ?_
            rintro _ s60 ⟨rfl, hT⟩ h hW hF
            refine x_goto (tgt := 318) dX10_statement_183 rfl ?_
            exact x_vret dX10_statement_318 rfl ⟨_, _, rfl, hW, hF, hT⟩
          · have hT := hT.2 c
            refine x_iconst (v := 1) dX10_statement_172 rfl ?_
            refine x_goto (tgt := 177) dX10_statement_173 rfl ?_
            refine x_iload dX10_statement_177 rfl ?_
            refine x_iload_n dX10_statement_179 rfl rfl ?_
            refine m_inv (vs := [.int 1, .int v59, .int v45]) dX10_statement_180 oX10_block q2602 q2600 qs79 rfl rfl (Nat.le_of_ble_eq_true rfl) rfl hW hF hT ?_
            rintro _ s61 ⟨rfl, hT⟩ h hW hF
            refine x_goto (tgt := 318) dX10_statement_183 rfl ?_
            exact x_vret dX10_statement_318 rfl ⟨_, _, rfl, hW, hF, hT⟩
  · have hT := hT.2 c
    refine x_aload_n dX10_statement_97 rfl rfl rfl ?_
    refine m_inv (vs := []) dX10_statement_98 oX10_puts q2669 q2667 qs95 rfl rfl (Nat.le_of_ble_eq_true rfl) rfl hW hF hT ?_
    rintro _ s62 ⟨rfl, hT⟩ h hW hF
    refine x_goto (tgt := 318) dX10_statement_101 rfl ?_
    exact x_vret dX10_statement_318 rfl ⟨_, _, rfl, hW, hF, hT⟩
theorem vX10_isBracketBehind_0 {l : Launch} {E : EN} {w : MO} {d : Nat} {s : MS} {Q : Option Value → MS → Prop}  (hT : (EvM l E w d MX10_begin [.ref w.1, .int (s.1 65)] s (fun r s1 => ∃ v2 : Int32, r = some (.int v2) ∧ (EvM l E w d MX10_byteAt [.ref w.1, .int v2] s1 (fun r s3 => ∃ v4 : Int32, r = some (.int v4) ∧ ((¬ v4 = 40 → Q (some (.int 0)) s3) ∧ (v4 = 40 → Q (some (.int 1)) s3))))))) : ExM l E w (d + 1) MX10_isBracketBehind 0 [some (.ref w.1)] [] s Q := by
  intro h0 h hW hF
  refine x_aload_n dX10_isBracketBehind_0 rfl rfl rfl ?_
  refine x_aload_n dX10_isBracketBehind_1 rfl rfl rfl ?_
  refine x_aload_n dX10_isBracketBehind_2 rfl rfl rfl ?_
  refine m_geti (v := (s.1 65)) dX10_isBracketBehind_3 f_TallySlateModel_299 (by decide) rfl hW rfl ?_
  refine m_inv (vs := [.int (s.1 65)]) dX10_isBracketBehind_6 oX10_begin q2520 q2518 qs63 rfl rfl (Nat.le_of_ble_eq_true rfl) rfl hW hF hT ?_
  rintro _ s1 ⟨v2, rfl, hT⟩ h hW hF
  refine m_inv (vs := [.int v2]) dX10_isBracketBehind_9 oX10_byteAt q2524 q2522 qs64 rfl rfl (Nat.le_of_ble_eq_true rfl) rfl hW hF hT ?_
  rintro _ s3 ⟨v4, rfl, hT⟩ h hW hF
  refine x_bipush (v := 40) dX10_isBracketBehind_12 rfl ?_
  refine x_icmp_ne (tgt := 21) dX10_isBracketBehind_14 rfl (fun c => ?_) (fun c => ?_)
  · have hT := hT.1 c
    refine x_iconst (v := 0) dX10_isBracketBehind_21 rfl ?_
    exact x_iret dX10_isBracketBehind_22 rfl rfl ⟨_, _, rfl, hW, hF, hT⟩
  · have hT := hT.2 c
    refine x_iconst (v := 1) dX10_isBracketBehind_17 rfl ?_
    refine x_goto (tgt := 22) dX10_isBracketBehind_18 rfl ?_
    exact x_iret dX10_isBracketBehind_22 rfl rfl ⟨_, _, rfl, hW, hF, hT⟩
theorem eX10_isBracketBehind {l : Launch} {E : EN} {w : MO} {d : Nat} {s : MS} {Q : Option Value → MS → Prop}  (hst : l.stackTraces = false) (hT : (EvM l E w d MX10_begin [.ref w.1, .int (s.1 65)] s (fun r s1 => ∃ v2 : Int32, r = some (.int v2) ∧ (EvM l E w d MX10_byteAt [.ref w.1, .int v2] s1 (fun r s3 => ∃ v4 : Int32, r = some (.int v4) ∧ ((¬ v4 = 40 → Q (some (.int 0)) s3) ∧ (v4 = 40 → Q (some (.int 1)) s3))))))) : EvM l E w (d + 1) MX10_isBracketBehind [.ref w.1] s Q :=
  EvM.of hst (by decide) (Nat.le_of_ble_eq_true rfl) (vX10_isBracketBehind_0 hT)
theorem vX10_expression_0 {l : Launch} {E : EN} {w : MO} {d : Nat} {s : MS} {Q : Option Value → MS → Prop} {x1 : Int32} (hT : ExM l E w (d + 1) MX10_expression 7 [some (.ref w.1), some (.int x1), some (.int 0), none] [] (sI s 101 0) Q) : ExM l E w (d + 1) MX10_expression 0 [some (.ref w.1), some (.int x1), none, none] [] s Q := by
  intro h0 h hW hF
  refine x_aload_n dX10_expression_0 rfl rfl rfl ?_
  refine x_iconst (v := 0) dX10_expression_1 rfl ?_
  refine m_puti dX10_expression_2 f_TallySlateModel_413 (by decide) rfl rfl rfl rfl hW hF ?_
  intro h hW hF
  refine x_iconst (v := 0) dX10_expression_5 rfl ?_
  refine x_istore_n (lo' := [some (.ref w.1), some (.int x1), some (.int 0), none]) dX10_expression_6 rfl (Nat.le_of_ble_eq_true rfl) rfl ?_
  exact hT h0 h hW hF
theorem eX10_expression {l : Launch} {E : EN} {w : MO} {d : Nat} {s : MS} {Q : Option Value → MS → Prop} {x1 : Int32} (hst : l.stackTraces = false) (hT : ExM l E w (d + 1) MX10_expression 7 [some (.ref w.1), some (.int x1), some (.int 0), none] [] (sI s 101 0) Q) : EvM l E w (d + 1) MX10_expression [.ref w.1, .int x1] s Q :=
  EvM.of hst (by decide) (Nat.le_of_ble_eq_true rfl) (vX10_expression_0 hT)
set_option maxHeartbeats 16000000 in
theorem vX10_expression_7 {l : Launch} {E : EN} {w : MO} {d : Nat} {s : MS} {Q : Option Value → MS → Prop} {a1 : Int32} {a2 : Int32} (hT : ((¬ (s.1 66) = 0 → Q none s) ∧ ((s.1 66) = 0 → ((¬ a2 = 0 → ((a1 = 0 → (EvM l E w d MX10_isSign [.ref w.1, .int 91] s (fun r s1 => ∃ v2 : Int32, r = some (.int v2) ∧ ((v2 = 0 → (EvM l E w d MX10_isWaiting [.ref w.1, .int 2] s1 (fun r s3 => ∃ v4 : Int32, r = some (.int v4) ∧ ((v4 = 0 → ((¬ (s3.1 62) = 3 → ExM l E w (d + 1) MX10_expression 152 [some (.ref w.1), some (.int a1), none, some (.int (-1))] [] s3 Q) ∧ ((s3.1 62) = 3 → (EvM l E w d MX10_levelOf [.int (s3.2.1 64).toInt32] s3 (fun r s5 => ∃ v6 : Int32, r = some (.int v6) ∧ ((v6 < 0 → ExM l E w (d + 1) MX10_expression 152 [some (.ref w.1), some (.int a1), none, some (.int v6)] [] s5 Q) ∧ (¬ v6 < 0 → ((¬ v6 = 1 → (EvM l E w d MX10_reduce [.ref w.1, .int v6] s5 (fun r s7 => r = none ∧ ExM l E w (d + 1) MX10_expression 152 [some (.ref w.1), some (.int a1), none, some (.int v6)] [] s7 Q))) ∧ (v6 = 1 → (EvM l E w d MX10_reduce [.ref w.1, .int 2] s5 (fun r s8 => r = none ∧ ExM l E w (d + 1) MX10_expression 152 [some (.ref w.1), some (.int a1), none, some (.int v6)] [] s8 Q))))))))))) ∧ (¬ v4 = 0 → (inB ((s3.1 101) - 1) 80 ∧ (inB ((s3.1 101) - 1) 80 ∧ (EvM l E w d MX10_order [.ref w.1, .int 4, .int (s3.2.2.1 96 ((s3.1 101) - 1).toNatClampNeg), .int 0, .int (s3.2.2.1 98 ((s3.1 101) - 1).toNatClampNeg)] (sI s3 101 ((s3.1 101) - 1)) (fun r s9 => ∃ v10 : Int32, r = some (.int v10) ∧ ((¬ (s9.1 62) = 3 → ExM l E w (d + 1) MX10_expression 152 [some (.ref w.1), some (.int a1), none, some (.int (-1))] [] s9 Q) ∧ ((s9.1 62) = 3 → (EvM l E w d MX10_levelOf [.int (s9.2.1 64).toInt32] s9 (fun r s11 => ∃ v12 : Int32, r = some (.int v12) ∧ ((v12 < 0 → ExM l E w (d + 1) MX10_expression 152 [some (.ref w.1), some (.int a1), none, some (.int v12)] [] s11 Q) ∧ (¬ v12 < 0 → ((¬ v12 = 1 → (EvM l E w d MX10_reduce [.ref w.1, .int v12] s11 (fun r s13 => r = none ∧ ExM l E w (d + 1) MX10_expression 152 [some (.ref w.1), some (.int a1), none, some (.int v12)] [] s13 Q))) ∧ (v12 = 1 → (EvM l E w d MX10_reduce [.ref w.1, .int 2] s11 (fun r s14 => r = none ∧ ExM l E w (d + 1) MX10_expression 152 [some (.ref w.1), some (.int a1), none, some (.int v12)] [] s14 Q))))))))))))))))))) ∧ (¬ v2 = 0 → (∀ y15 : Int32, y15 = (s1.1 63) → (EvM l E w d MX10_opens [.ref w.1, .int 91] s1 (fun r s16 => r = none ∧ (EvM l E w d MX10_wait [.ref w.1, .int 4, .int 0, .int y15] s16 (fun r s17 => r = none ∧ ExM l E w (d + 1) MX10_expression 7 [some (.ref w.1), some (.int a1), some (.int 0), none] [] s17 Q)))))))))) ∧ (¬ a1 = 0 → ((¬ (s.1 101) = 0 → (EvM l E w d MX10_isSign [.ref w.1, .int 91] s (fun r s18 => ∃ v19 : Int32, r = some (.int v19) ∧ ((v19 = 0 → (EvM l E w d MX10_isWaiting [.ref w.1, .int 2] s18 (fun r s20 => ∃ v21 : Int32, r = some (.int v21) ∧ ((v21 = 0 → ((¬ (s20.1 62) = 3 → ExM l E w (d + 1) MX10_expression 152 [some (.ref w.1), some (.int a1), none, some (.int (-1))] [] s20 Q) ∧ ((s20.1 62) = 3 → (EvM l E w d MX10_levelOf [.int (s20.2.1 64).toInt32] s20 (fun r s22 => ∃ v23 : Int32, r = some (.int v23) ∧ ((v23 < 0 → ExM l E w (d + 1) MX10_expression 152 [some (.ref w.1), some (.int a1), none, some (.int v23)] [] s22 Q) ∧ (¬ v23 < 0 → ((¬ v23 = 1 → (EvM l E w d MX10_reduce [.ref w.1, .int v23] s22 (fun r s24 => r = none ∧ ExM l E w (d + 1) MX10_expression 152 [some (.ref w.1), some (.int a1), none, some (.int v23)] [] s24 Q))) ∧ (v23 = 1 → (EvM l E w d MX10_reduce [.ref w.1, .int 2] s22 (fun r s25 => r = none ∧ ExM l E w (d + 1) MX10_expression 152 [some (.ref w.1), some (.int a1), none, some (.int v23)] [] s25 Q))))))))))) ∧ (¬ v21 = 0 → (inB ((s20.1 101) - 1) 80 ∧ (inB ((s20.1 101) - 1) 80 ∧ (EvM l E w d MX10_order [.ref w.1, .int 4, .int (s20.2.2.1 96 ((s20.1 101) - 1).toNatClampNeg), .int 0, .int (s20.2.2.1 98 ((s20.1 101) - 1).toNatClampNeg)] (sI s20 101 ((s20.1 101) - 1)) (fun r s26 => ∃ v27 : Int32, r = some (.int v27) ∧ ((¬ (s26.1 62) = 3 → ExM l E w (d + 1) MX10_expression 152 [some (.ref w.1), some (.int a1), none, some (.int (-1))] [] s26 Q) ∧ ((s26.1 62) = 3 → (EvM l E w d MX10_levelOf [.int (s26.2.1 64).toInt32] s26 (fun r s28 => ∃ v29 : Int32, r = some (.int v29) ∧ ((v29 < 0 → ExM l E w (d + 1) MX10_expression 152 [some (.ref w.1), some (.int a1), none, some (.int v29)] [] s28 Q) ∧ (¬ v29 < 0 → ((¬ v29 = 1 → (EvM l E w d MX10_reduce [.ref w.1, .int v29] s28 (fun r s30 => r = none ∧ ExM l E w (d + 1) MX10_expression 152 [some (.ref w.1), some (.int a1), none, some (.int v29)] [] s30 Q))) ∧ (v29 = 1 → (EvM l E w d MX10_reduce [.ref w.1, .int 2] s28 (fun r s31 => r = none ∧ ExM l E w (d + 1) MX10_expression 152 [some (.ref w.1), some (.int a1), none, some (.int v29)] [] s31 Q))))))))))))))))))) ∧ (¬ v19 = 0 → (∀ y32 : Int32, y32 = (s18.1 63) → (EvM l E w d MX10_opens [.ref w.1, .int 91] s18 (fun r s33 => r = none ∧ (EvM l E w d MX10_wait [.ref w.1, .int 4, .int 0, .int y32] s33 (fun r s34 => r = none ∧ ExM l E w (d + 1) MX10_expression 7 [some (.ref w.1), some (.int a1), some (.int 0), none] [] s34 Q)))))))))) ∧ ((s.1 101) = 0 → Q none s))))) ∧ (a2 = 0 → (EvM l E w d MX10_starts [.ref w.1] s (fun r s35 => ∃ v36 : Int32, r = some (.int v36) ∧ ExM l E w (d + 1) MX10_expression 7 [some (.ref w.1), some (.int a1), some (.int v36), none] [] s35 Q))))))) : ExM l E w (d + 1) MX10_expression 7 [some (.ref w.1), some (.int a1), some (.int a2), none] [] s Q := by
  intro h0 h hW hF
  refine x_aload_n dX10_expression_7 rfl rfl rfl ?_
  refine m_geti (v := (s.1 66)) dX10_expression_8 f_TallySlateModel_311 (by decide) rfl hW rfl ?_
  refine x_if_ne (tgt := 231) dX10_expression_11 rfl (fun c => ?_) (fun c => ?_)
  · have hT := hT.1 c
    exact x_vret dX10_expression_231 rfl ⟨_, _, rfl, hW, hF, hT⟩
  · have hT := hT.2 c
    refine x_iload_n dX10_expression_14 rfl rfl ?_
    refine x_if_ne (tgt := 26) dX10_expression_15 rfl (fun c => ?_) (fun c => ?_)
    · have hT := hT.1 c
      refine x_iload_n dX10_expression_26 rfl rfl ?_
      refine x_if_eq (tgt := 38) dX10_expression_27 rfl (fun c => ?_) (fun c => ?_)
      · have hT := hT.1 c
        refine x_aload_n dX10_expression_38 rfl rfl rfl ?_
        refine x_bipush (v := 91) dX10_expression_39 rfl ?_
        refine m_inv (vs := [.int 91]) dX10_expression_41 oX10_isSign q2590 q2588 qs76 rfl rfl (Nat.le_of_ble_eq_true rfl) rfl hW hF hT ?_
        rintro _ s1 ⟨v2, rfl, hT⟩ h hW hF
        refine x_if_eq (tgt := 70) dX10_expression_44 rfl (fun c => ?_) (fun c => ?_)
        · have hT := hT.1 c
          refine x_aload_n dX10_expression_70 rfl rfl rfl ?_
          refine x_iconst (v := 2) dX10_expression_71 rfl ?_
          refine m_inv (vs := [.int 2]) dX10_expression_72 oX10_isWaiting q2634 q2632 qs87 rfl rfl (Nat.le_of_ble_eq_true rfl) rfl hW hF hT ?_
          rintro _ s3 ⟨v4, rfl, hT⟩ h hW hF
          refine x_if_eq (tgt := 113) dX10_expression_75 rfl (fun c => ?_) (fun c => ?_)
          · have hT := hT.1 c
            refine x_aload_n dX10_expression_113 rfl rfl rfl ?_
            refine m_geti (v := (s3.1 62)) dX10_expression_114 f_TallySlateModel_276 (by decide) rfl hW rfl ?_
            refine x_iconst (v := 3) dX10_expression_117 rfl ?_
            refine x_icmp_ne (tgt := 132) dX10_expression_118 rfl (fun c => ?_) (fun c => ?_)
            · have hT := hT.1 c
              refine x_iconst (v := (-1)) dX10_expression_132 rfl ?_
              refine x_istore_n (lo' := [some (.ref w.1), some (.int a1), some (.int a2), some (.int (-1))]) dX10_expression_133 rfl (Nat.le_of_ble_eq_true rfl) rfl ?_
              refine x_iload_n dX10_expression_134 rfl rfl ?_
              refine x_if_lt (tgt := 152) dX10_expression_135 rfl (fun _ => ?_) (fun c => absurd c (by decide))
              refine Ex.wkl (lo' := [some (.ref w.1), some (.int a1), none, some (.int (-1))]) ⟨rfl, rfl, rfl, trivial⟩ ?_
              exact hT h0 h hW hF
            · have hT := hT.2 c
              refine x_aload_n dX10_expression_121 rfl rfl rfl ?_
              refine m_getl (v := (s3.2.1 64)) dX10_expression_122 f_TallySlateModel_272 (by decide) rfl hW rfl ?_
              refine x_l2i dX10_expression_125 ?_
              refine m_invS (vs := [.int (s3.2.1 64).toInt32]) dX10_expression_126 oX10_levelOf q2657 q2656 rfl rfl (Nat.le_of_ble_eq_true rfl) rfl hW hF hT ?_
              rintro _ s5 ⟨v6, rfl, hT⟩ h hW hF
              refine x_goto (tgt := 133) dX10_expression_129 rfl ?_
              refine x_istore_n (lo' := [some (.ref w.1), some (.int a1), some (.int a2), some (.int v6)]) dX10_expression_133 rfl (Nat.le_of_ble_eq_true rfl) rfl ?_
              refine x_iload_n dX10_expression_134 rfl rfl ?_
              refine x_if_lt (tgt := 152) dX10_expression_135 rfl (fun c => ?_) (fun c => ?_)
              · have hT := hT.1 c
                refine Ex.wkl (lo' := [some (.ref w.1), some (.int a1), none, some (.int v6)]) ⟨rfl, rfl, rfl, trivial⟩ ?_
                exact hT h0 h hW hF
              · have hT := hT.2 c
                refine x_aload_n dX10_expression_138 rfl rfl rfl ?_
                refine x_iload_n dX10_expression_139 rfl rfl ?_
                refine x_iconst (v := 1) dX10_expression_140 rfl ?_
                refine x_icmp_ne (tgt := 148) dX10_expression_141 rfl (fun c => ?_) (fun c => ?_)
                · have hT := hT.1 c
                  refine x_iload_n dX10_expression_148 rfl rfl ?_
                  refine m_inv (vs := [.int v6]) dX10_expression_149 oX10_reduce q2661 q2659 qs93 rfl rfl (Nat.le_of_ble_eq_true rfl) rfl hW hF hT ?_
                  rintro _ s7 ⟨rfl, hT⟩ h hW hF
                  refine Ex.wkl (lo' := [some (.ref w.1), some (.int a1), none, some (.int v6)]) ⟨rfl, rfl, rfl, trivial⟩ ?_
                  exact hT h0 h hW hF
                · have hT := hT.2 c
                  refine x_iconst (v := 2) dX10_expression_144 rfl ?_
                  refine x_goto (tgt := 149) dX10_expression_145 rfl ?_
                  refine m_inv (vs := [.int 2]) dX10_expression_149 oX10_reduce q2661 q2659 qs93 rfl rfl (Nat.le_of_ble_eq_true rfl) rfl hW hF hT ?_
                  rintro _ s8 ⟨rfl, hT⟩ h hW hF
                  refine Ex.wkl (lo' := [some (.ref w.1), some (.int a1), none, some (.int v6)]) ⟨rfl, rfl, rfl, trivial⟩ ?_
                  exact hT h0 h hW hF
          · have hT := hT.2 c
            refine x_aload_n dX10_expression_78 rfl rfl rfl ?_
            refine x_dup dX10_expression_79 rfl ?_
            refine m_geti (v := (s3.1 101)) dX10_expression_80 f_TallySlateModel_413 (by decide) rfl hW rfl ?_
            refine x_iconst (v := 1) dX10_expression_83 rfl ?_
            refine x_isub dX10_expression_84 ?_
            refine m_puti dX10_expression_85 f_TallySlateModel_413 (by decide) rfl rfl rfl rfl hW hF ?_
            intro h hW hF
            refine x_aload_n dX10_expression_88 rfl rfl rfl ?_
            refine x_iconst (v := 4) dX10_expression_89 rfl ?_
            refine x_aload_n dX10_expression_90 rfl rfl rfl ?_
            refine m_geta dX10_expression_91 f_TallySlateModel_160 (by decide) rfl hW ?_
            refine x_aload_n dX10_expression_94 rfl rfl rfl ?_
            refine m_geti (v := ((s3.1 101) - 1)) dX10_expression_95 f_TallySlateModel_413 (by decide) rfl hW rfl ?_
            obtain ⟨hb, hT⟩ := hT
            refine m_iald (v := (s3.2.2.1 96 ((s3.1 101) - 1).toNatClampNeg)) dX10_expression_98 rfl hb hW rfl ?_
            refine x_iconst (v := 0) dX10_expression_99 rfl ?_
            refine x_aload_n dX10_expression_100 rfl rfl rfl ?_
            refine m_geta dX10_expression_101 f_TallySlateModel_166 (by decide) rfl hW ?_
            refine x_aload_n dX10_expression_104 rfl rfl rfl ?_
            refine m_geti (v := ((s3.1 101) - 1)) dX10_expression_105 f_TallySlateModel_413 (by decide) rfl hW rfl ?_
            obtain ⟨hb, hT⟩ := hT
            refine m_iald (v := (s3.2.2.1 98 ((s3.1 101) - 1).toNatClampNeg)) dX10_expression_108 rfl hb hW rfl ?_
            refine m_inv (vs := [.int 4, .int (s3.2.2.1 96 ((s3.1 101) - 1).toNatClampNeg), .int 0, .int (s3.2.2.1 98 ((s3.1 101) - 1).toNatClampNeg)]) dX10_expression_109 oX10_order q2610 q2608 qs81 rfl rfl (Nat.le_of_ble_eq_true rfl) rfl hW hF hT ?_
            rintro _ s9 ⟨v10, rfl, hT⟩ h hW hF
            refine x_pop dX10_expression_112 rfl ?_
            refine x_aload_n dX10_expression_113 rfl rfl rfl ?_
            refine m_geti (v := (s9.1 62)) dX10_expression_114 f_TallySlateModel_276 (by decide) rfl hW rfl ?_
            refine x_iconst (v := 3) dX10_expression_117 rfl ?_
            refine x_icmp_ne (tgt := 132) dX10_expression_118 rfl (fun c => ?_) (fun c => ?_)
            · have hT := hT.1 c
              refine x_iconst (v := (-1)) dX10_expression_132 rfl ?_
              refine x_istore_n (lo' := [some (.ref w.1), some (.int a1), some (.int a2), some (.int (-1))]) dX10_expression_133 rfl (Nat.le_of_ble_eq_true rfl) rfl ?_
              refine x_iload_n dX10_expression_134 rfl rfl ?_
              refine x_if_lt (tgt := 152) dX10_expression_135 rfl (fun _ => ?_) (fun c => absurd c (by decide))
              refine Ex.wkl (lo' := [some (.ref w.1), some (.int a1), none, some (.int (-1))]) ⟨rfl, rfl, rfl, trivial⟩ ?_
              exact hT h0 h hW hF
            · have hT := hT.2 c
              refine x_aload_n dX10_expression_121 rfl rfl rfl ?_
              refine m_getl (v := (s9.2.1 64)) dX10_expression_122 f_TallySlateModel_272 (by decide) rfl hW rfl ?_
              refine x_l2i dX10_expression_125 ?_
              refine m_invS (vs := [.int (s9.2.1 64).toInt32]) dX10_expression_126 oX10_levelOf q2657 q2656 rfl rfl (Nat.le_of_ble_eq_true rfl) rfl hW hF hT ?_
              rintro _ s11 ⟨v12, rfl, hT⟩ h hW hF
              refine x_goto (tgt := 133) dX10_expression_129 rfl ?_
              refine x_istore_n (lo' := [some (.ref w.1), some (.int a1), some (.int a2), some (.int v12)]) dX10_expression_133 rfl (Nat.le_of_ble_eq_true rfl) rfl ?_
              refine x_iload_n dX10_expression_134 rfl rfl ?_
              refine x_if_lt (tgt := 152) dX10_expression_135 rfl (fun c => ?_) (fun c => ?_)
              · have hT := hT.1 c
                refine Ex.wkl (lo' := [some (.ref w.1), some (.int a1), none, some (.int v12)]) ⟨rfl, rfl, rfl, trivial⟩ ?_
                exact hT h0 h hW hF
              · have hT := hT.2 c
                refine x_aload_n dX10_expression_138 rfl rfl rfl ?_
                refine x_iload_n dX10_expression_139 rfl rfl ?_
                refine x_iconst (v := 1) dX10_expression_140 rfl ?_
                refine x_icmp_ne (tgt := 148) dX10_expression_141 rfl (fun c => ?_) (fun c => ?_)
                · have hT := hT.1 c
                  refine x_iload_n dX10_expression_148 rfl rfl ?_
                  refine m_inv (vs := [.int v12]) dX10_expression_149 oX10_reduce q2661 q2659 qs93 rfl rfl (Nat.le_of_ble_eq_true rfl) rfl hW hF hT ?_
                  rintro _ s13 ⟨rfl, hT⟩ h hW hF
                  refine Ex.wkl (lo' := [some (.ref w.1), some (.int a1), none, some (.int v12)]) ⟨rfl, rfl, rfl, trivial⟩ ?_
                  exact hT h0 h hW hF
                · have hT := hT.2 c
                  refine x_iconst (v := 2) dX10_expression_144 rfl ?_
                  refine x_goto (tgt := 149) dX10_expression_145 rfl ?_
                  refine m_inv (vs := [.int 2]) dX10_expression_149 oX10_reduce q2661 q2659 qs93 rfl rfl (Nat.le_of_ble_eq_true rfl) rfl hW hF hT ?_
                  rintro _ s14 ⟨rfl, hT⟩ h hW hF
                  refine Ex.wkl (lo' := [some (.ref w.1), some (.int a1), none, some (.int v12)]) ⟨rfl, rfl, rfl, trivial⟩ ?_
                  exact hT h0 h hW hF
        · have hT := hT.2 c
          refine x_aload_n dX10_expression_47 rfl rfl rfl ?_
          refine m_geti (v := (s1.1 63)) dX10_expression_48 f_TallySlateModel_269 (by decide) rfl hW rfl ?_
          obtain ⟨y15, ey15⟩ : ∃ z : Int32, z = (s1.1 63) := ⟨_, rfl⟩
          have hT := hT y15 ey15
          refine x_istore_n (lo' := [some (.ref w.1), some (.int a1), some (.int a2), some (.int y15)]) dX10_expression_51 rfl (Nat.le_of_ble_eq_true rfl) (by rw [ey15]; rfl) ?_
          refine x_aload_n dX10_expression_52 rfl rfl rfl ?_
          refine x_bipush (v := 91) dX10_expression_53 rfl ?_
          refine m_inv (vs := [.int 91]) dX10_expression_55 oX10_opens q2586 q2584 qs75 rfl rfl (Nat.le_of_ble_eq_true rfl) rfl hW hF hT ?_
          rintro _ s16 ⟨rfl, hT⟩ h hW hF
          refine x_aload_n dX10_expression_58 rfl rfl rfl ?_
          refine x_iconst (v := 4) dX10_expression_59 rfl ?_
          refine x_iconst (v := 0) dX10_expression_60 rfl ?_
          refine x_iload_n dX10_expression_61 rfl rfl ?_
          refine m_inv (vs := [.int 4, .int 0, .int y15]) dX10_expression_62 oX10_wait q2638 q2636 qs88 rfl rfl (Nat.le_of_ble_eq_true rfl) rfl hW hF hT ?_
          rintro _ s17 ⟨rfl, hT⟩ h hW hF
          refine x_iconst (v := 0) dX10_expression_65 rfl ?_
          refine x_istore_n (lo' := [some (.ref w.1), some (.int a1), some (.int 0), some (.int y15)]) dX10_expression_66 rfl (Nat.le_of_ble_eq_true rfl) rfl ?_
          refine x_goto (tgt := 7) dX10_expression_67 rfl ?_
          refine Ex.wkl (lo' := [some (.ref w.1), some (.int a1), some (.int 0), none]) ⟨rfl, rfl, rfl, trivial⟩ ?_
          exact hT h0 h hW hF
      · have hT := hT.2 c
        refine x_aload_n dX10_expression_30 rfl rfl rfl ?_
        refine m_geti (v := (s.1 101)) dX10_expression_31 f_TallySlateModel_413 (by decide) rfl hW rfl ?_
        refine x_if_ne (tgt := 38) dX10_expression_34 rfl (fun c => ?_) (fun c => ?_)
        · have hT := hT.1 c
          refine x_aload_n dX10_expression_38 rfl rfl rfl ?_
          refine x_bipush (v := 91) dX10_expression_39 rfl ?_
          refine m_inv (vs := [.int 91]) dX10_expression_41 oX10_isSign q2590 q2588 qs76 rfl rfl (Nat.le_of_ble_eq_true rfl) rfl hW hF hT ?_
          rintro _ s18 ⟨v19, rfl, hT⟩ h hW hF
          refine x_if_eq (tgt := 70) dX10_expression_44 rfl (fun c => ?_) (fun c => ?_)
          · have hT := hT.1 c
            refine x_aload_n dX10_expression_70 rfl rfl rfl ?_
            refine x_iconst (v := 2) dX10_expression_71 rfl ?_
            refine m_inv (vs := [.int 2]) dX10_expression_72 oX10_isWaiting q2634 q2632 qs87 rfl rfl (Nat.le_of_ble_eq_true rfl) rfl hW hF hT ?_
            rintro _ s20 ⟨v21, rfl, hT⟩ h hW hF
            refine x_if_eq (tgt := 113) dX10_expression_75 rfl (fun c => ?_) (fun c => ?_)
            · have hT := hT.1 c
              refine x_aload_n dX10_expression_113 rfl rfl rfl ?_
              refine m_geti (v := (s20.1 62)) dX10_expression_114 f_TallySlateModel_276 (by decide) rfl hW rfl ?_
              refine x_iconst (v := 3) dX10_expression_117 rfl ?_
              refine x_icmp_ne (tgt := 132) dX10_expression_118 rfl (fun c => ?_) (fun c => ?_)
              · have hT := hT.1 c
                refine x_iconst (v := (-1)) dX10_expression_132 rfl ?_
                refine x_istore_n (lo' := [some (.ref w.1), some (.int a1), some (.int a2), some (.int (-1))]) dX10_expression_133 rfl (Nat.le_of_ble_eq_true rfl) rfl ?_
                refine x_iload_n dX10_expression_134 rfl rfl ?_
                refine x_if_lt (tgt := 152) dX10_expression_135 rfl (fun _ => ?_) (fun c => absurd c (by decide))
                refine Ex.wkl (lo' := [some (.ref w.1), some (.int a1), none, some (.int (-1))]) ⟨rfl, rfl, rfl, trivial⟩ ?_
                exact hT h0 h hW hF
              · have hT := hT.2 c
                refine x_aload_n dX10_expression_121 rfl rfl rfl ?_
                refine m_getl (v := (s20.2.1 64)) dX10_expression_122 f_TallySlateModel_272 (by decide) rfl hW rfl ?_
                refine x_l2i dX10_expression_125 ?_
                refine m_invS (vs := [.int (s20.2.1 64).toInt32]) dX10_expression_126 oX10_levelOf q2657 q2656 rfl rfl (Nat.le_of_ble_eq_true rfl) rfl hW hF hT ?_
                rintro _ s22 ⟨v23, rfl, hT⟩ h hW hF
                refine x_goto (tgt := 133) dX10_expression_129 rfl ?_
                refine x_istore_n (lo' := [some (.ref w.1), some (.int a1), some (.int a2), some (.int v23)]) dX10_expression_133 rfl (Nat.le_of_ble_eq_true rfl) rfl ?_
                refine x_iload_n dX10_expression_134 rfl rfl ?_
                refine x_if_lt (tgt := 152) dX10_expression_135 rfl (fun c => ?_) (fun c => ?_)
                · have hT := hT.1 c
                  refine Ex.wkl (lo' := [some (.ref w.1), some (.int a1), none, some (.int v23)]) ⟨rfl, rfl, rfl, trivial⟩ ?_
                  exact hT h0 h hW hF
                · have hT := hT.2 c
                  refine x_aload_n dX10_expression_138 rfl rfl rfl ?_
                  refine x_iload_n dX10_expression_139 rfl rfl ?_
                  refine x_iconst (v := 1) dX10_expression_140 rfl ?_
                  refine x_icmp_ne (tgt := 148) dX10_expression_141 rfl (fun c => ?_) (fun c => ?_)
                  · have hT := hT.1 c
                    refine x_iload_n dX10_expression_148 rfl rfl ?_
                    refine m_inv (vs := [.int v23]) dX10_expression_149 oX10_reduce q2661 q2659 qs93 rfl rfl (Nat.le_of_ble_eq_true rfl) rfl hW hF hT ?_
                    rintro _ s24 ⟨rfl, hT⟩ h hW hF
                    refine Ex.wkl (lo' := [some (.ref w.1), some (.int a1), none, some (.int v23)]) ⟨rfl, rfl, rfl, trivial⟩ ?_
                    exact hT h0 h hW hF
                  · have hT := hT.2 c
                    refine x_iconst (v := 2) dX10_expression_144 rfl ?_
                    refine x_goto (tgt := 149) dX10_expression_145 rfl ?_
                    refine m_inv (vs := [.int 2]) dX10_expression_149 oX10_reduce q2661 q2659 qs93 rfl rfl (Nat.le_of_ble_eq_true rfl) rfl hW hF hT ?_
                    rintro _ s25 ⟨rfl, hT⟩ h hW hF
                    refine Ex.wkl (lo' := [some (.ref w.1), some (.int a1), none, some (.int v23)]) ⟨rfl, rfl, rfl, trivial⟩ ?_
                    exact hT h0 h hW hF
            · have hT := hT.2 c
              refine x_aload_n dX10_expression_78 rfl rfl rfl ?_
              refine x_dup dX10_expression_79 rfl ?_
              refine m_geti (v := (s20.1 101)) dX10_expression_80 f_TallySlateModel_413 (by decide) rfl hW rfl ?_
              refine x_iconst (v := 1) dX10_expression_83 rfl ?_
              refine x_isub dX10_expression_84 ?_
              refine m_puti dX10_expression_85 f_TallySlateModel_413 (by decide) rfl rfl rfl rfl hW hF ?_
              intro h hW hF
              refine x_aload_n dX10_expression_88 rfl rfl rfl ?_
              refine x_iconst (v := 4) dX10_expression_89 rfl ?_
              refine x_aload_n dX10_expression_90 rfl rfl rfl ?_
              refine m_geta dX10_expression_91 f_TallySlateModel_160 (by decide) rfl hW ?_
              refine x_aload_n dX10_expression_94 rfl rfl rfl ?_
              refine m_geti (v := ((s20.1 101) - 1)) dX10_expression_95 f_TallySlateModel_413 (by decide) rfl hW rfl ?_
              obtain ⟨hb, hT⟩ := hT
              refine m_iald (v := (s20.2.2.1 96 ((s20.1 101) - 1).toNatClampNeg)) dX10_expression_98 rfl hb hW rfl ?_
              refine x_iconst (v := 0) dX10_expression_99 rfl ?_
              refine x_aload_n dX10_expression_100 rfl rfl rfl ?_
              refine m_geta dX10_expression_101 f_TallySlateModel_166 (by decide) rfl hW ?_
              refine x_aload_n dX10_expression_104 rfl rfl rfl ?_
              refine m_geti (v := ((s20.1 101) - 1)) dX10_expression_105 f_TallySlateModel_413 (by decide) rfl hW rfl ?_
              obtain ⟨hb, hT⟩ := hT
              refine m_iald (v := (s20.2.2.1 98 ((s20.1 101) - 1).toNatClampNeg)) dX10_expression_108 rfl hb hW rfl ?_
              refine m_inv (vs := [.int 4, .int (s20.2.2.1 96 ((s20.1 101) - 1).toNatClampNeg), .int 0, .int (s20.2.2.1 98 ((s20.1 101) - 1).toNatClampNeg)]) dX10_expression_109 oX10_order q2610 q2608 qs81 rfl rfl (Nat.le_of_ble_eq_true rfl) rfl hW hF hT ?_
              rintro _ s26 ⟨v27, rfl, hT⟩ h hW hF
              refine x_pop dX10_expression_112 rfl ?_
              refine x_aload_n dX10_expression_113 rfl rfl rfl ?_
              refine m_geti (v := (s26.1 62)) dX10_expression_114 f_TallySlateModel_276 (by decide) rfl hW rfl ?_
              refine x_iconst (v := 3) dX10_expression_117 rfl ?_
              refine x_icmp_ne (tgt := 132) dX10_expression_118 rfl (fun c => ?_) (fun c => ?_)
              · have hT := hT.1 c
                refine x_iconst (v := (-1)) dX10_expression_132 rfl ?_
                refine x_istore_n (lo' := [some (.ref w.1), some (.int a1), some (.int a2), some (.int (-1))]) dX10_expression_133 rfl (Nat.le_of_ble_eq_true rfl) rfl ?_
                refine x_iload_n dX10_expression_134 rfl rfl ?_
                refine x_if_lt (tgt := 152) dX10_expression_135 rfl (fun _ => ?_) (fun c => absurd c (by decide))
                refine Ex.wkl (lo' := [some (.ref w.1), some (.int a1), none, some (.int (-1))]) ⟨rfl, rfl, rfl, trivial⟩ ?_
                exact hT h0 h hW hF
              · have hT := hT.2 c
                refine x_aload_n dX10_expression_121 rfl rfl rfl ?_
                refine m_getl (v := (s26.2.1 64)) dX10_expression_122 f_TallySlateModel_272 (by decide) rfl hW rfl ?_
                refine x_l2i dX10_expression_125 ?_
                refine m_invS (vs := [.int (s26.2.1 64).toInt32]) dX10_expression_126 oX10_levelOf q2657 q2656 rfl rfl (Nat.le_of_ble_eq_true rfl) rfl hW hF hT ?_
                rintro _ s28 ⟨v29, rfl, hT⟩ h hW hF
                refine x_goto (tgt := 133) dX10_expression_129 rfl ?_
                refine x_istore_n (lo' := [some (.ref w.1), some (.int a1), some (.int a2), some (.int v29)]) dX10_expression_133 rfl (Nat.le_of_ble_eq_true rfl) rfl ?_
                refine x_iload_n dX10_expression_134 rfl rfl ?_
                refine x_if_lt (tgt := 152) dX10_expression_135 rfl (fun c => ?_) (fun c => ?_)
                · have hT := hT.1 c
                  refine Ex.wkl (lo' := [some (.ref w.1), some (.int a1), none, some (.int v29)]) ⟨rfl, rfl, rfl, trivial⟩ ?_
                  exact hT h0 h hW hF
                · have hT := hT.2 c
                  refine x_aload_n dX10_expression_138 rfl rfl rfl ?_
                  refine x_iload_n dX10_expression_139 rfl rfl ?_
                  refine x_iconst (v := 1) dX10_expression_140 rfl ?_
                  refine x_icmp_ne (tgt := 148) dX10_expression_141 rfl (fun c => ?_) (fun c => ?_)
                  · have hT := hT.1 c
                    refine x_iload_n dX10_expression_148 rfl rfl ?_
                    refine m_inv (vs := [.int v29]) dX10_expression_149 oX10_reduce q2661 q2659 qs93 rfl rfl (Nat.le_of_ble_eq_true rfl) rfl hW hF hT ?_
                    rintro _ s30 ⟨rfl, hT⟩ h hW hF
                    refine Ex.wkl (lo' := [some (.ref w.1), some (.int a1), none, some (.int v29)]) ⟨rfl, rfl, rfl, trivial⟩ ?_
                    exact hT h0 h hW hF
                  · have hT := hT.2 c
                    refine x_iconst (v := 2) dX10_expression_144 rfl ?_
                    refine x_goto (tgt := 149) dX10_expression_145 rfl ?_
                    refine m_inv (vs := [.int 2]) dX10_expression_149 oX10_reduce q2661 q2659 qs93 rfl rfl (Nat.le_of_ble_eq_true rfl) rfl hW hF hT ?_
                    rintro _ s31 ⟨rfl, hT⟩ h hW hF
                    refine Ex.wkl (lo' := [some (.ref w.1), some (.int a1), none, some (.int v29)]) ⟨rfl, rfl, rfl, trivial⟩ ?_
                    exact hT h0 h hW hF
          · have hT := hT.2 c
            refine x_aload_n dX10_expression_47 rfl rfl rfl ?_
            refine m_geti (v := (s18.1 63)) dX10_expression_48 f_TallySlateModel_269 (by decide) rfl hW rfl ?_
            obtain ⟨y32, ey32⟩ : ∃ z : Int32, z = (s18.1 63) := ⟨_, rfl⟩
            have hT := hT y32 ey32
            refine x_istore_n (lo' := [some (.ref w.1), some (.int a1), some (.int a2), some (.int y32)]) dX10_expression_51 rfl (Nat.le_of_ble_eq_true rfl) (by rw [ey32]; rfl) ?_
            refine x_aload_n dX10_expression_52 rfl rfl rfl ?_
            refine x_bipush (v := 91) dX10_expression_53 rfl ?_
            refine m_inv (vs := [.int 91]) dX10_expression_55 oX10_opens q2586 q2584 qs75 rfl rfl (Nat.le_of_ble_eq_true rfl) rfl hW hF hT ?_
            rintro _ s33 ⟨rfl, hT⟩ h hW hF
            refine x_aload_n dX10_expression_58 rfl rfl rfl ?_
            refine x_iconst (v := 4) dX10_expression_59 rfl ?_
            refine x_iconst (v := 0) dX10_expression_60 rfl ?_
            refine x_iload_n dX10_expression_61 rfl rfl ?_
            refine m_inv (vs := [.int 4, .int 0, .int y32]) dX10_expression_62 oX10_wait q2638 q2636 qs88 rfl rfl (Nat.le_of_ble_eq_true rfl) rfl hW hF hT ?_
            rintro _ s34 ⟨rfl, hT⟩ h hW hF
            refine x_iconst (v := 0) dX10_expression_65 rfl ?_
            refine x_istore_n (lo' := [some (.ref w.1), some (.int a1), some (.int 0), some (.int y32)]) dX10_expression_66 rfl (Nat.le_of_ble_eq_true rfl) rfl ?_
            refine x_goto (tgt := 7) dX10_expression_67 rfl ?_
            refine Ex.wkl (lo' := [some (.ref w.1), some (.int a1), some (.int 0), none]) ⟨rfl, rfl, rfl, trivial⟩ ?_
            exact hT h0 h hW hF
        · have hT := hT.2 c
          exact x_vret dX10_expression_37 rfl ⟨_, _, rfl, hW, hF, hT⟩
    · have hT := hT.2 c
      refine x_aload_n dX10_expression_18 rfl rfl rfl ?_
      refine m_inv (vs := []) dX10_expression_19 oX10_starts q2630 q2628 qs86 rfl rfl (Nat.le_of_ble_eq_true rfl) rfl hW hF hT ?_
      rintro _ s35 ⟨v36, rfl, hT⟩ h hW hF
      refine x_istore_n (lo' := [some (.ref w.1), some (.int a1), some (.int v36), none]) dX10_expression_22 rfl (Nat.le_of_ble_eq_true rfl) rfl ?_
      refine x_goto (tgt := 7) dX10_expression_23 rfl ?_
      exact hT h0 h hW hF
set_option maxHeartbeats 16000000 in
theorem vX10_expression_152 {l : Launch} {E : EN} {w : MO} {d : Nat} {s : MS} {Q : Option Value → MS → Prop} {a1 : Int32} {a3 : Int32} (hT : ((a3 < 0 → (EvM l E w d MX10_reduce [.ref w.1, .int 0] s (fun r s1 => r = none ∧ ((¬ (s1.1 101) = 0 → (EvM l E w d MX10_ends1 [.ref w.1] s1 (fun r s2 => ∃ v3 : Int32, r = some (.int v3) ∧ ExM l E w (d + 1) MX10_expression 7 [some (.ref w.1), some (.int a1), some (.int v3), none] [] s2 Q))) ∧ ((s1.1 101) = 0 → Q none s1))))) ∧ (¬ a3 < 0 → ((¬ a3 = 1 → (EvM l E w d MX10_wait [.ref w.1, .int 1, .int (s.2.1 64).toInt32, .int (s.1 63)] s (fun r s4 => r = none ∧ (EvM l E w d MX10_take [.ref w.1] s4 (fun r s5 => r = none ∧ ExM l E w (d + 1) MX10_expression 7 [some (.ref w.1), some (.int a1), some (.int 0), none] [] s5 Q))))) ∧ (a3 = 1 → (EvM l E w d MX10_isWaiting [.ref w.1, .int 1] s (fun r s6 => ∃ v7 : Int32, r = some (.int v7) ∧ ((v7 = 0 → (EvM l E w d MX10_wait [.ref w.1, .int 1, .int (s6.2.1 64).toInt32, .int (s6.1 63)] s6 (fun r s8 => r = none ∧ (EvM l E w d MX10_take [.ref w.1] s8 (fun r s9 => r = none ∧ ExM l E w (d + 1) MX10_expression 7 [some (.ref w.1), some (.int a1), some (.int 0), none] [] s9 Q))))) ∧ (¬ v7 = 0 → (inB ((s6.1 101) - 1) 80 ∧ (EvM l E w d MX10_levelOf [.int (s6.2.2.1 96 ((s6.1 101) - 1).toNatClampNeg)] s6 (fun r s10 => ∃ v11 : Int32, r = some (.int v11) ∧ ((v11 = 1 → (EvM l E w d MX10_reduce [.ref w.1, .int 0] s10 (fun r s12 => r = none ∧ ((¬ (s12.1 101) = 0 → (EvM l E w d MX10_ends1 [.ref w.1] s12 (fun r s13 => ∃ v14 : Int32, r = some (.int v14) ∧ ExM l E w (d + 1) MX10_expression 7 [some (.ref w.1), some (.int a1), some (.int v14), none] [] s13 Q))) ∧ ((s12.1 101) = 0 → Q none s12))))) ∧ (¬ v11 = 1 → (EvM l E w d MX10_wait [.ref w.1, .int 1, .int (s10.2.1 64).toInt32, .int (s10.1 63)] s10 (fun r s15 => r = none ∧ (EvM l E w d MX10_take [.ref w.1] s15 (fun r s16 => r = none ∧ ExM l E w (d + 1) MX10_expression 7 [some (.ref w.1), some (.int a1), some (.int 0), none] [] s16 Q)))))))))))))))))) : ExM l E w (d + 1) MX10_expression 152 [some (.ref w.1), some (.int a1), none, some (.int a3)] [] s Q := by
  intro h0 h hW hF
  refine x_iload_n dX10_expression_152 rfl rfl ?_
  refine x_if_lt (tgt := 210) dX10_expression_153 rfl (fun c => ?_) (fun c => ?_)
  · have hT := hT.1 c
    refine x_aload_n dX10_expression_210 rfl rfl rfl ?_
    refine x_iconst (v := 0) dX10_expression_211 rfl ?_
    refine m_inv (vs := [.int 0]) dX10_expression_212 oX10_reduce q2661 q2659 qs93 rfl rfl (Nat.le_of_ble_eq_true rfl) rfl hW hF hT ?_
    rintro _ s1 ⟨rfl, hT⟩ h hW hF
    refine x_aload_n dX10_expression_215 rfl rfl rfl ?_
    refine m_geti (v := (s1.1 101)) dX10_expression_216 f_TallySlateModel_413 (by decide) rfl hW rfl ?_
    refine x_if_ne (tgt := 223) dX10_expression_219 rfl (fun c => ?_) (fun c => ?_)
    · have hT := hT.1 c
      refine x_aload_n dX10_expression_223 rfl rfl rfl ?_
      refine m_inv (vs := []) dX10_expression_224 oX10_ends1 q2665 q2663 qs94 rfl rfl (Nat.le_of_ble_eq_true rfl) rfl hW hF hT ?_
      rintro _ s2 ⟨v3, rfl, hT⟩ h hW hF
      refine x_istore_n (lo' := [some (.ref w.1), some (.int a1), some (.int v3), some (.int a3)]) dX10_expression_227 rfl (Nat.le_of_ble_eq_true rfl) rfl ?_
      refine x_goto (tgt := 7) dX10_expression_228 rfl ?_
      refine Ex.wkl (lo' := [some (.ref w.1), some (.int a1), some (.int v3), none]) ⟨rfl, rfl, rfl, trivial⟩ ?_
      exact hT h0 h hW hF
    · have hT := hT.2 c
      exact x_vret dX10_expression_222 rfl ⟨_, _, rfl, hW, hF, hT⟩
  · have hT := hT.2 c
    refine x_iload_n dX10_expression_156 rfl rfl ?_
    refine x_iconst (v := 1) dX10_expression_157 rfl ?_
    refine x_icmp_ne (tgt := 187) dX10_expression_158 rfl (fun c => ?_) (fun c => ?_)
    · have hT := hT.1 c
      refine x_aload_n dX10_expression_187 rfl rfl rfl ?_
      refine x_iconst (v := 1) dX10_expression_188 rfl ?_
      refine x_aload_n dX10_expression_189 rfl rfl rfl ?_
      refine m_getl (v := (s.2.1 64)) dX10_expression_190 f_TallySlateModel_272 (by decide) rfl hW rfl ?_
      refine x_l2i dX10_expression_193 ?_
      refine x_aload_n dX10_expression_194 rfl rfl rfl ?_
      refine m_geti (v := (s.1 63)) dX10_expression_195 f_TallySlateModel_269 (by decide) rfl hW rfl ?_
      refine m_inv (vs := [.int 1, .int (s.2.1 64).toInt32, .int (s.1 63)]) dX10_expression_198 oX10_wait q2638 q2636 qs88 rfl rfl (Nat.le_of_ble_eq_true rfl) rfl hW hF hT ?_
      rintro _ s4 ⟨rfl, hT⟩ h hW hF
      refine x_aload_n dX10_expression_201 rfl rfl rfl ?_
      refine m_inv (vs := []) dX10_expression_202 oX10_take q2558 q2556 qs69 rfl rfl (Nat.le_of_ble_eq_true rfl) rfl hW hF hT ?_
      rintro _ s5 ⟨rfl, hT⟩ h hW hF
      refine x_iconst (v := 0) dX10_expression_205 rfl ?_
      refine x_istore_n (lo' := [some (.ref w.1), some (.int a1), some (.int 0), some (.int a3)]) dX10_expression_206 rfl (Nat.le_of_ble_eq_true rfl) rfl ?_
      refine x_goto (tgt := 7) dX10_expression_207 rfl ?_
      refine Ex.wkl (lo' := [some (.ref w.1), some (.int a1), some (.int 0), none]) ⟨rfl, rfl, rfl, trivial⟩ ?_
      exact hT h0 h hW hF
    · have hT := hT.2 c
      refine x_aload_n dX10_expression_161 rfl rfl rfl ?_
      refine x_iconst (v := 1) dX10_expression_162 rfl ?_
      refine m_inv (vs := [.int 1]) dX10_expression_163 oX10_isWaiting q2634 q2632 qs87 rfl rfl (Nat.le_of_ble_eq_true rfl) rfl hW hF hT ?_
      rintro _ s6 ⟨v7, rfl, hT⟩ h hW hF
      refine x_if_eq (tgt := 187) dX10_expression_166 rfl (fun c => ?_) (fun c => ?_)
      · have hT := hT.1 c
        refine x_aload_n dX10_expression_187 rfl rfl rfl ?_
        refine x_iconst (v := 1) dX10_expression_188 rfl ?_
        refine x_aload_n dX10_expression_189 rfl rfl rfl ?_
        refine m_getl (v := (s6.2.1 64)) dX10_expression_190 f_TallySlateModel_272 (by decide) rfl hW rfl ?_
        refine x_l2i dX10_expression_193 ?_
        refine x_aload_n dX10_expression_194 rfl rfl rfl ?_
        refine m_geti (v := (s6.1 63)) dX10_expression_195 f_TallySlateModel_269 (by decide) rfl hW rfl ?_
        refine m_inv (vs := [.int 1, .int (s6.2.1 64).toInt32, .int (s6.1 63)]) dX10_expression_198 oX10_wait q2638 q2636 qs88 rfl rfl (Nat.le_of_ble_eq_true rfl) rfl hW hF hT ?_
        rintro _ s8 ⟨rfl, hT⟩ h hW hF
        refine x_aload_n dX10_expression_201 rfl rfl rfl ?_
        refine m_inv (vs := []) dX10_expression_202 oX10_take q2558 q2556 qs69 rfl rfl (Nat.le_of_ble_eq_true rfl) rfl hW hF hT ?_
        rintro _ s9 ⟨rfl, hT⟩ h hW hF
        refine x_iconst (v := 0) dX10_expression_205 rfl ?_
        refine x_istore_n (lo' := [some (.ref w.1), some (.int a1), some (.int 0), some (.int a3)]) dX10_expression_206 rfl (Nat.le_of_ble_eq_true rfl) rfl ?_
        refine x_goto (tgt := 7) dX10_expression_207 rfl ?_
        refine Ex.wkl (lo' := [some (.ref w.1), some (.int a1), some (.int 0), none]) ⟨rfl, rfl, rfl, trivial⟩ ?_
        exact hT h0 h hW hF
      · have hT := hT.2 c
        refine x_aload_n dX10_expression_169 rfl rfl rfl ?_
        refine m_geta dX10_expression_170 f_TallySlateModel_160 (by decide) rfl hW ?_
        refine x_aload_n dX10_expression_173 rfl rfl rfl ?_
        refine m_geti (v := (s6.1 101)) dX10_expression_174 f_TallySlateModel_413 (by decide) rfl hW rfl ?_
        refine x_iconst (v := 1) dX10_expression_177 rfl ?_
        refine x_isub dX10_expression_178 ?_
        obtain ⟨hb, hT⟩ := hT
        refine m_iald (v := (s6.2.2.1 96 ((s6.1 101) - 1).toNatClampNeg)) dX10_expression_179 rfl hb hW rfl ?_
        refine m_invS (vs := [.int (s6.2.2.1 96 ((s6.1 101) - 1).toNatClampNeg)]) dX10_expression_180 oX10_levelOf q2657 q2656 rfl rfl (Nat.le_of_ble_eq_true rfl) rfl hW hF hT ?_
        rintro _ s10 ⟨v11, rfl, hT⟩ h hW hF
        refine x_iconst (v := 1) dX10_expression_183 rfl ?_
        refine x_icmp_eq (tgt := 210) dX10_expression_184 rfl (fun c => ?_) (fun c => ?_)
        · have hT := hT.1 c
          refine x_aload_n dX10_expression_210 rfl rfl rfl ?_
          refine x_iconst (v := 0) dX10_expression_211 rfl ?_
          refine m_inv (vs := [.int 0]) dX10_expression_212 oX10_reduce q2661 q2659 qs93 rfl rfl (Nat.le_of_ble_eq_true rfl) rfl hW hF hT ?_
          rintro _ s12 ⟨rfl, hT⟩ h hW hF
          refine x_aload_n dX10_expression_215 rfl rfl rfl ?_
          refine m_geti (v := (s12.1 101)) dX10_expression_216 f_TallySlateModel_413 (by decide) rfl hW rfl ?_
          refine x_if_ne (tgt := 223) dX10_expression_219 rfl (fun c => ?_) (fun c => ?_)
          · have hT := hT.1 c
            refine x_aload_n dX10_expression_223 rfl rfl rfl ?_
            refine m_inv (vs := []) dX10_expression_224 oX10_ends1 q2665 q2663 qs94 rfl rfl (Nat.le_of_ble_eq_true rfl) rfl hW hF hT ?_
            rintro _ s13 ⟨v14, rfl, hT⟩ h hW hF
            refine x_istore_n (lo' := [some (.ref w.1), some (.int a1), some (.int v14), some (.int a3)]) dX10_expression_227 rfl (Nat.le_of_ble_eq_true rfl) rfl ?_
            refine x_goto (tgt := 7) dX10_expression_228 rfl ?_
            refine Ex.wkl (lo' := [some (.ref w.1), some (.int a1), some (.int v14), none]) ⟨rfl, rfl, rfl, trivial⟩ ?_
            exact hT h0 h hW hF
          · have hT := hT.2 c
            exact x_vret dX10_expression_222 rfl ⟨_, _, rfl, hW, hF, hT⟩
        · have hT := hT.2 c
          refine x_aload_n dX10_expression_187 rfl rfl rfl ?_
          refine x_iconst (v := 1) dX10_expression_188 rfl ?_
          refine x_aload_n dX10_expression_189 rfl rfl rfl ?_
          refine m_getl (v := (s10.2.1 64)) dX10_expression_190 f_TallySlateModel_272 (by decide) rfl hW rfl ?_
          refine x_l2i dX10_expression_193 ?_
          refine x_aload_n dX10_expression_194 rfl rfl rfl ?_
          refine m_geti (v := (s10.1 63)) dX10_expression_195 f_TallySlateModel_269 (by decide) rfl hW rfl ?_
          refine m_inv (vs := [.int 1, .int (s10.2.1 64).toInt32, .int (s10.1 63)]) dX10_expression_198 oX10_wait q2638 q2636 qs88 rfl rfl (Nat.le_of_ble_eq_true rfl) rfl hW hF hT ?_
          rintro _ s15 ⟨rfl, hT⟩ h hW hF
          refine x_aload_n dX10_expression_201 rfl rfl rfl ?_
          refine m_inv (vs := []) dX10_expression_202 oX10_take q2558 q2556 qs69 rfl rfl (Nat.le_of_ble_eq_true rfl) rfl hW hF hT ?_
          rintro _ s16 ⟨rfl, hT⟩ h hW hF
          refine x_iconst (v := 0) dX10_expression_205 rfl ?_
          refine x_istore_n (lo' := [some (.ref w.1), some (.int a1), some (.int 0), some (.int a3)]) dX10_expression_206 rfl (Nat.le_of_ble_eq_true rfl) rfl ?_
          refine x_goto (tgt := 7) dX10_expression_207 rfl ?_
          refine Ex.wkl (lo' := [some (.ref w.1), some (.int a1), some (.int 0), none]) ⟨rfl, rfl, rfl, trivial⟩ ?_
          exact hT h0 h hW hF
set_option maxHeartbeats 16000000 in
theorem vX10_starts_0 {l : Launch} {E : EN} {w : MO} {d : Nat} {s : MS} {Q : Option Value → MS → Prop}  (hT : (∀ y1 : Int32, y1 = (s.1 63) → (EvM l E w d MX10_wordHere [.ref w.1] s (fun r s2 => ∃ v3 : Int32, r = some (.int v3) ∧ ((¬ (s2.1 62) = 2 → (EvM l E w d MX10_isSign [.ref w.1, .int 45] s2 (fun r s4 => ∃ v5 : Int32, r = some (.int v5) ∧ ((¬ v5 = 0 → (EvM l E w d MX10_isWaiting [.ref w.1, .int 2] s4 (fun r s6 => ∃ v7 : Int32, r = some (.int v7) ∧ ((¬ v7 = 0 → ExM l E w (d + 1) MX10_starts 80 [some (.ref w.1), some (.int y1), some (.int v3), none] [] s6 Q) ∧ (v7 = 0 → (EvM l E w d MX10_wait [.ref w.1, .int 2, .int (s6.2.1 64).toInt32, .int y1] s6 (fun r s8 => r = none ∧ (EvM l E w d MX10_take [.ref w.1] s8 (fun r s9 => r = none ∧ Q (some (.int 0)) s9))))))))) ∧ (v5 = 0 → (EvM l E w d MX10_isSign [.ref w.1, .int 33] s4 (fun r s10 => ∃ v11 : Int32, r = some (.int v11) ∧ ((v11 = 0 → ExM l E w (d + 1) MX10_starts 80 [some (.ref w.1), some (.int y1), some (.int v3), none] [] s10 Q) ∧ (¬ v11 = 0 → (EvM l E w d MX10_isWaiting [.ref w.1, .int 2] s10 (fun r s12 => ∃ v13 : Int32, r = some (.int v13) ∧ ((¬ v13 = 0 → ExM l E w (d + 1) MX10_starts 80 [some (.ref w.1), some (.int y1), some (.int v3), none] [] s12 Q) ∧ (v13 = 0 → (EvM l E w d MX10_wait [.ref w.1, .int 2, .int (s12.2.1 64).toInt32, .int y1] s12 (fun r s14 => r = none ∧ (EvM l E w d MX10_take [.ref w.1] s14 (fun r s15 => r = none ∧ Q (some (.int 0)) s15))))))))))))))))) ∧ ((s2.1 62) = 2 → (EvM l E w d MX10_order [.ref w.1, .int 2, .int (s2.2.1 64).toInt32, .int 0, .int y1] s2 (fun r s16 => ∃ v17 : Int32, r = some (.int v17) ∧ (EvM l E w d MX10_take [.ref w.1] s16 (fun r s18 => r = none ∧ Q (some (.int 1)) s18)))))))))) : ExM l E w (d + 1) MX10_starts 0 [some (.ref w.1), none, none, none] [] s Q := by
  intro h0 h hW hF
  refine x_aload_n dX10_starts_0 rfl rfl rfl ?_
  refine m_geti (v := (s.1 63)) dX10_starts_1 f_TallySlateModel_269 (by decide) rfl hW rfl ?_
  obtain ⟨y1, ey1⟩ : ∃ z : Int32, z = (s.1 63) := ⟨_, rfl⟩
  have hT := hT y1 ey1
  refine x_istore_n (lo' := [some (.ref w.1), some (.int y1), none, none]) dX10_starts_4 rfl (Nat.le_of_ble_eq_true rfl) (by rw [ey1]; rfl) ?_
  refine x_aload_n dX10_starts_5 rfl rfl rfl ?_
  refine m_inv (vs := []) dX10_starts_6 oX10_wordHere q2574 q2572 qs73 rfl rfl (Nat.le_of_ble_eq_true rfl) rfl hW hF hT ?_
  rintro _ s2 ⟨v3, rfl, hT⟩ h hW hF
  refine x_istore_n (lo' := [some (.ref w.1), some (.int y1), some (.int v3), none]) dX10_starts_9 rfl (Nat.le_of_ble_eq_true rfl) rfl ?_
  refine x_aload_n dX10_starts_10 rfl rfl rfl ?_
  refine m_geti (v := (s2.1 62)) dX10_starts_11 f_TallySlateModel_276 (by decide) rfl hW rfl ?_
  refine x_iconst (v := 2) dX10_starts_14 rfl ?_
  refine x_icmp_ne (tgt := 37) dX10_starts_15 rfl (fun c => ?_) (fun c => ?_)
  · have hT := hT.1 c
    refine x_aload_n dX10_starts_37 rfl rfl rfl ?_
    refine x_bipush (v := 45) dX10_starts_38 rfl ?_
    refine m_inv (vs := [.int 45]) dX10_starts_40 oX10_isSign q2590 q2588 qs76 rfl rfl (Nat.le_of_ble_eq_true rfl) rfl hW hF hT ?_
    rintro _ s4 ⟨v5, rfl, hT⟩ h hW hF
    refine x_if_ne (tgt := 55) dX10_starts_43 rfl (fun c => ?_) (fun c => ?_)
    · have hT := hT.1 c
      refine x_aload_n dX10_starts_55 rfl rfl rfl ?_
      refine x_iconst (v := 2) dX10_starts_56 rfl ?_
      refine m_inv (vs := [.int 2]) dX10_starts_57 oX10_isWaiting q2634 q2632 qs87 rfl rfl (Nat.le_of_ble_eq_true rfl) rfl hW hF hT ?_
      rintro _ s6 ⟨v7, rfl, hT⟩ h hW hF
      refine x_if_ne (tgt := 80) dX10_starts_60 rfl (fun c => ?_) (fun c => ?_)
      · have hT := hT.1 c
        exact hT h0 h hW hF
      · have hT := hT.2 c
        refine x_aload_n dX10_starts_63 rfl rfl rfl ?_
        refine x_iconst (v := 2) dX10_starts_64 rfl ?_
        refine x_aload_n dX10_starts_65 rfl rfl rfl ?_
        refine m_getl (v := (s6.2.1 64)) dX10_starts_66 f_TallySlateModel_272 (by decide) rfl hW rfl ?_
        refine x_l2i dX10_starts_69 ?_
        refine x_iload_n dX10_starts_70 rfl rfl ?_
        refine m_inv (vs := [.int 2, .int (s6.2.1 64).toInt32, .int y1]) dX10_starts_71 oX10_wait q2638 q2636 qs88 rfl rfl (Nat.le_of_ble_eq_true rfl) rfl hW hF hT ?_
        rintro _ s8 ⟨rfl, hT⟩ h hW hF
        refine x_aload_n dX10_starts_74 rfl rfl rfl ?_
        refine m_inv (vs := []) dX10_starts_75 oX10_take q2558 q2556 qs69 rfl rfl (Nat.le_of_ble_eq_true rfl) rfl hW hF hT ?_
        rintro _ s9 ⟨rfl, hT⟩ h hW hF
        refine x_iconst (v := 0) dX10_starts_78 rfl ?_
        exact x_iret dX10_starts_79 rfl rfl ⟨_, _, rfl, hW, hF, hT⟩
    · have hT := hT.2 c
      refine x_aload_n dX10_starts_46 rfl rfl rfl ?_
      refine x_bipush (v := 33) dX10_starts_47 rfl ?_
      refine m_inv (vs := [.int 33]) dX10_starts_49 oX10_isSign q2590 q2588 qs76 rfl rfl (Nat.le_of_ble_eq_true rfl) rfl hW hF hT ?_
      rintro _ s10 ⟨v11, rfl, hT⟩ h hW hF
      refine x_if_eq (tgt := 80) dX10_starts_52 rfl (fun c => ?_) (fun c => ?_)
      · have hT := hT.1 c
        exact hT h0 h hW hF
      · have hT := hT.2 c
        refine x_aload_n dX10_starts_55 rfl rfl rfl ?_
        refine x_iconst (v := 2) dX10_starts_56 rfl ?_
        refine m_inv (vs := [.int 2]) dX10_starts_57 oX10_isWaiting q2634 q2632 qs87 rfl rfl (Nat.le_of_ble_eq_true rfl) rfl hW hF hT ?_
        rintro _ s12 ⟨v13, rfl, hT⟩ h hW hF
        refine x_if_ne (tgt := 80) dX10_starts_60 rfl (fun c => ?_) (fun c => ?_)
        · have hT := hT.1 c
          exact hT h0 h hW hF
        · have hT := hT.2 c
          refine x_aload_n dX10_starts_63 rfl rfl rfl ?_
          refine x_iconst (v := 2) dX10_starts_64 rfl ?_
          refine x_aload_n dX10_starts_65 rfl rfl rfl ?_
          refine m_getl (v := (s12.2.1 64)) dX10_starts_66 f_TallySlateModel_272 (by decide) rfl hW rfl ?_
          refine x_l2i dX10_starts_69 ?_
          refine x_iload_n dX10_starts_70 rfl rfl ?_
          refine m_inv (vs := [.int 2, .int (s12.2.1 64).toInt32, .int y1]) dX10_starts_71 oX10_wait q2638 q2636 qs88 rfl rfl (Nat.le_of_ble_eq_true rfl) rfl hW hF hT ?_
          rintro _ s14 ⟨rfl, hT⟩ h hW hF
          refine x_aload_n dX10_starts_74 rfl rfl rfl ?_
          refine m_inv (vs := []) dX10_starts_75 oX10_take q2558 q2556 qs69 rfl rfl (Nat.le_of_ble_eq_true rfl) rfl hW hF hT ?_
          rintro _ s15 ⟨rfl, hT⟩ h hW hF
          refine x_iconst (v := 0) dX10_starts_78 rfl ?_
          exact x_iret dX10_starts_79 rfl rfl ⟨_, _, rfl, hW, hF, hT⟩
  · have hT := hT.2 c
    refine x_aload_n dX10_starts_18 rfl rfl rfl ?_
    refine x_iconst (v := 2) dX10_starts_19 rfl ?_
    refine x_aload_n dX10_starts_20 rfl rfl rfl ?_
    refine m_getl (v := (s2.2.1 64)) dX10_starts_21 f_TallySlateModel_272 (by decide) rfl hW rfl ?_
    refine x_l2i dX10_starts_24 ?_
    refine x_iconst (v := 0) dX10_starts_25 rfl ?_
    refine x_iload_n dX10_starts_26 rfl rfl ?_
    refine m_inv (vs := [.int 2, .int (s2.2.1 64).toInt32, .int 0, .int y1]) dX10_starts_27 oX10_order q2610 q2608 qs81 rfl rfl (Nat.le_of_ble_eq_true rfl) rfl hW hF hT ?_
    rintro _ s16 ⟨v17, rfl, hT⟩ h hW hF
    refine x_pop dX10_starts_30 rfl ?_
    refine x_aload_n dX10_starts_31 rfl rfl rfl ?_
    refine m_inv (vs := []) dX10_starts_32 oX10_take q2558 q2556 qs69 rfl rfl (Nat.le_of_ble_eq_true rfl) rfl hW hF hT ?_
    rintro _ s18 ⟨rfl, hT⟩ h hW hF
    refine x_iconst (v := 1) dX10_starts_35 rfl ?_
    exact x_iret dX10_starts_36 rfl rfl ⟨_, _, rfl, hW, hF, hT⟩
theorem eX10_starts {l : Launch} {E : EN} {w : MO} {d : Nat} {s : MS} {Q : Option Value → MS → Prop}  (hst : l.stackTraces = false) (hT : (∀ y1 : Int32, y1 = (s.1 63) → (EvM l E w d MX10_wordHere [.ref w.1] s (fun r s2 => ∃ v3 : Int32, r = some (.int v3) ∧ ((¬ (s2.1 62) = 2 → (EvM l E w d MX10_isSign [.ref w.1, .int 45] s2 (fun r s4 => ∃ v5 : Int32, r = some (.int v5) ∧ ((¬ v5 = 0 → (EvM l E w d MX10_isWaiting [.ref w.1, .int 2] s4 (fun r s6 => ∃ v7 : Int32, r = some (.int v7) ∧ ((¬ v7 = 0 → ExM l E w (d + 1) MX10_starts 80 [some (.ref w.1), some (.int y1), some (.int v3), none] [] s6 Q) ∧ (v7 = 0 → (EvM l E w d MX10_wait [.ref w.1, .int 2, .int (s6.2.1 64).toInt32, .int y1] s6 (fun r s8 => r = none ∧ (EvM l E w d MX10_take [.ref w.1] s8 (fun r s9 => r = none ∧ Q (some (.int 0)) s9))))))))) ∧ (v5 = 0 → (EvM l E w d MX10_isSign [.ref w.1, .int 33] s4 (fun r s10 => ∃ v11 : Int32, r = some (.int v11) ∧ ((v11 = 0 → ExM l E w (d + 1) MX10_starts 80 [some (.ref w.1), some (.int y1), some (.int v3), none] [] s10 Q) ∧ (¬ v11 = 0 → (EvM l E w d MX10_isWaiting [.ref w.1, .int 2] s10 (fun r s12 => ∃ v13 : Int32, r = some (.int v13) ∧ ((¬ v13 = 0 → ExM l E w (d + 1) MX10_starts 80 [some (.ref w.1), some (.int y1), some (.int v3), none] [] s12 Q) ∧ (v13 = 0 → (EvM l E w d MX10_wait [.ref w.1, .int 2, .int (s12.2.1 64).toInt32, .int y1] s12 (fun r s14 => r = none ∧ (EvM l E w d MX10_take [.ref w.1] s14 (fun r s15 => r = none ∧ Q (some (.int 0)) s15))))))))))))))))) ∧ ((s2.1 62) = 2 → (EvM l E w d MX10_order [.ref w.1, .int 2, .int (s2.2.1 64).toInt32, .int 0, .int y1] s2 (fun r s16 => ∃ v17 : Int32, r = some (.int v17) ∧ (EvM l E w d MX10_take [.ref w.1] s16 (fun r s18 => r = none ∧ Q (some (.int 1)) s18)))))))))) : EvM l E w (d + 1) MX10_starts [.ref w.1] s Q :=
  EvM.of hst (by decide) (Nat.le_of_ble_eq_true rfl) (vX10_starts_0 hT)
set_option maxHeartbeats 16000000 in
theorem vX10_starts_80 {l : Launch} {E : EN} {w : MO} {d : Nat} {s : MS} {Q : Option Value → MS → Prop} {a1 : Int32} {a2 : Int32} (hT : (EvM l E w d MX10_isSign [.ref w.1, .int 40] s (fun r s1 => ∃ v2 : Int32, r = some (.int v2) ∧ ((v2 = 0 → (EvM l E w d MX10_isSign [.ref w.1, .int 91] s1 (fun r s3 => ∃ v4 : Int32, r = some (.int v4) ∧ ((v4 = 0 → ((¬ (s3.1 62) = 1 → ((¬ (s3.1 62) = 1 → (EvM l E w d MX10_wrong [.ref w.1] s3 (fun r s5 => r = none ∧ Q (some (.int 0)) s5))) ∧ ((s3.1 62) = 1 → ((0 ≤ a2 → (EvM l E w d MX10_wrong [.ref w.1] s3 (fun r s6 => r = none ∧ Q (some (.int 0)) s6))) ∧ (¬ 0 ≤ a2 → (EvM l E w d MX10_name [.ref w.1] s3 (fun r s7 => ∃ v8 : Int32, r = some (.int v8) ∧ (EvM l E w d MX10_order [.ref w.1, .int 3, .int v8, .int 0, .int a1] s7 (fun r s9 => ∃ v10 : Int32, r = some (.int v10) ∧ Q (some (.int 1)) s9))))))))) ∧ ((s3.1 62) = 1 → ((11 ≤ a2 → (EvM l E w d MX10_begins1 [.ref w.1, .int a2, .int a1] s3 (fun r s11 => ∃ v12 : Int32, r = some (.int v12) ∧ (narrow .boolean (.int v12) = .int v12 ∧ Q (some (.int v12)) s11)))) ∧ (¬ 11 ≤ a2 → ((0 ≤ a2 → ((¬ (s3.1 62) = 1 → (EvM l E w d MX10_wrong [.ref w.1] s3 (fun r s13 => r = none ∧ Q (some (.int 0)) s13))) ∧ ((s3.1 62) = 1 → ((0 ≤ a2 → (EvM l E w d MX10_wrong [.ref w.1] s3 (fun r s14 => r = none ∧ Q (some (.int 0)) s14))) ∧ (¬ 0 ≤ a2 → (EvM l E w d MX10_name [.ref w.1] s3 (fun r s15 => ∃ v16 : Int32, r = some (.int v16) ∧ (EvM l E w d MX10_order [.ref w.1, .int 3, .int v16, .int 0, .int a1] s15 (fun r s17 => ∃ v18 : Int32, r = some (.int v18) ∧ Q (some (.int 1)) s17))))))))) ∧ (¬ 0 ≤ a2 → (EvM l E w d MX10_isBracketBehind [.ref w.1] s3 (fun r s19 => ∃ v20 : Int32, r = some (.int v20) ∧ ((v20 = 0 → ((¬ (s19.1 62) = 1 → (EvM l E w d MX10_wrong [.ref w.1] s19 (fun r s21 => r = none ∧ Q (some (.int 0)) s21))) ∧ ((s19.1 62) = 1 → ((0 ≤ a2 → (EvM l E w d MX10_wrong [.ref w.1] s19 (fun r s22 => r = none ∧ Q (some (.int 0)) s22))) ∧ (¬ 0 ≤ a2 → (EvM l E w d MX10_name [.ref w.1] s19 (fun r s23 => ∃ v24 : Int32, r = some (.int v24) ∧ (EvM l E w d MX10_order [.ref w.1, .int 3, .int v24, .int 0, .int a1] s23 (fun r s25 => ∃ v26 : Int32, r = some (.int v26) ∧ Q (some (.int 1)) s25))))))))) ∧ (¬ v20 = 0 → (EvM l E w d MX10_begins1 [.ref w.1, .int a2, .int a1] s19 (fun r s27 => ∃ v28 : Int32, r = some (.int v28) ∧ (narrow .boolean (.int v28) = .int v28 ∧ Q (some (.int v28)) s27)))))))))))))) ∧ (¬ v4 = 0 → (EvM l E w d MX10_opens [.ref w.1, .int 91] s3 (fun r s29 => r = none ∧ (EvM l E w d MX10_wait [.ref w.1, .int 5, .int 0, .int a1] s29 (fun r s30 => r = none ∧ ((¬ (s30.1 66) = 0 → Q (some (.int 0)) s30) ∧ ((s30.1 66) = 0 → (EvM l E w d MX10_isSign [.ref w.1, .int 93] s30 (fun r s31 => ∃ v32 : Int32, r = some (.int v32) ∧ ((v32 = 0 → Q (some (.int 0)) s31) ∧ (¬ v32 = 0 → (EvM l E w d MX10_ends2 [.ref w.1] s31 (fun r s33 => ∃ v34 : Int32, r = some (.int v34) ∧ ((v34 = 0 → Q (some (.int 0)) s33) ∧ (¬ v34 = 0 → Q (some (.int 1)) s33))))))))))))))))))) ∧ (¬ v2 = 0 → (EvM l E w d MX10_opens [.ref w.1, .int 40] s1 (fun r s35 => r = none ∧ (EvM l E w d MX10_wait [.ref w.1, .int 3, .int 0, .int a1] s35 (fun r s36 => r = none ∧ Q (some (.int 0)) s36))))))))) : ExM l E w (d + 1) MX10_starts 80 [some (.ref w.1), some (.int a1), some (.int a2), none] [] s Q := by
  intro h0 h hW hF
  refine x_aload_n dX10_starts_80 rfl rfl rfl ?_
  refine x_bipush (v := 40) dX10_starts_81 rfl ?_
  refine m_inv (vs := [.int 40]) dX10_starts_83 oX10_isSign q2590 q2588 qs76 rfl rfl (Nat.le_of_ble_eq_true rfl) rfl hW hF hT ?_
  rintro _ s1 ⟨v2, rfl, hT⟩ h hW hF
  refine x_if_eq (tgt := 104) dX10_starts_86 rfl (fun c => ?_) (fun c => ?_)
  · have hT := hT.1 c
    refine x_aload_n dX10_starts_104 rfl rfl rfl ?_
    refine x_bipush (v := 91) dX10_starts_105 rfl ?_
    refine m_inv (vs := [.int 91]) dX10_starts_107 oX10_isSign q2590 q2588 qs76 rfl rfl (Nat.le_of_ble_eq_true rfl) rfl hW hF hT ?_
    rintro _ s3 ⟨v4, rfl, hT⟩ h hW hF
    refine x_if_eq (tgt := 155) dX10_starts_110 rfl (fun c => ?_) (fun c => ?_)
    · have hT := hT.1 c
      refine x_aload_n dX10_starts_155 rfl rfl rfl ?_
      refine m_geti (v := (s3.1 62)) dX10_starts_156 f_TallySlateModel_276 (by decide) rfl hW rfl ?_
      refine x_iconst (v := 1) dX10_starts_159 rfl ?_
      refine x_icmp_ne (tgt := 187) dX10_starts_160 rfl (fun c => ?_) (fun c => ?_)
      · have hT := hT.1 c
        refine x_aload_n dX10_starts_187 rfl rfl rfl ?_
        refine m_geti (v := (s3.1 62)) dX10_starts_188 f_TallySlateModel_276 (by decide) rfl hW rfl ?_
        refine x_iconst (v := 1) dX10_starts_191 rfl ?_
        refine x_icmp_ne (tgt := 215) dX10_starts_192 rfl (fun c => ?_) (fun c => ?_)
        · have hT := hT.1 c
          refine x_aload_n dX10_starts_215 rfl rfl rfl ?_
          refine m_inv (vs := []) dX10_starts_216 oX10_wrong q2562 q2560 qs70 rfl rfl (Nat.le_of_ble_eq_true rfl) rfl hW hF hT ?_
          rintro _ s5 ⟨rfl, hT⟩ h hW hF
          refine x_iconst (v := 0) dX10_starts_219 rfl ?_
          exact x_iret dX10_starts_220 rfl rfl ⟨_, _, rfl, hW, hF, hT⟩
        · have hT := hT.2 c
          refine x_iload_n dX10_starts_195 rfl rfl ?_
          refine x_if_ge (tgt := 215) dX10_starts_196 rfl (fun c => ?_) (fun c => ?_)
          · have hT := hT.1 c
            refine x_aload_n dX10_starts_215 rfl rfl rfl ?_
            refine m_inv (vs := []) dX10_starts_216 oX10_wrong q2562 q2560 qs70 rfl rfl (Nat.le_of_ble_eq_true rfl) rfl hW hF hT ?_
            rintro _ s6 ⟨rfl, hT⟩ h hW hF
            refine x_iconst (v := 0) dX10_starts_219 rfl ?_
            exact x_iret dX10_starts_220 rfl rfl ⟨_, _, rfl, hW, hF, hT⟩
          · have hT := hT.2 c
            refine x_aload_n dX10_starts_199 rfl rfl rfl ?_
            refine m_inv (vs := []) dX10_starts_200 oX10_name q2614 q2612 qs82 rfl rfl (Nat.le_of_ble_eq_true rfl) rfl hW hF hT ?_
            rintro _ s7 ⟨v8, rfl, hT⟩ h hW hF
            refine x_istore_n (lo' := [some (.ref w.1), some (.int a1), some (.int a2), some (.int v8)]) dX10_starts_203 rfl (Nat.le_of_ble_eq_true rfl) rfl ?_
            refine x_aload_n dX10_starts_204 rfl rfl rfl ?_
            refine x_iconst (v := 3) dX10_starts_205 rfl ?_
            refine x_iload_n dX10_starts_206 rfl rfl ?_
            refine x_iconst (v := 0) dX10_starts_207 rfl ?_
            refine x_iload_n dX10_starts_208 rfl rfl ?_
            refine m_inv (vs := [.int 3, .int v8, .int 0, .int a1]) dX10_starts_209 oX10_order q2610 q2608 qs81 rfl rfl (Nat.le_of_ble_eq_true rfl) rfl hW hF hT ?_
            rintro _ s9 ⟨v10, rfl, hT⟩ h hW hF
            refine x_pop dX10_starts_212 rfl ?_
            refine x_iconst (v := 1) dX10_starts_213 rfl ?_
            exact x_iret dX10_starts_214 rfl rfl ⟨_, _, rfl, hW, hF, hT⟩
      · have hT := hT.2 c
        refine x_iload_n dX10_starts_163 rfl rfl ?_
        refine x_bipush (v := 11) dX10_starts_164 rfl ?_
        refine x_icmp_ge (tgt := 180) dX10_starts_166 rfl (fun c => ?_) (fun c => ?_)
        · have hT := hT.1 c
          refine x_aload_n dX10_starts_180 rfl rfl rfl ?_
          refine x_iload_n dX10_starts_181 rfl rfl ?_
          refine x_iload_n dX10_starts_182 rfl rfl ?_
          refine m_inv (vs := [.int a2, .int a1]) dX10_starts_183 oX10_begins1 q2654 q2652 qs92 rfl rfl (Nat.le_of_ble_eq_true rfl) rfl hW hF hT ?_
          rintro _ s11 ⟨v12, rfl, hT⟩ h hW hF
          exact x_iret dX10_starts_186 rfl hT.1 ⟨_, _, rfl, hW, hF, hT.2⟩
        · have hT := hT.2 c
          refine x_iload_n dX10_starts_169 rfl rfl ?_
          refine x_if_ge (tgt := 187) dX10_starts_170 rfl (fun c => ?_) (fun c => ?_)
          · have hT := hT.1 c
            refine x_aload_n dX10_starts_187 rfl rfl rfl ?_
            refine m_geti (v := (s3.1 62)) dX10_starts_188 f_TallySlateModel_276 (by decide) rfl hW rfl ?_
            refine x_iconst (v := 1) dX10_starts_191 rfl ?_
            refine x_icmp_ne (tgt := 215) dX10_starts_192 rfl (fun c => ?_) (fun c => ?_)
            · have hT := hT.1 c
              refine x_aload_n dX10_starts_215 rfl rfl rfl ?_
              refine m_inv (vs := []) dX10_starts_216 oX10_wrong q2562 q2560 qs70 rfl rfl (Nat.le_of_ble_eq_true rfl) rfl hW hF hT ?_
              rintro _ s13 ⟨rfl, hT⟩ h hW hF
              refine x_iconst (v := 0) dX10_starts_219 rfl ?_
              exact x_iret dX10_starts_220 rfl rfl ⟨_, _, rfl, hW, hF, hT⟩
            · have hT := hT.2 c
              refine x_iload_n dX10_starts_195 rfl rfl ?_
              refine x_if_ge (tgt := 215) dX10_starts_196 rfl (fun c => ?_) (fun c => ?_)
              · have hT := hT.1 c
                refine x_aload_n dX10_starts_215 rfl rfl rfl ?_
                refine m_inv (vs := []) dX10_starts_216 oX10_wrong q2562 q2560 qs70 rfl rfl (Nat.le_of_ble_eq_true rfl) rfl hW hF hT ?_
                rintro _ s14 ⟨rfl, hT⟩ h hW hF
                refine x_iconst (v := 0) dX10_starts_219 rfl ?_
                exact x_iret dX10_starts_220 rfl rfl ⟨_, _, rfl, hW, hF, hT⟩
              · have hT := hT.2 c
                refine x_aload_n dX10_starts_199 rfl rfl rfl ?_
                refine m_inv (vs := []) dX10_starts_200 oX10_name q2614 q2612 qs82 rfl rfl (Nat.le_of_ble_eq_true rfl) rfl hW hF hT ?_
                rintro _ s15 ⟨v16, rfl, hT⟩ h hW hF
                refine x_istore_n (lo' := [some (.ref w.1), some (.int a1), some (.int a2), some (.int v16)]) dX10_starts_203 rfl (Nat.le_of_ble_eq_true rfl) rfl ?_
                refine x_aload_n dX10_starts_204 rfl rfl rfl ?_
                refine x_iconst (v := 3) dX10_starts_205 rfl ?_
                refine x_iload_n dX10_starts_206 rfl rfl ?_
                refine x_iconst (v := 0) dX10_starts_207 rfl ?_
                refine x_iload_n dX10_starts_208 rfl rfl ?_
                refine m_inv (vs := [.int 3, .int v16, .int 0, .int a1]) dX10_starts_209 oX10_order q2610 q2608 qs81 rfl rfl (Nat.le_of_ble_eq_true rfl) rfl hW hF hT ?_
                rintro _ s17 ⟨v18, rfl, hT⟩ h hW hF
                refine x_pop dX10_starts_212 rfl ?_
                refine x_iconst (v := 1) dX10_starts_213 rfl ?_
                exact x_iret dX10_starts_214 rfl rfl ⟨_, _, rfl, hW, hF, hT⟩
          · have hT := hT.2 c
            refine x_aload_n dX10_starts_173 rfl rfl rfl ?_
            refine m_inv (vs := []) dX10_starts_174 oX10_isBracketBehind q2622 q2620 qs84 rfl rfl (Nat.le_of_ble_eq_true rfl) rfl hW hF hT ?_
            rintro _ s19 ⟨v20, rfl, hT⟩ h hW hF
            refine x_if_eq (tgt := 187) dX10_starts_177 rfl (fun c => ?_) (fun c => ?_)
            · have hT := hT.1 c
              refine x_aload_n dX10_starts_187 rfl rfl rfl ?_
              refine m_geti (v := (s19.1 62)) dX10_starts_188 f_TallySlateModel_276 (by decide) rfl hW rfl ?_
              refine x_iconst (v := 1) dX10_starts_191 rfl ?_
              refine x_icmp_ne (tgt := 215) dX10_starts_192 rfl (fun c => ?_) (fun c => ?_)
              · have hT := hT.1 c
                refine x_aload_n dX10_starts_215 rfl rfl rfl ?_
                refine m_inv (vs := []) dX10_starts_216 oX10_wrong q2562 q2560 qs70 rfl rfl (Nat.le_of_ble_eq_true rfl) rfl hW hF hT ?_
                rintro _ s21 ⟨rfl, hT⟩ h hW hF
                refine x_iconst (v := 0) dX10_starts_219 rfl ?_
                exact x_iret dX10_starts_220 rfl rfl ⟨_, _, rfl, hW, hF, hT⟩
              · have hT := hT.2 c
                refine x_iload_n dX10_starts_195 rfl rfl ?_
                refine x_if_ge (tgt := 215) dX10_starts_196 rfl (fun c => ?_) (fun c => ?_)
                · have hT := hT.1 c
                  refine x_aload_n dX10_starts_215 rfl rfl rfl ?_
                  refine m_inv (vs := []) dX10_starts_216 oX10_wrong q2562 q2560 qs70 rfl rfl (Nat.le_of_ble_eq_true rfl) rfl hW hF hT ?_
                  rintro _ s22 ⟨rfl, hT⟩ h hW hF
                  refine x_iconst (v := 0) dX10_starts_219 rfl ?_
                  exact x_iret dX10_starts_220 rfl rfl ⟨_, _, rfl, hW, hF, hT⟩
                · have hT := hT.2 c
                  refine x_aload_n dX10_starts_199 rfl rfl rfl ?_
                  refine m_inv (vs := []) dX10_starts_200 oX10_name q2614 q2612 qs82 rfl rfl (Nat.le_of_ble_eq_true rfl) rfl hW hF hT ?_
                  rintro _ s23 ⟨v24, rfl, hT⟩ h hW hF
                  refine x_istore_n (lo' := [some (.ref w.1), some (.int a1), some (.int a2), some (.int v24)]) dX10_starts_203 rfl (Nat.le_of_ble_eq_true rfl) rfl ?_
                  refine x_aload_n dX10_starts_204 rfl rfl rfl ?_
                  refine x_iconst (v := 3) dX10_starts_205 rfl ?_
                  refine x_iload_n dX10_starts_206 rfl rfl ?_
                  refine x_iconst (v := 0) dX10_starts_207 rfl ?_
                  refine x_iload_n dX10_starts_208 rfl rfl ?_
                  refine m_inv (vs := [.int 3, .int v24, .int 0, .int a1]) dX10_starts_209 oX10_order q2610 q2608 qs81 rfl rfl (Nat.le_of_ble_eq_true rfl) rfl hW hF hT ?_
                  rintro _ s25 ⟨v26, rfl, hT⟩ h hW hF
                  refine x_pop dX10_starts_212 rfl ?_
                  refine x_iconst (v := 1) dX10_starts_213 rfl ?_
                  exact x_iret dX10_starts_214 rfl rfl ⟨_, _, rfl, hW, hF, hT⟩
            · have hT := hT.2 c
              refine x_aload_n dX10_starts_180 rfl rfl rfl ?_
              refine x_iload_n dX10_starts_181 rfl rfl ?_
              refine x_iload_n dX10_starts_182 rfl rfl ?_
              refine m_inv (vs := [.int a2, .int a1]) dX10_starts_183 oX10_begins1 q2654 q2652 qs92 rfl rfl (Nat.le_of_ble_eq_true rfl) rfl hW hF hT ?_
              rintro _ s27 ⟨v28, rfl, hT⟩ h hW hF
              exact x_iret dX10_starts_186 rfl hT.1 ⟨_, _, rfl, hW, hF, hT.2⟩
    · have hT := hT.2 c
      refine x_aload_n dX10_starts_113 rfl rfl rfl ?_
      refine x_bipush (v := 91) dX10_starts_114 rfl ?_
      refine m_inv (vs := [.int 91]) dX10_starts_116 oX10_opens q2586 q2584 qs75 rfl rfl (Nat.le_of_ble_eq_true rfl) rfl hW hF hT ?_
      rintro _ s29 ⟨rfl, hT⟩ h hW hF
      refine x_aload_n dX10_starts_119 rfl rfl rfl ?_
      refine x_iconst (v := 5) dX10_starts_120 rfl ?_
      refine x_iconst (v := 0) dX10_starts_121 rfl ?_
      refine x_iload_n dX10_starts_122 rfl rfl ?_
      refine m_inv (vs := [.int 5, .int 0, .int a1]) dX10_starts_123 oX10_wait q2638 q2636 qs88 rfl rfl (Nat.le_of_ble_eq_true rfl) rfl hW hF hT ?_
      rintro _ s30 ⟨rfl, hT⟩ h hW hF
      refine x_aload_n dX10_starts_126 rfl rfl rfl ?_
      refine m_geti (v := (s30.1 66)) dX10_starts_127 f_TallySlateModel_311 (by decide) rfl hW rfl ?_
      refine x_if_ne (tgt := 153) dX10_starts_130 rfl (fun c => ?_) (fun c => ?_)
      · have hT := hT.1 c
        refine x_iconst (v := 0) dX10_starts_153 rfl ?_
        exact x_iret dX10_starts_154 rfl rfl ⟨_, _, rfl, hW, hF, hT⟩
      · have hT := hT.2 c
        refine x_aload_n dX10_starts_133 rfl rfl rfl ?_
        refine x_bipush (v := 93) dX10_starts_134 rfl ?_
        refine m_inv (vs := [.int 93]) dX10_starts_136 oX10_isSign q2590 q2588 qs76 rfl rfl (Nat.le_of_ble_eq_true rfl) rfl hW hF hT ?_
        rintro _ s31 ⟨v32, rfl, hT⟩ h hW hF
        refine x_if_eq (tgt := 153) dX10_starts_139 rfl (fun c => ?_) (fun c => ?_)
        · have hT := hT.1 c
          refine x_iconst (v := 0) dX10_starts_153 rfl ?_
          exact x_iret dX10_starts_154 rfl rfl ⟨_, _, rfl, hW, hF, hT⟩
        · have hT := hT.2 c
          refine x_aload_n dX10_starts_142 rfl rfl rfl ?_
          refine m_inv (vs := []) dX10_starts_143 oX10_ends2 q2642 q2640 qs89 rfl rfl (Nat.le_of_ble_eq_true rfl) rfl hW hF hT ?_
          rintro _ s33 ⟨v34, rfl, hT⟩ h hW hF
          refine x_if_eq (tgt := 153) dX10_starts_146 rfl (fun c => ?_) (fun c => ?_)
          · have hT := hT.1 c
            refine x_iconst (v := 0) dX10_starts_153 rfl ?_
            exact x_iret dX10_starts_154 rfl rfl ⟨_, _, rfl, hW, hF, hT⟩
          · have hT := hT.2 c
            refine x_iconst (v := 1) dX10_starts_149 rfl ?_
            refine x_goto (tgt := 154) dX10_starts_150 rfl ?_
            exact x_iret dX10_starts_154 rfl rfl ⟨_, _, rfl, hW, hF, hT⟩
  · have hT := hT.2 c
    refine x_aload_n dX10_starts_89 rfl rfl rfl ?_
    refine x_bipush (v := 40) dX10_starts_90 rfl ?_
    refine m_inv (vs := [.int 40]) dX10_starts_92 oX10_opens q2586 q2584 qs75 rfl rfl (Nat.le_of_ble_eq_true rfl) rfl hW hF hT ?_
    rintro _ s35 ⟨rfl, hT⟩ h hW hF
    refine x_aload_n dX10_starts_95 rfl rfl rfl ?_
    refine x_iconst (v := 3) dX10_starts_96 rfl ?_
    refine x_iconst (v := 0) dX10_starts_97 rfl ?_
    refine x_iload_n dX10_starts_98 rfl rfl ?_
    refine m_inv (vs := [.int 3, .int 0, .int a1]) dX10_starts_99 oX10_wait q2638 q2636 qs88 rfl rfl (Nat.le_of_ble_eq_true rfl) rfl hW hF hT ?_
    rintro _ s36 ⟨rfl, hT⟩ h hW hF
    refine x_iconst (v := 0) dX10_starts_102 rfl ?_
    exact x_iret dX10_starts_103 rfl rfl ⟨_, _, rfl, hW, hF, hT⟩
theorem vX10_isWaiting_0 {l : Launch} {E : EN} {w : MO} {d : Nat} {s : MS} {Q : Option Value → MS → Prop} {x1 : Int32} (hT : (((s.1 101) ≤ 0 → Q (some (.int 0)) s) ∧ (¬ (s.1 101) ≤ 0 → (inB ((s.1 101) - 1) 80 ∧ ((¬ (s.2.2.1 95 ((s.1 101) - 1).toNatClampNeg) = x1 → Q (some (.int 0)) s) ∧ ((s.2.2.1 95 ((s.1 101) - 1).toNatClampNeg) = x1 → Q (some (.int 1)) s)))))) : ExM l E w d MX10_isWaiting 0 [some (.ref w.1), some (.int x1)] [] s Q := by
  intro h0 h hW hF
  refine x_aload_n dX10_isWaiting_0 rfl rfl rfl ?_
  refine m_geti (v := (s.1 101)) dX10_isWaiting_1 f_TallySlateModel_413 (by decide) rfl hW rfl ?_
  refine x_if_le (tgt := 26) dX10_isWaiting_4 rfl (fun c => ?_) (fun c => ?_)
  · have hT := hT.1 c
    refine x_iconst (v := 0) dX10_isWaiting_26 rfl ?_
    exact x_iret dX10_isWaiting_27 rfl rfl ⟨_, _, rfl, hW, hF, hT⟩
  · have hT := hT.2 c
    refine x_aload_n dX10_isWaiting_7 rfl rfl rfl ?_
    refine m_geta dX10_isWaiting_8 f_TallySlateModel_157 (by decide) rfl hW ?_
    refine x_aload_n dX10_isWaiting_11 rfl rfl rfl ?_
    refine m_geti (v := (s.1 101)) dX10_isWaiting_12 f_TallySlateModel_413 (by decide) rfl hW rfl ?_
    refine x_iconst (v := 1) dX10_isWaiting_15 rfl ?_
    refine x_isub dX10_isWaiting_16 ?_
    obtain ⟨hb, hT⟩ := hT
    refine m_iald (v := (s.2.2.1 95 ((s.1 101) - 1).toNatClampNeg)) dX10_isWaiting_17 rfl hb hW rfl ?_
    refine x_iload_n dX10_isWaiting_18 rfl rfl ?_
    refine x_icmp_ne (tgt := 26) dX10_isWaiting_19 rfl (fun c => ?_) (fun c => ?_)
    · have hT := hT.1 c
      refine x_iconst (v := 0) dX10_isWaiting_26 rfl ?_
      exact x_iret dX10_isWaiting_27 rfl rfl ⟨_, _, rfl, hW, hF, hT⟩
    · have hT := hT.2 c
      refine x_iconst (v := 1) dX10_isWaiting_22 rfl ?_
      refine x_goto (tgt := 27) dX10_isWaiting_23 rfl ?_
      exact x_iret dX10_isWaiting_27 rfl rfl ⟨_, _, rfl, hW, hF, hT⟩
theorem eX10_isWaiting {l : Launch} {E : EN} {w : MO} {d : Nat} {s : MS} {Q : Option Value → MS → Prop} {x1 : Int32} (hst : l.stackTraces = false) (hT : (((s.1 101) ≤ 0 → Q (some (.int 0)) s) ∧ (¬ (s.1 101) ≤ 0 → (inB ((s.1 101) - 1) 80 ∧ ((¬ (s.2.2.1 95 ((s.1 101) - 1).toNatClampNeg) = x1 → Q (some (.int 0)) s) ∧ ((s.2.2.1 95 ((s.1 101) - 1).toNatClampNeg) = x1 → Q (some (.int 1)) s)))))) : EvM l E w d MX10_isWaiting [.ref w.1, .int x1] s Q :=
  EvM.of hst (by decide) (Nat.le_of_ble_eq_true rfl) (vX10_isWaiting_0 hT)
theorem vX10_wait_0 {l : Launch} {E : EN} {w : MO} {d : Nat} {s : MS} {Q : Option Value → MS → Prop} {x1 : Int32} {x2 : Int32} {x3 : Int32} (hT : (inB (s.1 101) 80 ∧ (inB (s.1 101) 80 ∧ (inB (s.1 101) 80 ∧ (inB (s.1 101) 80 ∧ Q none (sI (sA (sA (sA (sA s 95 (s.1 101).toNatClampNeg x1) 96 (s.1 101).toNatClampNeg x2) 97 (s.1 101).toNatClampNeg 0) 98 (s.1 101).toNatClampNeg x3) 101 ((s.1 101) + 1))))))) : ExM l E w d MX10_wait 0 [some (.ref w.1), some (.int x1), some (.int x2), some (.int x3)] [] s Q := by
  intro h0 h hW hF
  refine x_aload_n dX10_wait_0 rfl rfl rfl ?_
  refine m_geta dX10_wait_1 f_TallySlateModel_157 (by decide) rfl hW ?_
  refine x_aload_n dX10_wait_4 rfl rfl rfl ?_
  refine m_geti (v := (s.1 101)) dX10_wait_5 f_TallySlateModel_413 (by decide) rfl hW rfl ?_
  refine x_iload_n dX10_wait_8 rfl rfl ?_
  obtain ⟨hb, hT⟩ := hT
  refine m_iast dX10_wait_9 rfl hb hW hF ?_
  intro h hW hF
  refine x_aload_n dX10_wait_10 rfl rfl rfl ?_
  refine m_geta dX10_wait_11 f_TallySlateModel_160 (by decide) rfl hW ?_
  refine x_aload_n dX10_wait_14 rfl rfl rfl ?_
  refine m_geti (v := (s.1 101)) dX10_wait_15 f_TallySlateModel_413 (by decide) rfl hW rfl ?_
  refine x_iload_n dX10_wait_18 rfl rfl ?_
  obtain ⟨hb, hT⟩ := hT
  refine m_iast dX10_wait_19 rfl hb hW hF ?_
  intro h hW hF
  refine x_aload_n dX10_wait_20 rfl rfl rfl ?_
  refine m_geta dX10_wait_21 f_TallySlateModel_163 (by decide) rfl hW ?_
  refine x_aload_n dX10_wait_24 rfl rfl rfl ?_
  refine m_geti (v := (s.1 101)) dX10_wait_25 f_TallySlateModel_413 (by decide) rfl hW rfl ?_
  refine x_iconst (v := 0) dX10_wait_28 rfl ?_
  obtain ⟨hb, hT⟩ := hT
  refine m_iast dX10_wait_29 rfl hb hW hF ?_
  intro h hW hF
  refine x_aload_n dX10_wait_30 rfl rfl rfl ?_
  refine m_geta dX10_wait_31 f_TallySlateModel_166 (by decide) rfl hW ?_
  refine x_aload_n dX10_wait_34 rfl rfl rfl ?_
  refine m_geti (v := (s.1 101)) dX10_wait_35 f_TallySlateModel_413 (by decide) rfl hW rfl ?_
  refine x_iload_n dX10_wait_38 rfl rfl ?_
  obtain ⟨hb, hT⟩ := hT
  refine m_iast dX10_wait_39 rfl hb hW hF ?_
  intro h hW hF
  refine x_aload_n dX10_wait_40 rfl rfl rfl ?_
  refine x_dup dX10_wait_41 rfl ?_
  refine m_geti (v := (s.1 101)) dX10_wait_42 f_TallySlateModel_413 (by decide) rfl hW rfl ?_
  refine x_iconst (v := 1) dX10_wait_45 rfl ?_
  refine x_iadd dX10_wait_46 ?_
  refine m_puti dX10_wait_47 f_TallySlateModel_413 (by decide) rfl rfl rfl rfl hW hF ?_
  intro h hW hF
  exact x_vret dX10_wait_50 rfl ⟨_, _, rfl, hW, hF, hT⟩
theorem eX10_wait {l : Launch} {E : EN} {w : MO} {d : Nat} {s : MS} {Q : Option Value → MS → Prop} {x1 : Int32} {x2 : Int32} {x3 : Int32} (hst : l.stackTraces = false) (hT : (inB (s.1 101) 80 ∧ (inB (s.1 101) 80 ∧ (inB (s.1 101) 80 ∧ (inB (s.1 101) 80 ∧ Q none (sI (sA (sA (sA (sA s 95 (s.1 101).toNatClampNeg x1) 96 (s.1 101).toNatClampNeg x2) 97 (s.1 101).toNatClampNeg 0) 98 (s.1 101).toNatClampNeg x3) 101 ((s.1 101) + 1))))))) : EvM l E w d MX10_wait [.ref w.1, .int x1, .int x2, .int x3] s Q :=
  EvM.of hst (by decide) (Nat.le_of_ble_eq_true rfl) (vX10_wait_0 hT)
set_option maxHeartbeats 16000000 in
theorem vX10_ends2_0 {l : Launch} {E : EN} {w : MO} {d : Nat} {s : MS} {Q : Option Value → MS → Prop}  (hT : (∀ y1 : Int32, y1 = ((s.1 101) - 1) → (inB y1 80 ∧ (∀ y2 : Int32, y2 = (s.2.2.1 97 y1.toNatClampNeg) → (inB y1 80 ∧ ((¬ (s.2.2.1 95 y1.toNatClampNeg) = 5 → (inB y1 80 ∧ ((¬ (s.2.2.1 95 y1.toNatClampNeg) = 7 → ExM l E w (d + 1) MX10_ends2 108 [some (.ref w.1), some (.int y1), some (.int y2)] [] (sI s 101 ((s.1 101) - 1)) Q) ∧ ((s.2.2.1 95 y1.toNatClampNeg) = 7 → (EvM l E w d MX10_isSign [.ref w.1, .int 41] (sI s 101 ((s.1 101) - 1)) (fun r s3 => ∃ v4 : Int32, r = some (.int v4) ∧ ((v4 = 0 → ExM l E w (d + 1) MX10_ends2 108 [some (.ref w.1), some (.int y1), some (.int y2)] [] s3 Q) ∧ (¬ v4 = 0 → (inB y1 80 ∧ (((s3.2.2.1 96 y1.toNatClampNeg) = 5 → ExM l E w (d + 1) MX10_ends2 108 [some (.ref w.1), some (.int y1), some (.int y2)] [] s3 Q) ∧ (¬ (s3.2.2.1 96 y1.toNatClampNeg) = 5 → (inB y1 80 ∧ (EvM l E w d MX10_most0 [.ref w.1, .int (s3.2.2.1 96 y1.toNatClampNeg)] s3 (fun r s5 => ∃ v6 : Int32, r = some (.int v6) ∧ ((y2 = v6 → ExM l E w (d + 1) MX10_ends2 108 [some (.ref w.1), some (.int y1), some (.int y2)] [] s5 Q) ∧ (¬ y2 = v6 → (EvM l E w d MX10_breaks [.ref w.1, .int 5, .int (s5.1 63)] s5 (fun r s7 => r = none ∧ ExM l E w (d + 1) MX10_ends2 108 [some (.ref w.1), some (.int y1), some (.int y2)] [] s7 Q)))))))))))))))))) ∧ ((s.2.2.1 95 y1.toNatClampNeg) = 5 → (EvM l E w d MX10_sign [.ref w.1, .int 93] (sI s 101 ((s.1 101) - 1)) (fun r s8 => r = none ∧ (inB y1 80 ∧ (EvM l E w d MX10_order [.ref w.1, .int 6, .int y2, .int 0, .int (s8.2.2.1 98 y1.toNatClampNeg)] s8 (fun r s9 => ∃ v10 : Int32, r = some (.int v10) ∧ Q (some (.int 1)) s9)))))))))))) : ExM l E w (d + 1) MX10_ends2 0 [some (.ref w.1), none, none] [] s Q := by
  intro h0 h hW hF
  refine x_aload_n dX10_ends2_0 rfl rfl rfl ?_
  refine x_dup dX10_ends2_1 rfl ?_
  refine m_geti (v := (s.1 101)) dX10_ends2_2 f_TallySlateModel_413 (by decide) rfl hW rfl ?_
  refine x_iconst (v := 1) dX10_ends2_5 rfl ?_
  refine x_isub dX10_ends2_6 ?_
  refine m_puti dX10_ends2_7 f_TallySlateModel_413 (by decide) rfl rfl rfl rfl hW hF ?_
  intro h hW hF
  refine x_aload_n dX10_ends2_10 rfl rfl rfl ?_
  refine m_geti (v := ((s.1 101) - 1)) dX10_ends2_11 f_TallySlateModel_413 (by decide) rfl hW rfl ?_
  obtain ⟨y1, ey1⟩ : ∃ z : Int32, z = ((s.1 101) - 1) := ⟨_, rfl⟩
  have hT := hT y1 ey1
  refine x_istore_n (lo' := [some (.ref w.1), some (.int y1), none]) dX10_ends2_14 rfl (Nat.le_of_ble_eq_true rfl) (by rw [ey1]; rfl) ?_
  refine x_aload_n dX10_ends2_15 rfl rfl rfl ?_
  refine m_geta dX10_ends2_16 f_TallySlateModel_163 (by decide) rfl hW ?_
  refine x_iload_n dX10_ends2_19 rfl rfl ?_
  obtain ⟨hb, hT⟩ := hT
  refine m_iald (v := (s.2.2.1 97 y1.toNatClampNeg)) dX10_ends2_20 rfl hb hW rfl ?_
  obtain ⟨y2, ey2⟩ : ∃ z : Int32, z = (s.2.2.1 97 y1.toNatClampNeg) := ⟨_, rfl⟩
  have hT := hT y2 ey2
  refine x_istore_n (lo' := [some (.ref w.1), some (.int y1), some (.int y2)]) dX10_ends2_21 rfl (Nat.le_of_ble_eq_true rfl) (by rw [ey2]; rfl) ?_
  refine x_aload_n dX10_ends2_22 rfl rfl rfl ?_
  refine m_geta dX10_ends2_23 f_TallySlateModel_157 (by decide) rfl hW ?_
  refine x_iload_n dX10_ends2_26 rfl rfl ?_
  obtain ⟨hb, hT⟩ := hT
  refine m_iald (v := (s.2.2.1 95 y1.toNatClampNeg)) dX10_ends2_27 rfl hb hW rfl ?_
  refine x_iconst (v := 5) dX10_ends2_28 rfl ?_
  refine x_icmp_ne (tgt := 55) dX10_ends2_29 rfl (fun c => ?_) (fun c => ?_)
  · have hT := hT.1 c
    refine x_aload_n dX10_ends2_55 rfl rfl rfl ?_
    refine m_geta dX10_ends2_56 f_TallySlateModel_157 (by decide) rfl hW ?_
    refine x_iload_n dX10_ends2_59 rfl rfl ?_
    obtain ⟨hb, hT⟩ := hT
    refine m_iald (v := (s.2.2.1 95 y1.toNatClampNeg)) dX10_ends2_60 rfl hb hW rfl ?_
    refine x_bipush (v := 7) dX10_ends2_61 rfl ?_
    refine x_icmp_ne (tgt := 108) dX10_ends2_63 rfl (fun c => ?_) (fun c => ?_)
    · have hT := hT.1 c
      exact hT h0 h hW hF
    · have hT := hT.2 c
      refine x_aload_n dX10_ends2_66 rfl rfl rfl ?_
      refine x_bipush (v := 41) dX10_ends2_67 rfl ?_
      refine m_inv (vs := [.int 41]) dX10_ends2_69 oX10_isSign q2590 q2588 qs76 rfl rfl (Nat.le_of_ble_eq_true rfl) rfl hW hF hT ?_
      rintro _ s3 ⟨v4, rfl, hT⟩ h hW hF
      refine x_if_eq (tgt := 108) dX10_ends2_72 rfl (fun c => ?_) (fun c => ?_)
      · have hT := hT.1 c
        exact hT h0 h hW hF
      · have hT := hT.2 c
        refine x_aload_n dX10_ends2_75 rfl rfl rfl ?_
        refine m_geta dX10_ends2_76 f_TallySlateModel_160 (by decide) rfl hW ?_
        refine x_iload_n dX10_ends2_79 rfl rfl ?_
        obtain ⟨hb, hT⟩ := hT
        refine m_iald (v := (s3.2.2.1 96 y1.toNatClampNeg)) dX10_ends2_80 rfl hb hW rfl ?_
        refine x_iconst (v := 5) dX10_ends2_81 rfl ?_
        refine x_icmp_eq (tgt := 108) dX10_ends2_82 rfl (fun c => ?_) (fun c => ?_)
        · have hT := hT.1 c
          exact hT h0 h hW hF
        · have hT := hT.2 c
          refine x_iload_n dX10_ends2_85 rfl rfl ?_
          refine x_aload_n dX10_ends2_86 rfl rfl rfl ?_
          refine x_aload_n dX10_ends2_87 rfl rfl rfl ?_
          refine m_geta dX10_ends2_88 f_TallySlateModel_160 (by decide) rfl hW ?_
          refine x_iload_n dX10_ends2_91 rfl rfl ?_
          obtain ⟨hb, hT⟩ := hT
          refine m_iald (v := (s3.2.2.1 96 y1.toNatClampNeg)) dX10_ends2_92 rfl hb hW rfl ?_
          refine m_inv (vs := [.int (s3.2.2.1 96 y1.toNatClampNeg)]) dX10_ends2_93 oX10_most0 q2646 q2644 qs90 rfl rfl (Nat.le_of_ble_eq_true rfl) rfl hW hF hT ?_
          rintro _ s5 ⟨v6, rfl, hT⟩ h hW hF
          refine x_icmp_eq (tgt := 108) dX10_ends2_96 rfl (fun c => ?_) (fun c => ?_)
          · have hT := hT.1 c
            exact hT h0 h hW hF
          · have hT := hT.2 c
            refine x_aload_n dX10_ends2_99 rfl rfl rfl ?_
            refine x_iconst (v := 5) dX10_ends2_100 rfl ?_
            refine x_aload_n dX10_ends2_101 rfl rfl rfl ?_
            refine m_geti (v := (s5.1 63)) dX10_ends2_102 f_TallySlateModel_269 (by decide) rfl hW rfl ?_
            refine m_inv (vs := [.int 5, .int (s5.1 63)]) dX10_ends2_105 oX10_breaks q2512 q2510 qs61 rfl rfl (Nat.le_of_ble_eq_true rfl) rfl hW hF hT ?_
            rintro _ s7 ⟨rfl, hT⟩ h hW hF
            exact hT h0 h hW hF
  · have hT := hT.2 c
    refine x_aload_n dX10_ends2_32 rfl rfl rfl ?_
    refine x_bipush (v := 93) dX10_ends2_33 rfl ?_
    refine m_inv (vs := [.int 93]) dX10_ends2_35 oX10_sign q2594 q2592 qs77 rfl rfl (Nat.le_of_ble_eq_true rfl) rfl hW hF hT ?_
    rintro _ s8 ⟨rfl, hT⟩ h hW hF
    refine x_aload_n dX10_ends2_38 rfl rfl rfl ?_
    refine x_bipush (v := 6) dX10_ends2_39 rfl ?_
    refine x_iload_n dX10_ends2_41 rfl rfl ?_
    refine x_iconst (v := 0) dX10_ends2_42 rfl ?_
    refine x_aload_n dX10_ends2_43 rfl rfl rfl ?_
    refine m_geta dX10_ends2_44 f_TallySlateModel_166 (by decide) rfl hW ?_
    refine x_iload_n dX10_ends2_47 rfl rfl ?_
    obtain ⟨hb, hT⟩ := hT
    refine m_iald (v := (s8.2.2.1 98 y1.toNatClampNeg)) dX10_ends2_48 rfl hb hW rfl ?_
    refine m_inv (vs := [.int 6, .int y2, .int 0, .int (s8.2.2.1 98 y1.toNatClampNeg)]) dX10_ends2_49 oX10_order q2610 q2608 qs81 rfl rfl (Nat.le_of_ble_eq_true rfl) rfl hW hF hT ?_
    rintro _ s9 ⟨v10, rfl, hT⟩ h hW hF
    refine x_pop dX10_ends2_52 rfl ?_
    refine x_iconst (v := 1) dX10_ends2_53 rfl ?_
    exact x_iret dX10_ends2_54 rfl rfl ⟨_, _, rfl, hW, hF, hT⟩
theorem eX10_ends2 {l : Launch} {E : EN} {w : MO} {d : Nat} {s : MS} {Q : Option Value → MS → Prop}  (hst : l.stackTraces = false) (hT : (∀ y1 : Int32, y1 = ((s.1 101) - 1) → (inB y1 80 ∧ (∀ y2 : Int32, y2 = (s.2.2.1 97 y1.toNatClampNeg) → (inB y1 80 ∧ ((¬ (s.2.2.1 95 y1.toNatClampNeg) = 5 → (inB y1 80 ∧ ((¬ (s.2.2.1 95 y1.toNatClampNeg) = 7 → ExM l E w (d + 1) MX10_ends2 108 [some (.ref w.1), some (.int y1), some (.int y2)] [] (sI s 101 ((s.1 101) - 1)) Q) ∧ ((s.2.2.1 95 y1.toNatClampNeg) = 7 → (EvM l E w d MX10_isSign [.ref w.1, .int 41] (sI s 101 ((s.1 101) - 1)) (fun r s3 => ∃ v4 : Int32, r = some (.int v4) ∧ ((v4 = 0 → ExM l E w (d + 1) MX10_ends2 108 [some (.ref w.1), some (.int y1), some (.int y2)] [] s3 Q) ∧ (¬ v4 = 0 → (inB y1 80 ∧ (((s3.2.2.1 96 y1.toNatClampNeg) = 5 → ExM l E w (d + 1) MX10_ends2 108 [some (.ref w.1), some (.int y1), some (.int y2)] [] s3 Q) ∧ (¬ (s3.2.2.1 96 y1.toNatClampNeg) = 5 → (inB y1 80 ∧ (EvM l E w d MX10_most0 [.ref w.1, .int (s3.2.2.1 96 y1.toNatClampNeg)] s3 (fun r s5 => ∃ v6 : Int32, r = some (.int v6) ∧ ((y2 = v6 → ExM l E w (d + 1) MX10_ends2 108 [some (.ref w.1), some (.int y1), some (.int y2)] [] s5 Q) ∧ (¬ y2 = v6 → (EvM l E w d MX10_breaks [.ref w.1, .int 5, .int (s5.1 63)] s5 (fun r s7 => r = none ∧ ExM l E w (d + 1) MX10_ends2 108 [some (.ref w.1), some (.int y1), some (.int y2)] [] s7 Q)))))))))))))))))) ∧ ((s.2.2.1 95 y1.toNatClampNeg) = 5 → (EvM l E w d MX10_sign [.ref w.1, .int 93] (sI s 101 ((s.1 101) - 1)) (fun r s8 => r = none ∧ (inB y1 80 ∧ (EvM l E w d MX10_order [.ref w.1, .int 6, .int y2, .int 0, .int (s8.2.2.1 98 y1.toNatClampNeg)] s8 (fun r s9 => ∃ v10 : Int32, r = some (.int v10) ∧ Q (some (.int 1)) s9)))))))))))) : EvM l E w (d + 1) MX10_ends2 [.ref w.1] s Q :=
  EvM.of hst (by decide) (Nat.le_of_ble_eq_true rfl) (vX10_ends2_0 hT)
set_option maxHeartbeats 16000000 in
theorem vX10_ends2_108 {l : Launch} {E : EN} {w : MO} {d : Nat} {s : MS} {Q : Option Value → MS → Prop} {a1 : Int32} {a2 : Int32} (hT : (EvM l E w d MX10_sign [.ref w.1, .int 41] s (fun r s1 => r = none ∧ (((s1.1 66) ≤ 0 → (inB a1 80 ∧ ((¬ (s1.2.2.1 95 a1.toNatClampNeg) = 7 → (inB a1 80 ∧ ((¬ (s1.2.2.1 95 a1.toNatClampNeg) = 6 → (inB a1 80 ∧ (inB a1 80 ∧ (EvM l E w d MX10_order [.ref w.1, .int 10, .int (s1.2.2.1 96 a1.toNatClampNeg), .int 0, .int (s1.2.2.1 98 a1.toNatClampNeg)] s1 (fun r s2 => ∃ v3 : Int32, r = some (.int v3) ∧ (inB a1 80 ∧ (inB a1 80 ∧ (EvM l E w d MX10_order [.ref w.1, .int 11, .int (s2.2.2.1 96 a1.toNatClampNeg), .int 0, .int (s2.2.2.1 98 a1.toNatClampNeg)] s2 (fun r s4 => ∃ v5 : Int32, r = some (.int v5) ∧ (inB a1 80 ∧ (inB a1 80 ∧ ((¬ (s4.2.2.1 96 a1.toNatClampNeg) = 28 → (inB a1 80 ∧ (EvM l E w d MX10_called [.ref w.1, .int v5, .long (s4.2.2.2 99 a1.toNatClampNeg), .int 2, .int (s4.2.2.1 100 a1.toNatClampNeg)] s4 (fun r s6 => r = none ∧ Q (some (.int 1)) s6)))) ∧ ((s4.2.2.1 96 a1.toNatClampNeg) = 28 → (inB a1 80 ∧ (EvM l E w d MX10_called [.ref w.1, .int v5, .long (s4.2.2.2 99 a1.toNatClampNeg), .int 1, .int (s4.2.2.1 100 a1.toNatClampNeg)] s4 (fun r s7 => r = none ∧ Q (some (.int 1)) s7)))))))))))))))) ∧ ((s1.2.2.1 95 a1.toNatClampNeg) = 6 → (inB a1 80 ∧ (EvM l E w d MX10_order [.ref w.1, .int 9, .int 0, .int a2, .int (s1.2.2.1 98 a1.toNatClampNeg)] s1 (fun r s8 => ∃ v9 : Int32, r = some (.int v9) ∧ (inB a1 80 ∧ (inB a1 80 ∧ (EvM l E w d MX10_called [.ref w.1, .int v9, .long (s8.2.2.2 99 a1.toNatClampNeg), .int a2, .int (s8.2.2.1 100 a1.toNatClampNeg)] s8 (fun r s10 => r = none ∧ Q (some (.int 1)) s10))))))))))) ∧ ((s1.2.2.1 95 a1.toNatClampNeg) = 7 → (inB a1 80 ∧ (inB a1 80 ∧ (EvM l E w d MX10_order [.ref w.1, .int 8, .int (s1.2.2.1 96 a1.toNatClampNeg), .int a2, .int (s1.2.2.1 98 a1.toNatClampNeg)] s1 (fun r s11 => ∃ v12 : Int32, r = some (.int v12) ∧ Q (some (.int 1)) s11)))))))) ∧ (¬ (s1.1 66) ≤ 0 → Q (some (.int 1)) s1))))) : ExM l E w (d + 1) MX10_ends2 108 [some (.ref w.1), some (.int a1), some (.int a2)] [] s Q := by
  intro h0 h hW hF
  refine x_aload_n dX10_ends2_108 rfl rfl rfl ?_
  refine x_bipush (v := 41) dX10_ends2_109 rfl ?_
  refine m_inv (vs := [.int 41]) dX10_ends2_111 oX10_sign q2594 q2592 qs77 rfl rfl (Nat.le_of_ble_eq_true rfl) rfl hW hF hT ?_
  rintro _ s1 ⟨rfl, hT⟩ h hW hF
  refine x_aload_n dX10_ends2_114 rfl rfl rfl ?_
  refine m_geti (v := (s1.1 66)) dX10_ends2_115 f_TallySlateModel_311 (by decide) rfl hW rfl ?_
  refine x_if_le (tgt := 123) dX10_ends2_118 rfl (fun c => ?_) (fun c => ?_)
  · have hT := hT.1 c
    refine x_aload_n dX10_ends2_123 rfl rfl rfl ?_
    refine m_geta dX10_ends2_124 f_TallySlateModel_157 (by decide) rfl hW ?_
    refine x_iload_n dX10_ends2_127 rfl rfl ?_
    obtain ⟨hb, hT⟩ := hT
    refine m_iald (v := (s1.2.2.1 95 a1.toNatClampNeg)) dX10_ends2_128 rfl hb hW rfl ?_
    refine x_bipush (v := 7) dX10_ends2_129 rfl ?_
    refine x_icmp_ne (tgt := 157) dX10_ends2_131 rfl (fun c => ?_) (fun c => ?_)
    · have hT := hT.1 c
      refine x_aload_n dX10_ends2_157 rfl rfl rfl ?_
      refine m_geta dX10_ends2_158 f_TallySlateModel_157 (by decide) rfl hW ?_
      refine x_iload_n dX10_ends2_161 rfl rfl ?_
      obtain ⟨hb, hT⟩ := hT
      refine m_iald (v := (s1.2.2.1 95 a1.toNatClampNeg)) dX10_ends2_162 rfl hb hW rfl ?_
      refine x_bipush (v := 6) dX10_ends2_163 rfl ?_
      refine x_icmp_ne (tgt := 202) dX10_ends2_165 rfl (fun c => ?_) (fun c => ?_)
      · have hT := hT.1 c
        refine x_aload_n dX10_ends2_202 rfl rfl rfl ?_
        refine x_bipush (v := 10) dX10_ends2_203 rfl ?_
        refine x_aload_n dX10_ends2_205 rfl rfl rfl ?_
        refine m_geta dX10_ends2_206 f_TallySlateModel_160 (by decide) rfl hW ?_
        refine x_iload_n dX10_ends2_209 rfl rfl ?_
        obtain ⟨hb, hT⟩ := hT
        refine m_iald (v := (s1.2.2.1 96 a1.toNatClampNeg)) dX10_ends2_210 rfl hb hW rfl ?_
        refine x_iconst (v := 0) dX10_ends2_211 rfl ?_
        refine x_aload_n dX10_ends2_212 rfl rfl rfl ?_
        refine m_geta dX10_ends2_213 f_TallySlateModel_166 (by decide) rfl hW ?_
        refine x_iload_n dX10_ends2_216 rfl rfl ?_
        obtain ⟨hb, hT⟩ := hT
        refine m_iald (v := (s1.2.2.1 98 a1.toNatClampNeg)) dX10_ends2_217 rfl hb hW rfl ?_
        refine m_inv (vs := [.int 10, .int (s1.2.2.1 96 a1.toNatClampNeg), .int 0, .int (s1.2.2.1 98 a1.toNatClampNeg)]) dX10_ends2_218 oX10_order q2610 q2608 qs81 rfl rfl (Nat.le_of_ble_eq_true rfl) rfl hW hF hT ?_
        rintro _ s2 ⟨v3, rfl, hT⟩ h hW hF
        refine x_pop dX10_ends2_221 rfl ?_
        refine x_aload_n dX10_ends2_222 rfl rfl rfl ?_
        refine x_aload_n dX10_ends2_223 rfl rfl rfl ?_
        refine x_bipush (v := 11) dX10_ends2_224 rfl ?_
        refine x_aload_n dX10_ends2_226 rfl rfl rfl ?_
        refine m_geta dX10_ends2_227 f_TallySlateModel_160 (by decide) rfl hW ?_
        refine x_iload_n dX10_ends2_230 rfl rfl ?_
        obtain ⟨hb, hT⟩ := hT
        refine m_iald (v := (s2.2.2.1 96 a1.toNatClampNeg)) dX10_ends2_231 rfl hb hW rfl ?_
        refine x_iconst (v := 0) dX10_ends2_232 rfl ?_
        refine x_aload_n dX10_ends2_233 rfl rfl rfl ?_
        refine m_geta dX10_ends2_234 f_TallySlateModel_166 (by decide) rfl hW ?_
        refine x_iload_n dX10_ends2_237 rfl rfl ?_
        obtain ⟨hb, hT⟩ := hT
        refine m_iald (v := (s2.2.2.1 98 a1.toNatClampNeg)) dX10_ends2_238 rfl hb hW rfl ?_
        refine m_inv (vs := [.int 11, .int (s2.2.2.1 96 a1.toNatClampNeg), .int 0, .int (s2.2.2.1 98 a1.toNatClampNeg)]) dX10_ends2_239 oX10_order q2610 q2608 qs81 rfl rfl (Nat.le_of_ble_eq_true rfl) rfl hW hF hT ?_
        rintro _ s4 ⟨v5, rfl, hT⟩ h hW hF
        refine x_aload_n dX10_ends2_242 rfl rfl rfl ?_
        refine m_geta dX10_ends2_243 f_TallySlateModel_169 (by decide) rfl hW ?_
        refine x_iload_n dX10_ends2_246 rfl rfl ?_
        obtain ⟨hb, hT⟩ := hT
        refine m_lald (v := (s4.2.2.2 99 a1.toNatClampNeg)) dX10_ends2_247 rfl hb hW rfl ?_
        refine x_aload_n dX10_ends2_248 rfl rfl rfl ?_
        refine m_geta dX10_ends2_249 f_TallySlateModel_160 (by decide) rfl hW ?_
        refine x_iload_n dX10_ends2_252 rfl rfl ?_
        obtain ⟨hb, hT⟩ := hT
        refine m_iald (v := (s4.2.2.1 96 a1.toNatClampNeg)) dX10_ends2_253 rfl hb hW rfl ?_
        refine x_bipush (v := 28) dX10_ends2_254 rfl ?_
        refine x_icmp_ne (tgt := 263) dX10_ends2_256 rfl (fun c => ?_) (fun c => ?_)
        · have hT := hT.1 c
          refine x_iconst (v := 2) dX10_ends2_263 rfl ?_
          refine x_aload_n dX10_ends2_264 rfl rfl rfl ?_
          refine m_geta dX10_ends2_265 f_TallySlateModel_172 (by decide) rfl hW ?_
          refine x_iload_n dX10_ends2_268 rfl rfl ?_
          obtain ⟨hb, hT⟩ := hT
          refine m_iald (v := (s4.2.2.1 100 a1.toNatClampNeg)) dX10_ends2_269 rfl hb hW rfl ?_
          refine m_inv (vs := [.int v5, .long (s4.2.2.2 99 a1.toNatClampNeg), .int 2, .int (s4.2.2.1 100 a1.toNatClampNeg)]) dX10_ends2_270 oX10_called q2650 q2648 qs91 rfl rfl (Nat.le_of_ble_eq_true rfl) rfl hW hF hT ?_
          rintro _ s6 ⟨rfl, hT⟩ h hW hF
          refine x_iconst (v := 1) dX10_ends2_273 rfl ?_
          exact x_iret dX10_ends2_274 rfl rfl ⟨_, _, rfl, hW, hF, hT⟩
        · have hT := hT.2 c
          refine x_iconst (v := 1) dX10_ends2_259 rfl ?_
          refine x_goto (tgt := 264) dX10_ends2_260 rfl ?_
          refine x_aload_n dX10_ends2_264 rfl rfl rfl ?_
          refine m_geta dX10_ends2_265 f_TallySlateModel_172 (by decide) rfl hW ?_
          refine x_iload_n dX10_ends2_268 rfl rfl ?_
          obtain ⟨hb, hT⟩ := hT
          refine m_iald (v := (s4.2.2.1 100 a1.toNatClampNeg)) dX10_ends2_269 rfl hb hW rfl ?_
          refine m_inv (vs := [.int v5, .long (s4.2.2.2 99 a1.toNatClampNeg), .int 1, .int (s4.2.2.1 100 a1.toNatClampNeg)]) dX10_ends2_270 oX10_called q2650 q2648 qs91 rfl rfl (Nat.le_of_ble_eq_true rfl) rfl hW hF hT ?_
          rintro _ s7 ⟨rfl, hT⟩ h hW hF
          refine x_iconst (v := 1) dX10_ends2_273 rfl ?_
          exact x_iret dX10_ends2_274 rfl rfl ⟨_, _, rfl, hW, hF, hT⟩
      · have hT := hT.2 c
        refine x_aload_n dX10_ends2_168 rfl rfl rfl ?_
        refine x_aload_n dX10_ends2_169 rfl rfl rfl ?_
        refine x_bipush (v := 9) dX10_ends2_170 rfl ?_
        refine x_iconst (v := 0) dX10_ends2_172 rfl ?_
        refine x_iload_n dX10_ends2_173 rfl rfl ?_
        refine x_aload_n dX10_ends2_174 rfl rfl rfl ?_
        refine m_geta dX10_ends2_175 f_TallySlateModel_166 (by decide) rfl hW ?_
        refine x_iload_n dX10_ends2_178 rfl rfl ?_
        obtain ⟨hb, hT⟩ := hT
        refine m_iald (v := (s1.2.2.1 98 a1.toNatClampNeg)) dX10_ends2_179 rfl hb hW rfl ?_
        refine m_inv (vs := [.int 9, .int 0, .int a2, .int (s1.2.2.1 98 a1.toNatClampNeg)]) dX10_ends2_180 oX10_order q2610 q2608 qs81 rfl rfl (Nat.le_of_ble_eq_true rfl) rfl hW hF hT ?_
        rintro _ s8 ⟨v9, rfl, hT⟩ h hW hF
        refine x_aload_n dX10_ends2_183 rfl rfl rfl ?_
        refine m_geta dX10_ends2_184 f_TallySlateModel_169 (by decide) rfl hW ?_
        refine x_iload_n dX10_ends2_187 rfl rfl ?_
        obtain ⟨hb, hT⟩ := hT
        refine m_lald (v := (s8.2.2.2 99 a1.toNatClampNeg)) dX10_ends2_188 rfl hb hW rfl ?_
        refine x_iload_n dX10_ends2_189 rfl rfl ?_
        refine x_aload_n dX10_ends2_190 rfl rfl rfl ?_
        refine m_geta dX10_ends2_191 f_TallySlateModel_172 (by decide) rfl hW ?_
        refine x_iload_n dX10_ends2_194 rfl rfl ?_
        obtain ⟨hb, hT⟩ := hT
        refine m_iald (v := (s8.2.2.1 100 a1.toNatClampNeg)) dX10_ends2_195 rfl hb hW rfl ?_
        refine m_inv (vs := [.int v9, .long (s8.2.2.2 99 a1.toNatClampNeg), .int a2, .int (s8.2.2.1 100 a1.toNatClampNeg)]) dX10_ends2_196 oX10_called q2650 q2648 qs91 rfl rfl (Nat.le_of_ble_eq_true rfl) rfl hW hF hT ?_
        rintro _ s10 ⟨rfl, hT⟩ h hW hF
        refine x_goto (tgt := 273) dX10_ends2_199 rfl ?_
        refine x_iconst (v := 1) dX10_ends2_273 rfl ?_
        exact x_iret dX10_ends2_274 rfl rfl ⟨_, _, rfl, hW, hF, hT⟩
    · have hT := hT.2 c
      refine x_aload_n dX10_ends2_134 rfl rfl rfl ?_
      refine x_bipush (v := 8) dX10_ends2_135 rfl ?_
      refine x_aload_n dX10_ends2_137 rfl rfl rfl ?_
      refine m_geta dX10_ends2_138 f_TallySlateModel_160 (by decide) rfl hW ?_
      refine x_iload_n dX10_ends2_141 rfl rfl ?_
      obtain ⟨hb, hT⟩ := hT
      refine m_iald (v := (s1.2.2.1 96 a1.toNatClampNeg)) dX10_ends2_142 rfl hb hW rfl ?_
      refine x_iload_n dX10_ends2_143 rfl rfl ?_
      refine x_aload_n dX10_ends2_144 rfl rfl rfl ?_
      refine m_geta dX10_ends2_145 f_TallySlateModel_166 (by decide) rfl hW ?_
      refine x_iload_n dX10_ends2_148 rfl rfl ?_
      obtain ⟨hb, hT⟩ := hT
      refine m_iald (v := (s1.2.2.1 98 a1.toNatClampNeg)) dX10_ends2_149 rfl hb hW rfl ?_
      refine m_inv (vs := [.int 8, .int (s1.2.2.1 96 a1.toNatClampNeg), .int a2, .int (s1.2.2.1 98 a1.toNatClampNeg)]) dX10_ends2_150 oX10_order q2610 q2608 qs81 rfl rfl (Nat.le_of_ble_eq_true rfl) rfl hW hF hT ?_
      rintro _ s11 ⟨v12, rfl, hT⟩ h hW hF
      refine x_pop dX10_ends2_153 rfl ?_
      refine x_goto (tgt := 273) dX10_ends2_154 rfl ?_
      refine x_iconst (v := 1) dX10_ends2_273 rfl ?_
      exact x_iret dX10_ends2_274 rfl rfl ⟨_, _, rfl, hW, hF, hT⟩
  · have hT := hT.2 c
    refine x_iconst (v := 1) dX10_ends2_121 rfl ?_
    exact x_iret dX10_ends2_122 rfl rfl ⟨_, _, rfl, hW, hF, hT⟩
theorem vX10_most0_0 {l : Launch} {E : EN} {w : MO} {d : Nat} {s : MS} {Q : Option Value → MS → Prop} {x1 : Int32} (hT : ((¬ x1 = 5 → (inB x1 30 ∧ Q (some (.int (s.2.2.1 58 x1.toNatClampNeg))) s)) ∧ (x1 = 5 → Q (some (.int 6)) s))) : ExM l E w d MX10_most0 0 [some (.ref w.1), some (.int x1)] [] s Q := by
  intro h0 h hW hF
  refine x_iload_n dX10_most0_0 rfl rfl ?_
  refine x_iconst (v := 5) dX10_most0_1 rfl ?_
  refine x_icmp_ne (tgt := 10) dX10_most0_2 rfl (fun c => ?_) (fun c => ?_)
  · have hT := hT.1 c
    refine x_aload_n dX10_most0_10 rfl rfl rfl ?_
    refine m_geta dX10_most0_11 f_TallySlateModel_95 (by decide) rfl hW ?_
    refine x_iload_n dX10_most0_14 rfl rfl ?_
    obtain ⟨hb, hT⟩ := hT
    refine m_iald (v := (s.2.2.1 58 x1.toNatClampNeg)) dX10_most0_15 rfl hb hW rfl ?_
    exact x_iret dX10_most0_16 rfl rfl ⟨_, _, rfl, hW, hF, hT⟩
  · have hT := hT.2 c
    refine x_bipush (v := 6) dX10_most0_5 rfl ?_
    refine x_goto (tgt := 16) dX10_most0_7 rfl ?_
    exact x_iret dX10_most0_16 rfl rfl ⟨_, _, rfl, hW, hF, hT⟩
theorem eX10_most0 {l : Launch} {E : EN} {w : MO} {d : Nat} {s : MS} {Q : Option Value → MS → Prop} {x1 : Int32} (hst : l.stackTraces = false) (hT : ((¬ x1 = 5 → (inB x1 30 ∧ Q (some (.int (s.2.2.1 58 x1.toNatClampNeg))) s)) ∧ (x1 = 5 → Q (some (.int 6)) s))) : EvM l E w d MX10_most0 [.ref w.1, .int x1] s Q :=
  EvM.of hst (by decide) (Nat.le_of_ble_eq_true rfl) (vX10_most0_0 hT)
theorem vX10_called_0 {l : Launch} {E : EN} {w : MO} {d : Nat} {s : MS} {Q : Option Value → MS → Prop} {x1 : Int32} {x2 : Int64} {x3 : Int32} {x4 : Int32} (hT : (inB (s.1 86) 800 ∧ (inB (s.1 86) 800 ∧ (inB (s.1 86) 800 ∧ (inB (s.1 86) 800 ∧ Q none (sI (sA (sA (sB (sA s 87 (s.1 86).toNatClampNeg x1) 90 (s.1 86).toNatClampNeg x2) 89 (s.1 86).toNatClampNeg x3) 88 (s.1 86).toNatClampNeg x4) 86 ((s.1 86) + 1))))))) : ExM l E w d MX10_called 0 [some (.ref w.1), some (.int x1), some (.long x2), none, some (.int x3), some (.int x4)] [] s Q := by
  intro h0 h hW hF
  refine x_aload_n dX10_called_0 rfl rfl rfl ?_
  refine m_geta dX10_called_1 f_TallySlateModel_136 (by decide) rfl hW ?_
  refine x_aload_n dX10_called_4 rfl rfl rfl ?_
  refine m_geti (v := (s.1 86)) dX10_called_5 f_TallySlateModel_346 (by decide) rfl hW rfl ?_
  refine x_iload_n dX10_called_8 rfl rfl ?_
  obtain ⟨hb, hT⟩ := hT
  refine m_iast dX10_called_9 rfl hb hW hF ?_
  intro h hW hF
  refine x_aload_n dX10_called_10 rfl rfl rfl ?_
  refine m_geta dX10_called_11 f_TallySlateModel_145 (by decide) rfl hW ?_
  refine x_aload_n dX10_called_14 rfl rfl rfl ?_
  refine m_geti (v := (s.1 86)) dX10_called_15 f_TallySlateModel_346 (by decide) rfl hW rfl ?_
  refine x_lload_n dX10_called_18 rfl rfl ?_
  obtain ⟨hb, hT⟩ := hT
  refine m_last dX10_called_19 rfl hb hW hF ?_
  intro h hW hF
  refine x_aload_n dX10_called_20 rfl rfl rfl ?_
  refine m_geta dX10_called_21 f_TallySlateModel_142 (by decide) rfl hW ?_
  refine x_aload_n dX10_called_24 rfl rfl rfl ?_
  refine m_geti (v := (s.1 86)) dX10_called_25 f_TallySlateModel_346 (by decide) rfl hW rfl ?_
  refine x_iload dX10_called_28 rfl ?_
  obtain ⟨hb, hT⟩ := hT
  refine m_iast dX10_called_30 rfl hb hW hF ?_
  intro h hW hF
  refine x_aload_n dX10_called_31 rfl rfl rfl ?_
  refine m_geta dX10_called_32 f_TallySlateModel_139 (by decide) rfl hW ?_
  refine x_aload_n dX10_called_35 rfl rfl rfl ?_
  refine m_geti (v := (s.1 86)) dX10_called_36 f_TallySlateModel_346 (by decide) rfl hW rfl ?_
  refine x_iload dX10_called_39 rfl ?_
  obtain ⟨hb, hT⟩ := hT
  refine m_iast dX10_called_41 rfl hb hW hF ?_
  intro h hW hF
  refine x_aload_n dX10_called_42 rfl rfl rfl ?_
  refine x_dup dX10_called_43 rfl ?_
  refine m_geti (v := (s.1 86)) dX10_called_44 f_TallySlateModel_346 (by decide) rfl hW rfl ?_
  refine x_iconst (v := 1) dX10_called_47 rfl ?_
  refine x_iadd dX10_called_48 ?_
  refine m_puti dX10_called_49 f_TallySlateModel_346 (by decide) rfl rfl rfl rfl hW hF ?_
  intro h hW hF
  exact x_vret dX10_called_52 rfl ⟨_, _, rfl, hW, hF, hT⟩
theorem eX10_called {l : Launch} {E : EN} {w : MO} {d : Nat} {s : MS} {Q : Option Value → MS → Prop} {x1 : Int32} {x2 : Int64} {x3 : Int32} {x4 : Int32} (hst : l.stackTraces = false) (hT : (inB (s.1 86) 800 ∧ (inB (s.1 86) 800 ∧ (inB (s.1 86) 800 ∧ (inB (s.1 86) 800 ∧ Q none (sI (sA (sA (sB (sA s 87 (s.1 86).toNatClampNeg x1) 90 (s.1 86).toNatClampNeg x2) 89 (s.1 86).toNatClampNeg x3) 88 (s.1 86).toNatClampNeg x4) 86 ((s.1 86) + 1))))))) : EvM l E w d MX10_called [.ref w.1, .int x1, .long x2, .int x3, .int x4] s Q :=
  EvM.of hst (by decide) (Nat.le_of_ble_eq_true rfl) (vX10_called_0 hT)
set_option maxHeartbeats 16000000 in
theorem vX10_begins1_0 {l : Launch} {E : EN} {w : MO} {d : Nat} {s : MS} {Q : Option Value → MS → Prop} {x1 : Int32} {x2 : Int32} (hT : (∀ y1 : Int64, y1 = (s.2.1 64) → (∀ y2 : Int32, y2 = (x1 - 11) → (EvM l E w d MX10_take [.ref w.1] s (fun r s3 => r = none ∧ (EvM l E w d MX10_opens [.ref w.1, .int 40] s3 (fun r s4 => r = none ∧ (((s4.1 66) ≤ 0 → ((0 ≤ x1 → ((y2 < 28 → (EvM l E w d MX10_wait [.ref w.1, .int 7, .int y2, .int x2] s4 (fun r s5 => r = none ∧ (inB ((s5.1 101) - 1) 80 ∧ (inB ((s5.1 101) - 1) 80 ∧ ((x1 < 0 → (EvM l E w d MX10_isSign [.ref w.1, .int 41] (sA (sB s5 99 ((s5.1 101) - 1).toNatClampNeg y1) 100 ((s5.1 101) - 1).toNatClampNeg x2) (fun r s6 => ∃ v7 : Int32, r = some (.int v7) ∧ ((v7 = 0 → Q (some (.int 0)) s6) ∧ (¬ v7 = 0 → (EvM l E w d MX10_ends2 [.ref w.1] s6 (fun r s8 => ∃ v9 : Int32, r = some (.int v9) ∧ ((v9 = 0 → Q (some (.int 0)) s8) ∧ (¬ v9 = 0 → Q (some (.int 1)) s8))))))))) ∧ (¬ x1 < 0 → ((y2 < 28 → (EvM l E w d MX10_isSign [.ref w.1, .int 41] (sA (sB s5 99 ((s5.1 101) - 1).toNatClampNeg y1) 100 ((s5.1 101) - 1).toNatClampNeg x2) (fun r s10 => ∃ v11 : Int32, r = some (.int v11) ∧ ((v11 = 0 → Q (some (.int 0)) s10) ∧ (¬ v11 = 0 → (EvM l E w d MX10_ends2 [.ref w.1] s10 (fun r s12 => ∃ v13 : Int32, r = some (.int v13) ∧ ((v13 = 0 → Q (some (.int 0)) s12) ∧ (¬ v13 = 0 → Q (some (.int 1)) s12))))))))) ∧ (¬ y2 < 28 → (inB ((s5.1 101) - 1) 80 ∧ (inB ((s5.1 101) - 1) 80 ∧ (EvM l E w d MX10_isName [.ref w.1] (sA (sB (sA (sB s5 99 ((s5.1 101) - 1).toNatClampNeg y1) 100 ((s5.1 101) - 1).toNatClampNeg x2) 99 ((s5.1 101) - 1).toNatClampNeg (s5.2.1 64)) 100 ((s5.1 101) - 1).toNatClampNeg (s5.1 63)) (fun r s14 => ∃ v15 : Int32, r = some (.int v15) ∧ ((v15 = 0 → (EvM l E w d MX10_wrong [.ref w.1] s14 (fun r s16 => r = none ∧ (EvM l E w d MX10_sign [.ref w.1, .int 44] s16 (fun r s17 => r = none ∧ Q (some (.int 0)) s17))))) ∧ (¬ v15 = 0 → (EvM l E w d MX10_take [.ref w.1] s14 (fun r s18 => r = none ∧ (EvM l E w d MX10_sign [.ref w.1, .int 44] s18 (fun r s19 => r = none ∧ Q (some (.int 0)) s19))))))))))))))))))) ∧ (¬ y2 < 28 → (EvM l E w d MX10_wait [.ref w.1, .int 8, .int y2, .int x2] s4 (fun r s20 => r = none ∧ (inB ((s20.1 101) - 1) 80 ∧ (inB ((s20.1 101) - 1) 80 ∧ ((x1 < 0 → (EvM l E w d MX10_isSign [.ref w.1, .int 41] (sA (sB s20 99 ((s20.1 101) - 1).toNatClampNeg y1) 100 ((s20.1 101) - 1).toNatClampNeg x2) (fun r s21 => ∃ v22 : Int32, r = some (.int v22) ∧ ((v22 = 0 → Q (some (.int 0)) s21) ∧ (¬ v22 = 0 → (EvM l E w d MX10_ends2 [.ref w.1] s21 (fun r s23 => ∃ v24 : Int32, r = some (.int v24) ∧ ((v24 = 0 → Q (some (.int 0)) s23) ∧ (¬ v24 = 0 → Q (some (.int 1)) s23))))))))) ∧ (¬ x1 < 0 → ((y2 < 28 → (EvM l E w d MX10_isSign [.ref w.1, .int 41] (sA (sB s20 99 ((s20.1 101) - 1).toNatClampNeg y1) 100 ((s20.1 101) - 1).toNatClampNeg x2) (fun r s25 => ∃ v26 : Int32, r = some (.int v26) ∧ ((v26 = 0 → Q (some (.int 0)) s25) ∧ (¬ v26 = 0 → (EvM l E w d MX10_ends2 [.ref w.1] s25 (fun r s27 => ∃ v28 : Int32, r = some (.int v28) ∧ ((v28 = 0 → Q (some (.int 0)) s27) ∧ (¬ v28 = 0 → Q (some (.int 1)) s27))))))))) ∧ (¬ y2 < 28 → (inB ((s20.1 101) - 1) 80 ∧ (inB ((s20.1 101) - 1) 80 ∧ (EvM l E w d MX10_isName [.ref w.1] (sA (sB (sA (sB s20 99 ((s20.1 101) - 1).toNatClampNeg y1) 100 ((s20.1 101) - 1).toNatClampNeg x2) 99 ((s20.1 101) - 1).toNatClampNeg (s20.2.1 64)) 100 ((s20.1 101) - 1).toNatClampNeg (s20.1 63)) (fun r s29 => ∃ v30 : Int32, r = some (.int v30) ∧ ((v30 = 0 → (EvM l E w d MX10_wrong [.ref w.1] s29 (fun r s31 => r = none ∧ (EvM l E w d MX10_sign [.ref w.1, .int 44] s31 (fun r s32 => r = none ∧ Q (some (.int 0)) s32))))) ∧ (¬ v30 = 0 → (EvM l E w d MX10_take [.ref w.1] s29 (fun r s33 => r = none ∧ (EvM l E w d MX10_sign [.ref w.1, .int 44] s33 (fun r s34 => r = none ∧ Q (some (.int 0)) s34))))))))))))))))))))) ∧ (¬ 0 ≤ x1 → (EvM l E w d MX10_wait [.ref w.1, .int 6, .int y2, .int x2] s4 (fun r s35 => r = none ∧ (inB ((s35.1 101) - 1) 80 ∧ (inB ((s35.1 101) - 1) 80 ∧ ((x1 < 0 → (EvM l E w d MX10_isSign [.ref w.1, .int 41] (sA (sB s35 99 ((s35.1 101) - 1).toNatClampNeg y1) 100 ((s35.1 101) - 1).toNatClampNeg x2) (fun r s36 => ∃ v37 : Int32, r = some (.int v37) ∧ ((v37 = 0 → Q (some (.int 0)) s36) ∧ (¬ v37 = 0 → (EvM l E w d MX10_ends2 [.ref w.1] s36 (fun r s38 => ∃ v39 : Int32, r = some (.int v39) ∧ ((v39 = 0 → Q (some (.int 0)) s38) ∧ (¬ v39 = 0 → Q (some (.int 1)) s38))))))))) ∧ (¬ x1 < 0 → ((y2 < 28 → (EvM l E w d MX10_isSign [.ref w.1, .int 41] (sA (sB s35 99 ((s35.1 101) - 1).toNatClampNeg y1) 100 ((s35.1 101) - 1).toNatClampNeg x2) (fun r s40 => ∃ v41 : Int32, r = some (.int v41) ∧ ((v41 = 0 → Q (some (.int 0)) s40) ∧ (¬ v41 = 0 → (EvM l E w d MX10_ends2 [.ref w.1] s40 (fun r s42 => ∃ v43 : Int32, r = some (.int v43) ∧ ((v43 = 0 → Q (some (.int 0)) s42) ∧ (¬ v43 = 0 → Q (some (.int 1)) s42))))))))) ∧ (¬ y2 < 28 → (inB ((s35.1 101) - 1) 80 ∧ (inB ((s35.1 101) - 1) 80 ∧ (EvM l E w d MX10_isName [.ref w.1] (sA (sB (sA (sB s35 99 ((s35.1 101) - 1).toNatClampNeg y1) 100 ((s35.1 101) - 1).toNatClampNeg x2) 99 ((s35.1 101) - 1).toNatClampNeg (s35.2.1 64)) 100 ((s35.1 101) - 1).toNatClampNeg (s35.1 63)) (fun r s44 => ∃ v45 : Int32, r = some (.int v45) ∧ ((v45 = 0 → (EvM l E w d MX10_wrong [.ref w.1] s44 (fun r s46 => r = none ∧ (EvM l E w d MX10_sign [.ref w.1, .int 44] s46 (fun r s47 => r = none ∧ Q (some (.int 0)) s47))))) ∧ (¬ v45 = 0 → (EvM l E w d MX10_take [.ref w.1] s44 (fun r s48 => r = none ∧ (EvM l E w d MX10_sign [.ref w.1, .int 44] s48 (fun r s49 => r = none ∧ Q (some (.int 0)) s49))))))))))))))))))))) ∧ (¬ (s4.1 66) ≤ 0 → Q (some (.int 0)) s4))))))))) : ExM l E w (d + 1) MX10_begins1 0 [some (.ref w.1), some (.int x1), some (.int x2), none, none, none] [] s Q := by
  intro h0 h hW hF
  refine x_aload_n dX10_begins1_0 rfl rfl rfl ?_
  refine m_getl (v := (s.2.1 64)) dX10_begins1_1 f_TallySlateModel_272 (by decide) rfl hW rfl ?_
  obtain ⟨y1, ey1⟩ : ∃ z : Int64, z = (s.2.1 64) := ⟨_, rfl⟩
  have hT := hT y1 ey1
  refine x_lstore_n (lo' := [some (.ref w.1), some (.int x1), some (.int x2), some (.long y1), none, none]) dX10_begins1_4 rfl (Nat.le_of_ble_eq_true rfl) (by rw [ey1]; rfl) ?_
  refine x_iload_n dX10_begins1_5 rfl rfl ?_
  refine x_bipush (v := 11) dX10_begins1_6 rfl ?_
  refine x_isub dX10_begins1_8 ?_
  obtain ⟨y2, ey2⟩ : ∃ z : Int32, z = (x1 - 11) := ⟨_, rfl⟩
  have hT := hT y2 ey2
  refine x_istore (lo' := [some (.ref w.1), some (.int x1), some (.int x2), some (.long y1), none, some (.int y2)]) dX10_begins1_9 (Nat.le_of_ble_eq_true rfl) (by rw [ey2]; rfl) ?_
  refine x_aload_n dX10_begins1_11 rfl rfl rfl ?_
  refine m_inv (vs := []) dX10_begins1_12 oX10_take q2558 q2556 qs69 rfl rfl (Nat.le_of_ble_eq_true rfl) rfl hW hF hT ?_
  rintro _ s3 ⟨rfl, hT⟩ h hW hF
  refine x_aload_n dX10_begins1_15 rfl rfl rfl ?_
  refine x_bipush (v := 40) dX10_begins1_16 rfl ?_
  refine m_inv (vs := [.int 40]) dX10_begins1_18 oX10_opens q2586 q2584 qs75 rfl rfl (Nat.le_of_ble_eq_true rfl) rfl hW hF hT ?_
  rintro _ s4 ⟨rfl, hT⟩ h hW hF
  refine x_aload_n dX10_begins1_21 rfl rfl rfl ?_
  refine m_geti (v := (s4.1 66)) dX10_begins1_22 f_TallySlateModel_311 (by decide) rfl hW rfl ?_
  refine x_if_le (tgt := 30) dX10_begins1_25 rfl (fun c => ?_) (fun c => ?_)
  · have hT := hT.1 c
    refine x_aload_n dX10_begins1_30 rfl rfl rfl ?_
    refine x_iload_n dX10_begins1_31 rfl rfl ?_
    refine x_if_ge (tgt := 40) dX10_begins1_32 rfl (fun c => ?_) (fun c => ?_)
    · have hT := hT.1 c
      refine x_iload dX10_begins1_40 rfl ?_
      refine x_bipush (v := 28) dX10_begins1_42 rfl ?_
      refine x_icmp_lt (tgt := 52) dX10_begins1_44 rfl (fun c => ?_) (fun c => ?_)
      · have hT := hT.1 c
        refine x_bipush (v := 7) dX10_begins1_52 rfl ?_
        refine x_iload dX10_begins1_54 rfl ?_
        refine x_iload_n dX10_begins1_56 rfl rfl ?_
        refine m_inv (vs := [.int 7, .int y2, .int x2]) dX10_begins1_57 oX10_wait q2638 q2636 qs88 rfl rfl (Nat.le_of_ble_eq_true rfl) rfl hW hF hT ?_
        rintro _ s5 ⟨rfl, hT⟩ h hW hF
        refine x_aload_n dX10_begins1_60 rfl rfl rfl ?_
        refine m_geta dX10_begins1_61 f_TallySlateModel_169 (by decide) rfl hW ?_
        refine x_aload_n dX10_begins1_64 rfl rfl rfl ?_
        refine m_geti (v := (s5.1 101)) dX10_begins1_65 f_TallySlateModel_413 (by decide) rfl hW rfl ?_
        refine x_iconst (v := 1) dX10_begins1_68 rfl ?_
        refine x_isub dX10_begins1_69 ?_
        refine x_lload_n dX10_begins1_70 rfl rfl ?_
        obtain ⟨hb, hT⟩ := hT
        refine m_last dX10_begins1_71 rfl hb hW hF ?_
        intro h hW hF
        refine x_aload_n dX10_begins1_72 rfl rfl rfl ?_
        refine m_geta dX10_begins1_73 f_TallySlateModel_172 (by decide) rfl hW ?_
        refine x_aload_n dX10_begins1_76 rfl rfl rfl ?_
        refine m_geti (v := (s5.1 101)) dX10_begins1_77 f_TallySlateModel_413 (by decide) rfl hW rfl ?_
        refine x_iconst (v := 1) dX10_begins1_80 rfl ?_
        refine x_isub dX10_begins1_81 ?_
        refine x_iload_n dX10_begins1_82 rfl rfl ?_
        obtain ⟨hb, hT⟩ := hT
        refine m_iast dX10_begins1_83 rfl hb hW hF ?_
        intro h hW hF
        refine x_iload_n dX10_begins1_84 rfl rfl ?_
        refine x_if_lt (tgt := 151) dX10_begins1_85 rfl (fun c => ?_) (fun c => ?_)
        · have hT := hT.1 c
          refine x_aload_n dX10_begins1_151 rfl rfl rfl ?_
          refine x_bipush (v := 41) dX10_begins1_152 rfl ?_
          refine m_inv (vs := [.int 41]) dX10_begins1_154 oX10_isSign q2590 q2588 qs76 rfl rfl (Nat.le_of_ble_eq_true rfl) rfl hW hF hT ?_
          rintro _ s6 ⟨v7, rfl, hT⟩ h hW hF
          refine x_if_eq (tgt := 171) dX10_begins1_157 rfl (fun c => ?_) (fun c => ?_)
          · have hT := hT.1 c
            refine x_iconst (v := 0) dX10_begins1_171 rfl ?_
            exact x_iret dX10_begins1_172 rfl rfl ⟨_, _, rfl, hW, hF, hT⟩
          · have hT := hT.2 c
            refine x_aload_n dX10_begins1_160 rfl rfl rfl ?_
            refine m_inv (vs := []) dX10_begins1_161 oX10_ends2 q2642 q2640 qs89 rfl rfl (Nat.le_of_ble_eq_true rfl) rfl hW hF hT ?_
            rintro _ s8 ⟨v9, rfl, hT⟩ h hW hF
            refine x_if_eq (tgt := 171) dX10_begins1_164 rfl (fun c => ?_) (fun c => ?_)
            · have hT := hT.1 c
              refine x_iconst (v := 0) dX10_begins1_171 rfl ?_
              exact x_iret dX10_begins1_172 rfl rfl ⟨_, _, rfl, hW, hF, hT⟩
            · have hT := hT.2 c
              refine x_iconst (v := 1) dX10_begins1_167 rfl ?_
              refine x_goto (tgt := 172) dX10_begins1_168 rfl ?_
              exact x_iret dX10_begins1_172 rfl rfl ⟨_, _, rfl, hW, hF, hT⟩
        · have hT := hT.2 c
          refine x_iload dX10_begins1_88 rfl ?_
          refine x_bipush (v := 28) dX10_begins1_90 rfl ?_
          refine x_icmp_lt (tgt := 151) dX10_begins1_92 rfl (fun c => ?_) (fun c => ?_)
          · have hT := hT.1 c
            refine x_aload_n dX10_begins1_151 rfl rfl rfl ?_
            refine x_bipush (v := 41) dX10_begins1_152 rfl ?_
            refine m_inv (vs := [.int 41]) dX10_begins1_154 oX10_isSign q2590 q2588 qs76 rfl rfl (Nat.le_of_ble_eq_true rfl) rfl hW hF hT ?_
            rintro _ s10 ⟨v11, rfl, hT⟩ h hW hF
            refine x_if_eq (tgt := 171) dX10_begins1_157 rfl (fun c => ?_) (fun c => ?_)
            · have hT := hT.1 c
              refine x_iconst (v := 0) dX10_begins1_171 rfl ?_
              exact x_iret dX10_begins1_172 rfl rfl ⟨_, _, rfl, hW, hF, hT⟩
            · have hT := hT.2 c
              refine x_aload_n dX10_begins1_160 rfl rfl rfl ?_
              refine m_inv (vs := []) dX10_begins1_161 oX10_ends2 q2642 q2640 qs89 rfl rfl (Nat.le_of_ble_eq_true rfl) rfl hW hF hT ?_
              rintro _ s12 ⟨v13, rfl, hT⟩ h hW hF
              refine x_if_eq (tgt := 171) dX10_begins1_164 rfl (fun c => ?_) (fun c => ?_)
              · have hT := hT.1 c
                refine x_iconst (v := 0) dX10_begins1_171 rfl ?_
                exact x_iret dX10_begins1_172 rfl rfl ⟨_, _, rfl, hW, hF, hT⟩
              · have hT := hT.2 c
                refine x_iconst (v := 1) dX10_begins1_167 rfl ?_
                refine x_goto (tgt := 172) dX10_begins1_168 rfl ?_
                exact x_iret dX10_begins1_172 rfl rfl ⟨_, _, rfl, hW, hF, hT⟩
          · have hT := hT.2 c
            refine x_aload_n dX10_begins1_95 rfl rfl rfl ?_
            refine m_geta dX10_begins1_96 f_TallySlateModel_169 (by decide) rfl hW ?_
            refine x_aload_n dX10_begins1_99 rfl rfl rfl ?_
            refine m_geti (v := (s5.1 101)) dX10_begins1_100 f_TallySlateModel_413 (by decide) rfl hW rfl ?_
            refine x_iconst (v := 1) dX10_begins1_103 rfl ?_
            refine x_isub dX10_begins1_104 ?_
            refine x_aload_n dX10_begins1_105 rfl rfl rfl ?_
            refine m_getl (v := (s5.2.1 64)) dX10_begins1_106 f_TallySlateModel_272 (by decide) rfl hW rfl ?_
            obtain ⟨hb, hT⟩ := hT
            refine m_last dX10_begins1_109 rfl hb hW hF ?_
            intro h hW hF
            refine x_aload_n dX10_begins1_110 rfl rfl rfl ?_
            refine m_geta dX10_begins1_111 f_TallySlateModel_172 (by decide) rfl hW ?_
            refine x_aload_n dX10_begins1_114 rfl rfl rfl ?_
            refine m_geti (v := (s5.1 101)) dX10_begins1_115 f_TallySlateModel_413 (by decide) rfl hW rfl ?_
            refine x_iconst (v := 1) dX10_begins1_118 rfl ?_
            refine x_isub dX10_begins1_119 ?_
            refine x_aload_n dX10_begins1_120 rfl rfl rfl ?_
            refine m_geti (v := (s5.1 63)) dX10_begins1_121 f_TallySlateModel_269 (by decide) rfl hW rfl ?_
            obtain ⟨hb, hT⟩ := hT
            refine m_iast dX10_begins1_124 rfl hb hW hF ?_
            intro h hW hF
            refine x_aload_n dX10_begins1_125 rfl rfl rfl ?_
            refine m_inv (vs := []) dX10_begins1_126 oX10_isName q2570 q2568 qs72 rfl rfl (Nat.le_of_ble_eq_true rfl) rfl hW hF hT ?_
            rintro _ s14 ⟨v15, rfl, hT⟩ h hW hF
            refine x_if_eq (tgt := 139) dX10_begins1_129 rfl (fun c => ?_) (fun c => ?_)
            · have hT := hT.1 c
              refine x_aload_n dX10_begins1_139 rfl rfl rfl ?_
              refine m_inv (vs := []) dX10_begins1_140 oX10_wrong q2562 q2560 qs70 rfl rfl (Nat.le_of_ble_eq_true rfl) rfl hW hF hT ?_
              rintro _ s16 ⟨rfl, hT⟩ h hW hF
              refine x_aload_n dX10_begins1_143 rfl rfl rfl ?_
              refine x_bipush (v := 44) dX10_begins1_144 rfl ?_
              refine m_inv (vs := [.int 44]) dX10_begins1_146 oX10_sign q2594 q2592 qs77 rfl rfl (Nat.le_of_ble_eq_true rfl) rfl hW hF hT ?_
              rintro _ s17 ⟨rfl, hT⟩ h hW hF
              refine x_iconst (v := 0) dX10_begins1_149 rfl ?_
              exact x_iret dX10_begins1_150 rfl rfl ⟨_, _, rfl, hW, hF, hT⟩
            · have hT := hT.2 c
              refine x_aload_n dX10_begins1_132 rfl rfl rfl ?_
              refine m_inv (vs := []) dX10_begins1_133 oX10_take q2558 q2556 qs69 rfl rfl (Nat.le_of_ble_eq_true rfl) rfl hW hF hT ?_
              rintro _ s18 ⟨rfl, hT⟩ h hW hF
              refine x_goto (tgt := 143) dX10_begins1_136 rfl ?_
              refine x_aload_n dX10_begins1_143 rfl rfl rfl ?_
              refine x_bipush (v := 44) dX10_begins1_144 rfl ?_
              refine m_inv (vs := [.int 44]) dX10_begins1_146 oX10_sign q2594 q2592 qs77 rfl rfl (Nat.le_of_ble_eq_true rfl) rfl hW hF hT ?_
              rintro _ s19 ⟨rfl, hT⟩ h hW hF
              refine x_iconst (v := 0) dX10_begins1_149 rfl ?_
              exact x_iret dX10_begins1_150 rfl rfl ⟨_, _, rfl, hW, hF, hT⟩
      · have hT := hT.2 c
        refine x_bipush (v := 8) dX10_begins1_47 rfl ?_
        refine x_goto (tgt := 54) dX10_begins1_49 rfl ?_
        refine x_iload dX10_begins1_54 rfl ?_
        refine x_iload_n dX10_begins1_56 rfl rfl ?_
        refine m_inv (vs := [.int 8, .int y2, .int x2]) dX10_begins1_57 oX10_wait q2638 q2636 qs88 rfl rfl (Nat.le_of_ble_eq_true rfl) rfl hW hF hT ?_
        rintro _ s20 ⟨rfl, hT⟩ h hW hF
        refine x_aload_n dX10_begins1_60 rfl rfl rfl ?_
        refine m_geta dX10_begins1_61 f_TallySlateModel_169 (by decide) rfl hW ?_
        refine x_aload_n dX10_begins1_64 rfl rfl rfl ?_
        refine m_geti (v := (s20.1 101)) dX10_begins1_65 f_TallySlateModel_413 (by decide) rfl hW rfl ?_
        refine x_iconst (v := 1) dX10_begins1_68 rfl ?_
        refine x_isub dX10_begins1_69 ?_
        refine x_lload_n dX10_begins1_70 rfl rfl ?_
        obtain ⟨hb, hT⟩ := hT
        refine m_last dX10_begins1_71 rfl hb hW hF ?_
        intro h hW hF
        refine x_aload_n dX10_begins1_72 rfl rfl rfl ?_
        refine m_geta dX10_begins1_73 f_TallySlateModel_172 (by decide) rfl hW ?_
        refine x_aload_n dX10_begins1_76 rfl rfl rfl ?_
        refine m_geti (v := (s20.1 101)) dX10_begins1_77 f_TallySlateModel_413 (by decide) rfl hW rfl ?_
        refine x_iconst (v := 1) dX10_begins1_80 rfl ?_
        refine x_isub dX10_begins1_81 ?_
        refine x_iload_n dX10_begins1_82 rfl rfl ?_
        obtain ⟨hb, hT⟩ := hT
        refine m_iast dX10_begins1_83 rfl hb hW hF ?_
        intro h hW hF
        refine x_iload_n dX10_begins1_84 rfl rfl ?_
        refine x_if_lt (tgt := 151) dX10_begins1_85 rfl (fun c => ?_) (fun c => ?_)
        · have hT := hT.1 c
          refine x_aload_n dX10_begins1_151 rfl rfl rfl ?_
          refine x_bipush (v := 41) dX10_begins1_152 rfl ?_
          refine m_inv (vs := [.int 41]) dX10_begins1_154 oX10_isSign q2590 q2588 qs76 rfl rfl (Nat.le_of_ble_eq_true rfl) rfl hW hF hT ?_
          rintro _ s21 ⟨v22, rfl, hT⟩ h hW hF
          refine x_if_eq (tgt := 171) dX10_begins1_157 rfl (fun c => ?_) (fun c => ?_)
          · have hT := hT.1 c
            refine x_iconst (v := 0) dX10_begins1_171 rfl ?_
            exact x_iret dX10_begins1_172 rfl rfl ⟨_, _, rfl, hW, hF, hT⟩
          · have hT := hT.2 c
            refine x_aload_n dX10_begins1_160 rfl rfl rfl ?_
            refine m_inv (vs := []) dX10_begins1_161 oX10_ends2 q2642 q2640 qs89 rfl rfl (Nat.le_of_ble_eq_true rfl) rfl hW hF hT ?_
            rintro _ s23 ⟨v24, rfl, hT⟩ h hW hF
            refine x_if_eq (tgt := 171) dX10_begins1_164 rfl (fun c => ?_) (fun c => ?_)
            · have hT := hT.1 c
              refine x_iconst (v := 0) dX10_begins1_171 rfl ?_
              exact x_iret dX10_begins1_172 rfl rfl ⟨_, _, rfl, hW, hF, hT⟩
            · have hT := hT.2 c
              refine x_iconst (v := 1) dX10_begins1_167 rfl ?_
              refine x_goto (tgt := 172) dX10_begins1_168 rfl ?_
              exact x_iret dX10_begins1_172 rfl rfl ⟨_, _, rfl, hW, hF, hT⟩
        · have hT := hT.2 c
          refine x_iload dX10_begins1_88 rfl ?_
          refine x_bipush (v := 28) dX10_begins1_90 rfl ?_
          refine x_icmp_lt (tgt := 151) dX10_begins1_92 rfl (fun c => ?_) (fun c => ?_)
          · have hT := hT.1 c
            refine x_aload_n dX10_begins1_151 rfl rfl rfl ?_
            refine x_bipush (v := 41) dX10_begins1_152 rfl ?_
            refine m_inv (vs := [.int 41]) dX10_begins1_154 oX10_isSign q2590 q2588 qs76 rfl rfl (Nat.le_of_ble_eq_true rfl) rfl hW hF hT ?_
            rintro _ s25 ⟨v26, rfl, hT⟩ h hW hF
            refine x_if_eq (tgt := 171) dX10_begins1_157 rfl (fun c => ?_) (fun c => ?_)
            · have hT := hT.1 c
              refine x_iconst (v := 0) dX10_begins1_171 rfl ?_
              exact x_iret dX10_begins1_172 rfl rfl ⟨_, _, rfl, hW, hF, hT⟩
            · have hT := hT.2 c
              refine x_aload_n dX10_begins1_160 rfl rfl rfl ?_
              refine m_inv (vs := []) dX10_begins1_161 oX10_ends2 q2642 q2640 qs89 rfl rfl (Nat.le_of_ble_eq_true rfl) rfl hW hF hT ?_
              rintro _ s27 ⟨v28, rfl, hT⟩ h hW hF
              refine x_if_eq (tgt := 171) dX10_begins1_164 rfl (fun c => ?_) (fun c => ?_)
              · have hT := hT.1 c
                refine x_iconst (v := 0) dX10_begins1_171 rfl ?_
                exact x_iret dX10_begins1_172 rfl rfl ⟨_, _, rfl, hW, hF, hT⟩
              · have hT := hT.2 c
                refine x_iconst (v := 1) dX10_begins1_167 rfl ?_
                refine x_goto (tgt := 172) dX10_begins1_168 rfl ?_
                exact x_iret dX10_begins1_172 rfl rfl ⟨_, _, rfl, hW, hF, hT⟩
          · have hT := hT.2 c
            refine x_aload_n dX10_begins1_95 rfl rfl rfl ?_
            refine m_geta dX10_begins1_96 f_TallySlateModel_169 (by decide) rfl hW ?_
            refine x_aload_n dX10_begins1_99 rfl rfl rfl ?_
            refine m_geti (v := (s20.1 101)) dX10_begins1_100 f_TallySlateModel_413 (by decide) rfl hW rfl ?_
            refine x_iconst (v := 1) dX10_begins1_103 rfl ?_
            refine x_isub dX10_begins1_104 ?_
            refine x_aload_n dX10_begins1_105 rfl rfl rfl ?_
            refine m_getl (v := (s20.2.1 64)) dX10_begins1_106 f_TallySlateModel_272 (by decide) rfl hW rfl ?_
            obtain ⟨hb, hT⟩ := hT
            refine m_last dX10_begins1_109 rfl hb hW hF ?_
            intro h hW hF
            refine x_aload_n dX10_begins1_110 rfl rfl rfl ?_
            refine m_geta dX10_begins1_111 f_TallySlateModel_172 (by decide) rfl hW ?_
            refine x_aload_n dX10_begins1_114 rfl rfl rfl ?_
            refine m_geti (v := (s20.1 101)) dX10_begins1_115 f_TallySlateModel_413 (by decide) rfl hW rfl ?_
            refine x_iconst (v := 1) dX10_begins1_118 rfl ?_
            refine x_isub dX10_begins1_119 ?_
            refine x_aload_n dX10_begins1_120 rfl rfl rfl ?_
            refine m_geti (v := (s20.1 63)) dX10_begins1_121 f_TallySlateModel_269 (by decide) rfl hW rfl ?_
            obtain ⟨hb, hT⟩ := hT
            refine m_iast dX10_begins1_124 rfl hb hW hF ?_
            intro h hW hF
            refine x_aload_n dX10_begins1_125 rfl rfl rfl ?_
            refine m_inv (vs := []) dX10_begins1_126 oX10_isName q2570 q2568 qs72 rfl rfl (Nat.le_of_ble_eq_true rfl) rfl hW hF hT ?_
            rintro _ s29 ⟨v30, rfl, hT⟩ h hW hF
            refine x_if_eq (tgt := 139) dX10_begins1_129 rfl (fun c => ?_) (fun c => ?_)
            · have hT := hT.1 c
              refine x_aload_n dX10_begins1_139 rfl rfl rfl ?_
              refine m_inv (vs := []) dX10_begins1_140 oX10_wrong q2562 q2560 qs70 rfl rfl (Nat.le_of_ble_eq_true rfl) rfl hW hF hT ?_
              rintro _ s31 ⟨rfl, hT⟩ h hW hF
              refine x_aload_n dX10_begins1_143 rfl rfl rfl ?_
              refine x_bipush (v := 44) dX10_begins1_144 rfl ?_
              refine m_inv (vs := [.int 44]) dX10_begins1_146 oX10_sign q2594 q2592 qs77 rfl rfl (Nat.le_of_ble_eq_true rfl) rfl hW hF hT ?_
              rintro _ s32 ⟨rfl, hT⟩ h hW hF
              refine x_iconst (v := 0) dX10_begins1_149 rfl ?_
              exact x_iret dX10_begins1_150 rfl rfl ⟨_, _, rfl, hW, hF, hT⟩
            · have hT := hT.2 c
              refine x_aload_n dX10_begins1_132 rfl rfl rfl ?_
              refine m_inv (vs := []) dX10_begins1_133 oX10_take q2558 q2556 qs69 rfl rfl (Nat.le_of_ble_eq_true rfl) rfl hW hF hT ?_
              rintro _ s33 ⟨rfl, hT⟩ h hW hF
              refine x_goto (tgt := 143) dX10_begins1_136 rfl ?_
              refine x_aload_n dX10_begins1_143 rfl rfl rfl ?_
              refine x_bipush (v := 44) dX10_begins1_144 rfl ?_
              refine m_inv (vs := [.int 44]) dX10_begins1_146 oX10_sign q2594 q2592 qs77 rfl rfl (Nat.le_of_ble_eq_true rfl) rfl hW hF hT ?_
              rintro _ s34 ⟨rfl, hT⟩ h hW hF
              refine x_iconst (v := 0) dX10_begins1_149 rfl ?_
              exact x_iret dX10_begins1_150 rfl rfl ⟨_, _, rfl, hW, hF, hT⟩
    · have hT := hT.2 c
      refine x_bipush (v := 6) dX10_begins1_35 rfl ?_
      refine x_goto (tgt := 54) dX10_begins1_37 rfl ?_
      refine x_iload dX10_begins1_54 rfl ?_
      refine x_iload_n dX10_begins1_56 rfl rfl ?_
      refine m_inv (vs := [.int 6, .int y2, .int x2]) dX10_begins1_57 oX10_wait q2638 q2636 qs88 rfl rfl (Nat.le_of_ble_eq_true rfl) rfl hW hF hT ?_
      rintro _ s35 ⟨rfl, hT⟩ h hW hF
      refine x_aload_n dX10_begins1_60 rfl rfl rfl ?_
      refine m_geta dX10_begins1_61 f_TallySlateModel_169 (by decide) rfl hW ?_
      refine x_aload_n dX10_begins1_64 rfl rfl rfl ?_
      refine m_geti (v := (s35.1 101)) dX10_begins1_65 f_TallySlateModel_413 (by decide) rfl hW rfl ?_
      refine x_iconst (v := 1) dX10_begins1_68 rfl ?_
      refine x_isub dX10_begins1_69 ?_
      refine x_lload_n dX10_begins1_70 rfl rfl ?_
      obtain ⟨hb, hT⟩ := hT
      refine m_last dX10_begins1_71 rfl hb hW hF ?_
      intro h hW hF
      refine x_aload_n dX10_begins1_72 rfl rfl rfl ?_
      refine m_geta dX10_begins1_73 f_TallySlateModel_172 (by decide) rfl hW ?_
      refine x_aload_n dX10_begins1_76 rfl rfl rfl ?_
      refine m_geti (v := (s35.1 101)) dX10_begins1_77 f_TallySlateModel_413 (by decide) rfl hW rfl ?_
      refine x_iconst (v := 1) dX10_begins1_80 rfl ?_
      refine x_isub dX10_begins1_81 ?_
      refine x_iload_n dX10_begins1_82 rfl rfl ?_
      obtain ⟨hb, hT⟩ := hT
      refine m_iast dX10_begins1_83 rfl hb hW hF ?_
      intro h hW hF
      refine x_iload_n dX10_begins1_84 rfl rfl ?_
      refine x_if_lt (tgt := 151) dX10_begins1_85 rfl (fun c => ?_) (fun c => ?_)
      · have hT := hT.1 c
        refine x_aload_n dX10_begins1_151 rfl rfl rfl ?_
        refine x_bipush (v := 41) dX10_begins1_152 rfl ?_
        refine m_inv (vs := [.int 41]) dX10_begins1_154 oX10_isSign q2590 q2588 qs76 rfl rfl (Nat.le_of_ble_eq_true rfl) rfl hW hF hT ?_
        rintro _ s36 ⟨v37, rfl, hT⟩ h hW hF
        refine x_if_eq (tgt := 171) dX10_begins1_157 rfl (fun c => ?_) (fun c => ?_)
        · have hT := hT.1 c
          refine x_iconst (v := 0) dX10_begins1_171 rfl ?_
          exact x_iret dX10_begins1_172 rfl rfl ⟨_, _, rfl, hW, hF, hT⟩
        · have hT := hT.2 c
          refine x_aload_n dX10_begins1_160 rfl rfl rfl ?_
          refine m_inv (vs := []) dX10_begins1_161 oX10_ends2 q2642 q2640 qs89 rfl rfl (Nat.le_of_ble_eq_true rfl) rfl hW hF hT ?_
          rintro _ s38 ⟨v39, rfl, hT⟩ h hW hF
          refine x_if_eq (tgt := 171) dX10_begins1_164 rfl (fun c => ?_) (fun c => ?_)
          · have hT := hT.1 c
            refine x_iconst (v := 0) dX10_begins1_171 rfl ?_
            exact x_iret dX10_begins1_172 rfl rfl ⟨_, _, rfl, hW, hF, hT⟩
          · have hT := hT.2 c
            refine x_iconst (v := 1) dX10_begins1_167 rfl ?_
            refine x_goto (tgt := 172) dX10_begins1_168 rfl ?_
            exact x_iret dX10_begins1_172 rfl rfl ⟨_, _, rfl, hW, hF, hT⟩
      · have hT := hT.2 c
        refine x_iload dX10_begins1_88 rfl ?_
        refine x_bipush (v := 28) dX10_begins1_90 rfl ?_
        refine x_icmp_lt (tgt := 151) dX10_begins1_92 rfl (fun c => ?_) (fun c => ?_)
        · have hT := hT.1 c
          refine x_aload_n dX10_begins1_151 rfl rfl rfl ?_
          refine x_bipush (v := 41) dX10_begins1_152 rfl ?_
          refine m_inv (vs := [.int 41]) dX10_begins1_154 oX10_isSign q2590 q2588 qs76 rfl rfl (Nat.le_of_ble_eq_true rfl) rfl hW hF hT ?_
          rintro _ s40 ⟨v41, rfl, hT⟩ h hW hF
          refine x_if_eq (tgt := 171) dX10_begins1_157 rfl (fun c => ?_) (fun c => ?_)
          · have hT := hT.1 c
            refine x_iconst (v := 0) dX10_begins1_171 rfl ?_
            exact x_iret dX10_begins1_172 rfl rfl ⟨_, _, rfl, hW, hF, hT⟩
          · have hT := hT.2 c
            refine x_aload_n dX10_begins1_160 rfl rfl rfl ?_
            refine m_inv (vs := []) dX10_begins1_161 oX10_ends2 q2642 q2640 qs89 rfl rfl (Nat.le_of_ble_eq_true rfl) rfl hW hF hT ?_
            rintro _ s42 ⟨v43, rfl, hT⟩ h hW hF
            refine x_if_eq (tgt := 171) dX10_begins1_164 rfl (fun c => ?_) (fun c => ?_)
            · have hT := hT.1 c
              refine x_iconst (v := 0) dX10_begins1_171 rfl ?_
              exact x_iret dX10_begins1_172 rfl rfl ⟨_, _, rfl, hW, hF, hT⟩
            · have hT := hT.2 c
              refine x_iconst (v := 1) dX10_begins1_167 rfl ?_
              refine x_goto (tgt := 172) dX10_begins1_168 rfl ?_
              exact x_iret dX10_begins1_172 rfl rfl ⟨_, _, rfl, hW, hF, hT⟩
        · have hT := hT.2 c
          refine x_aload_n dX10_begins1_95 rfl rfl rfl ?_
          refine m_geta dX10_begins1_96 f_TallySlateModel_169 (by decide) rfl hW ?_
          refine x_aload_n dX10_begins1_99 rfl rfl rfl ?_
          refine m_geti (v := (s35.1 101)) dX10_begins1_100 f_TallySlateModel_413 (by decide) rfl hW rfl ?_
          refine x_iconst (v := 1) dX10_begins1_103 rfl ?_
          refine x_isub dX10_begins1_104 ?_
          refine x_aload_n dX10_begins1_105 rfl rfl rfl ?_
          refine m_getl (v := (s35.2.1 64)) dX10_begins1_106 f_TallySlateModel_272 (by decide) rfl hW rfl ?_
          obtain ⟨hb, hT⟩ := hT
          refine m_last dX10_begins1_109 rfl hb hW hF ?_
          intro h hW hF
          refine x_aload_n dX10_begins1_110 rfl rfl rfl ?_
          refine m_geta dX10_begins1_111 f_TallySlateModel_172 (by decide) rfl hW ?_
          refine x_aload_n dX10_begins1_114 rfl rfl rfl ?_
          refine m_geti (v := (s35.1 101)) dX10_begins1_115 f_TallySlateModel_413 (by decide) rfl hW rfl ?_
          refine x_iconst (v := 1) dX10_begins1_118 rfl ?_
          refine x_isub dX10_begins1_119 ?_
          refine x_aload_n dX10_begins1_120 rfl rfl rfl ?_
          refine m_geti (v := (s35.1 63)) dX10_begins1_121 f_TallySlateModel_269 (by decide) rfl hW rfl ?_
          obtain ⟨hb, hT⟩ := hT
          refine m_iast dX10_begins1_124 rfl hb hW hF ?_
          intro h hW hF
          refine x_aload_n dX10_begins1_125 rfl rfl rfl ?_
          refine m_inv (vs := []) dX10_begins1_126 oX10_isName q2570 q2568 qs72 rfl rfl (Nat.le_of_ble_eq_true rfl) rfl hW hF hT ?_
          rintro _ s44 ⟨v45, rfl, hT⟩ h hW hF
          refine x_if_eq (tgt := 139) dX10_begins1_129 rfl (fun c => ?_) (fun c => ?_)
          · have hT := hT.1 c
            refine x_aload_n dX10_begins1_139 rfl rfl rfl ?_
            refine m_inv (vs := []) dX10_begins1_140 oX10_wrong q2562 q2560 qs70 rfl rfl (Nat.le_of_ble_eq_true rfl) rfl hW hF hT ?_
            rintro _ s46 ⟨rfl, hT⟩ h hW hF
            refine x_aload_n dX10_begins1_143 rfl rfl rfl ?_
            refine x_bipush (v := 44) dX10_begins1_144 rfl ?_
            refine m_inv (vs := [.int 44]) dX10_begins1_146 oX10_sign q2594 q2592 qs77 rfl rfl (Nat.le_of_ble_eq_true rfl) rfl hW hF hT ?_
            rintro _ s47 ⟨rfl, hT⟩ h hW hF
            refine x_iconst (v := 0) dX10_begins1_149 rfl ?_
            exact x_iret dX10_begins1_150 rfl rfl ⟨_, _, rfl, hW, hF, hT⟩
          · have hT := hT.2 c
            refine x_aload_n dX10_begins1_132 rfl rfl rfl ?_
            refine m_inv (vs := []) dX10_begins1_133 oX10_take q2558 q2556 qs69 rfl rfl (Nat.le_of_ble_eq_true rfl) rfl hW hF hT ?_
            rintro _ s48 ⟨rfl, hT⟩ h hW hF
            refine x_goto (tgt := 143) dX10_begins1_136 rfl ?_
            refine x_aload_n dX10_begins1_143 rfl rfl rfl ?_
            refine x_bipush (v := 44) dX10_begins1_144 rfl ?_
            refine m_inv (vs := [.int 44]) dX10_begins1_146 oX10_sign q2594 q2592 qs77 rfl rfl (Nat.le_of_ble_eq_true rfl) rfl hW hF hT ?_
            rintro _ s49 ⟨rfl, hT⟩ h hW hF
            refine x_iconst (v := 0) dX10_begins1_149 rfl ?_
            exact x_iret dX10_begins1_150 rfl rfl ⟨_, _, rfl, hW, hF, hT⟩
  · have hT := hT.2 c
    refine x_iconst (v := 0) dX10_begins1_28 rfl ?_
    exact x_iret dX10_begins1_29 rfl rfl ⟨_, _, rfl, hW, hF, hT⟩
theorem eX10_begins1 {l : Launch} {E : EN} {w : MO} {d : Nat} {s : MS} {Q : Option Value → MS → Prop} {x1 : Int32} {x2 : Int32} (hst : l.stackTraces = false) (hT : (∀ y1 : Int64, y1 = (s.2.1 64) → (∀ y2 : Int32, y2 = (x1 - 11) → (EvM l E w d MX10_take [.ref w.1] s (fun r s3 => r = none ∧ (EvM l E w d MX10_opens [.ref w.1, .int 40] s3 (fun r s4 => r = none ∧ (((s4.1 66) ≤ 0 → ((0 ≤ x1 → ((y2 < 28 → (EvM l E w d MX10_wait [.ref w.1, .int 7, .int y2, .int x2] s4 (fun r s5 => r = none ∧ (inB ((s5.1 101) - 1) 80 ∧ (inB ((s5.1 101) - 1) 80 ∧ ((x1 < 0 → (EvM l E w d MX10_isSign [.ref w.1, .int 41] (sA (sB s5 99 ((s5.1 101) - 1).toNatClampNeg y1) 100 ((s5.1 101) - 1).toNatClampNeg x2) (fun r s6 => ∃ v7 : Int32, r = some (.int v7) ∧ ((v7 = 0 → Q (some (.int 0)) s6) ∧ (¬ v7 = 0 → (EvM l E w d MX10_ends2 [.ref w.1] s6 (fun r s8 => ∃ v9 : Int32, r = some (.int v9) ∧ ((v9 = 0 → Q (some (.int 0)) s8) ∧ (¬ v9 = 0 → Q (some (.int 1)) s8))))))))) ∧ (¬ x1 < 0 → ((y2 < 28 → (EvM l E w d MX10_isSign [.ref w.1, .int 41] (sA (sB s5 99 ((s5.1 101) - 1).toNatClampNeg y1) 100 ((s5.1 101) - 1).toNatClampNeg x2) (fun r s10 => ∃ v11 : Int32, r = some (.int v11) ∧ ((v11 = 0 → Q (some (.int 0)) s10) ∧ (¬ v11 = 0 → (EvM l E w d MX10_ends2 [.ref w.1] s10 (fun r s12 => ∃ v13 : Int32, r = some (.int v13) ∧ ((v13 = 0 → Q (some (.int 0)) s12) ∧ (¬ v13 = 0 → Q (some (.int 1)) s12))))))))) ∧ (¬ y2 < 28 → (inB ((s5.1 101) - 1) 80 ∧ (inB ((s5.1 101) - 1) 80 ∧ (EvM l E w d MX10_isName [.ref w.1] (sA (sB (sA (sB s5 99 ((s5.1 101) - 1).toNatClampNeg y1) 100 ((s5.1 101) - 1).toNatClampNeg x2) 99 ((s5.1 101) - 1).toNatClampNeg (s5.2.1 64)) 100 ((s5.1 101) - 1).toNatClampNeg (s5.1 63)) (fun r s14 => ∃ v15 : Int32, r = some (.int v15) ∧ ((v15 = 0 → (EvM l E w d MX10_wrong [.ref w.1] s14 (fun r s16 => r = none ∧ (EvM l E w d MX10_sign [.ref w.1, .int 44] s16 (fun r s17 => r = none ∧ Q (some (.int 0)) s17))))) ∧ (¬ v15 = 0 → (EvM l E w d MX10_take [.ref w.1] s14 (fun r s18 => r = none ∧ (EvM l E w d MX10_sign [.ref w.1, .int 44] s18 (fun r s19 => r = none ∧ Q (some (.int 0)) s19))))))))))))))))))) ∧ (¬ y2 < 28 → (EvM l E w d MX10_wait [.ref w.1, .int 8, .int y2, .int x2] s4 (fun r s20 => r = none ∧ (inB ((s20.1 101) - 1) 80 ∧ (inB ((s20.1 101) - 1) 80 ∧ ((x1 < 0 → (EvM l E w d MX10_isSign [.ref w.1, .int 41] (sA (sB s20 99 ((s20.1 101) - 1).toNatClampNeg y1) 100 ((s20.1 101) - 1).toNatClampNeg x2) (fun r s21 => ∃ v22 : Int32, r = some (.int v22) ∧ ((v22 = 0 → Q (some (.int 0)) s21) ∧ (¬ v22 = 0 → (EvM l E w d MX10_ends2 [.ref w.1] s21 (fun r s23 => ∃ v24 : Int32, r = some (.int v24) ∧ ((v24 = 0 → Q (some (.int 0)) s23) ∧ (¬ v24 = 0 → Q (some (.int 1)) s23))))))))) ∧ (¬ x1 < 0 → ((y2 < 28 → (EvM l E w d MX10_isSign [.ref w.1, .int 41] (sA (sB s20 99 ((s20.1 101) - 1).toNatClampNeg y1) 100 ((s20.1 101) - 1).toNatClampNeg x2) (fun r s25 => ∃ v26 : Int32, r = some (.int v26) ∧ ((v26 = 0 → Q (some (.int 0)) s25) ∧ (¬ v26 = 0 → (EvM l E w d MX10_ends2 [.ref w.1] s25 (fun r s27 => ∃ v28 : Int32, r = some (.int v28) ∧ ((v28 = 0 → Q (some (.int 0)) s27) ∧ (¬ v28 = 0 → Q (some (.int 1)) s27))))))))) ∧ (¬ y2 < 28 → (inB ((s20.1 101) - 1) 80 ∧ (inB ((s20.1 101) - 1) 80 ∧ (EvM l E w d MX10_isName [.ref w.1] (sA (sB (sA (sB s20 99 ((s20.1 101) - 1).toNatClampNeg y1) 100 ((s20.1 101) - 1).toNatClampNeg x2) 99 ((s20.1 101) - 1).toNatClampNeg (s20.2.1 64)) 100 ((s20.1 101) - 1).toNatClampNeg (s20.1 63)) (fun r s29 => ∃ v30 : Int32, r = some (.int v30) ∧ ((v30 = 0 → (EvM l E w d MX10_wrong [.ref w.1] s29 (fun r s31 => r = none ∧ (EvM l E w d MX10_sign [.ref w.1, .int 44] s31 (fun r s32 => r = none ∧ Q (some (.int 0)) s32))))) ∧ (¬ v30 = 0 → (EvM l E w d MX10_take [.ref w.1] s29 (fun r s33 => r = none ∧ (EvM l E w d MX10_sign [.ref w.1, .int 44] s33 (fun r s34 => r = none ∧ Q (some (.int 0)) s34))))))))))))))))))))) ∧ (¬ 0 ≤ x1 → (EvM l E w d MX10_wait [.ref w.1, .int 6, .int y2, .int x2] s4 (fun r s35 => r = none ∧ (inB ((s35.1 101) - 1) 80 ∧ (inB ((s35.1 101) - 1) 80 ∧ ((x1 < 0 → (EvM l E w d MX10_isSign [.ref w.1, .int 41] (sA (sB s35 99 ((s35.1 101) - 1).toNatClampNeg y1) 100 ((s35.1 101) - 1).toNatClampNeg x2) (fun r s36 => ∃ v37 : Int32, r = some (.int v37) ∧ ((v37 = 0 → Q (some (.int 0)) s36) ∧ (¬ v37 = 0 → (EvM l E w d MX10_ends2 [.ref w.1] s36 (fun r s38 => ∃ v39 : Int32, r = some (.int v39) ∧ ((v39 = 0 → Q (some (.int 0)) s38) ∧ (¬ v39 = 0 → Q (some (.int 1)) s38))))))))) ∧ (¬ x1 < 0 → ((y2 < 28 → (EvM l E w d MX10_isSign [.ref w.1, .int 41] (sA (sB s35 99 ((s35.1 101) - 1).toNatClampNeg y1) 100 ((s35.1 101) - 1).toNatClampNeg x2) (fun r s40 => ∃ v41 : Int32, r = some (.int v41) ∧ ((v41 = 0 → Q (some (.int 0)) s40) ∧ (¬ v41 = 0 → (EvM l E w d MX10_ends2 [.ref w.1] s40 (fun r s42 => ∃ v43 : Int32, r = some (.int v43) ∧ ((v43 = 0 → Q (some (.int 0)) s42) ∧ (¬ v43 = 0 → Q (some (.int 1)) s42))))))))) ∧ (¬ y2 < 28 → (inB ((s35.1 101) - 1) 80 ∧ (inB ((s35.1 101) - 1) 80 ∧ (EvM l E w d MX10_isName [.ref w.1] (sA (sB (sA (sB s35 99 ((s35.1 101) - 1).toNatClampNeg y1) 100 ((s35.1 101) - 1).toNatClampNeg x2) 99 ((s35.1 101) - 1).toNatClampNeg (s35.2.1 64)) 100 ((s35.1 101) - 1).toNatClampNeg (s35.1 63)) (fun r s44 => ∃ v45 : Int32, r = some (.int v45) ∧ ((v45 = 0 → (EvM l E w d MX10_wrong [.ref w.1] s44 (fun r s46 => r = none ∧ (EvM l E w d MX10_sign [.ref w.1, .int 44] s46 (fun r s47 => r = none ∧ Q (some (.int 0)) s47))))) ∧ (¬ v45 = 0 → (EvM l E w d MX10_take [.ref w.1] s44 (fun r s48 => r = none ∧ (EvM l E w d MX10_sign [.ref w.1, .int 44] s48 (fun r s49 => r = none ∧ Q (some (.int 0)) s49))))))))))))))))))))) ∧ (¬ (s4.1 66) ≤ 0 → Q (some (.int 0)) s4))))))))) : EvM l E w (d + 1) MX10_begins1 [.ref w.1, .int x1, .int x2] s Q :=
  EvM.of hst (by decide) (Nat.le_of_ble_eq_true rfl) (vX10_begins1_0 hT)
set_option maxHeartbeats 16000000 in
theorem vX10_levelOf_0 {l : Launch} {E : EN} {w : MO} {d : Nat} {s : MS} {Q : Option Value → MS → Prop} {x1 : Int32} (hT : ((x1 = 38 → Q (some (.int 0)) s) ∧ (¬ x1 = 38 → ((¬ x1 = 124 → ((256 ≤ x1 → Q (some (.int 1)) s) ∧ (¬ 256 ≤ x1 → ((x1 = 60 → Q (some (.int 1)) s) ∧ (¬ x1 = 60 → ((¬ x1 = 62 → ((x1 = 43 → Q (some (.int 2)) s) ∧ (¬ x1 = 43 → ((¬ x1 = 45 → ((x1 = 42 → Q (some (.int 3)) s) ∧ (¬ x1 = 42 → ((x1 = 47 → Q (some (.int 3)) s) ∧ (¬ x1 = 47 → ((¬ x1 = 37 → Q (some (.int (-1))) s) ∧ (x1 = 37 → Q (some (.int 3)) s))))))) ∧ (x1 = 45 → Q (some (.int 2)) s))))) ∧ (x1 = 62 → Q (some (.int 1)) s))))))) ∧ (x1 = 124 → Q (some (.int 0)) s))))) : ExM l E w d MX10_levelOf 0 [some (.int x1)] [] s Q := by
  intro h0 h hW hF
  refine x_iload_n dX10_levelOf_0 rfl rfl ?_
  refine x_bipush (v := 38) dX10_levelOf_1 rfl ?_
  refine x_icmp_eq (tgt := 12) dX10_levelOf_3 rfl (fun c => ?_) (fun c => ?_)
  · have hT := hT.1 c
    refine x_iconst (v := 0) dX10_levelOf_12 rfl ?_
    refine x_goto (tgt := 78) dX10_levelOf_13 rfl ?_
    exact x_iret dX10_levelOf_78 rfl rfl ⟨_, _, rfl, hW, hF, hT⟩
  · have hT := hT.2 c
    refine x_iload_n dX10_levelOf_6 rfl rfl ?_
    refine x_bipush (v := 124) dX10_levelOf_7 rfl ?_
    refine x_icmp_ne (tgt := 16) dX10_levelOf_9 rfl (fun c => ?_) (fun c => ?_)
    · have hT := hT.1 c
      refine x_iload_n dX10_levelOf_16 rfl rfl ?_
      refine x_sipush (v := 256) dX10_levelOf_17 rfl ?_
      refine x_icmp_ge (tgt := 35) dX10_levelOf_20 rfl (fun c => ?_) (fun c => ?_)
      · have hT := hT.1 c
        refine x_iconst (v := 1) dX10_levelOf_35 rfl ?_
        refine x_goto (tgt := 78) dX10_levelOf_36 rfl ?_
        exact x_iret dX10_levelOf_78 rfl rfl ⟨_, _, rfl, hW, hF, hT⟩
      · have hT := hT.2 c
        refine x_iload_n dX10_levelOf_23 rfl rfl ?_
        refine x_bipush (v := 60) dX10_levelOf_24 rfl ?_
        refine x_icmp_eq (tgt := 35) dX10_levelOf_26 rfl (fun c => ?_) (fun c => ?_)
        · have hT := hT.1 c
          refine x_iconst (v := 1) dX10_levelOf_35 rfl ?_
          refine x_goto (tgt := 78) dX10_levelOf_36 rfl ?_
          exact x_iret dX10_levelOf_78 rfl rfl ⟨_, _, rfl, hW, hF, hT⟩
        · have hT := hT.2 c
          refine x_iload_n dX10_levelOf_29 rfl rfl ?_
          refine x_bipush (v := 62) dX10_levelOf_30 rfl ?_
          refine x_icmp_ne (tgt := 39) dX10_levelOf_32 rfl (fun c => ?_) (fun c => ?_)
          · have hT := hT.1 c
            refine x_iload_n dX10_levelOf_39 rfl rfl ?_
            refine x_bipush (v := 43) dX10_levelOf_40 rfl ?_
            refine x_icmp_eq (tgt := 51) dX10_levelOf_42 rfl (fun c => ?_) (fun c => ?_)
            · have hT := hT.1 c
              refine x_iconst (v := 2) dX10_levelOf_51 rfl ?_
              refine x_goto (tgt := 78) dX10_levelOf_52 rfl ?_
              exact x_iret dX10_levelOf_78 rfl rfl ⟨_, _, rfl, hW, hF, hT⟩
            · have hT := hT.2 c
              refine x_iload_n dX10_levelOf_45 rfl rfl ?_
              refine x_bipush (v := 45) dX10_levelOf_46 rfl ?_
              refine x_icmp_ne (tgt := 55) dX10_levelOf_48 rfl (fun c => ?_) (fun c => ?_)
              · have hT := hT.1 c
                refine x_iload_n dX10_levelOf_55 rfl rfl ?_
                refine x_bipush (v := 42) dX10_levelOf_56 rfl ?_
                refine x_icmp_eq (tgt := 73) dX10_levelOf_58 rfl (fun c => ?_) (fun c => ?_)
                · have hT := hT.1 c
                  refine x_iconst (v := 3) dX10_levelOf_73 rfl ?_
                  refine x_goto (tgt := 78) dX10_levelOf_74 rfl ?_
                  exact x_iret dX10_levelOf_78 rfl rfl ⟨_, _, rfl, hW, hF, hT⟩
                · have hT := hT.2 c
                  refine x_iload_n dX10_levelOf_61 rfl rfl ?_
                  refine x_bipush (v := 47) dX10_levelOf_62 rfl ?_
                  refine x_icmp_eq (tgt := 73) dX10_levelOf_64 rfl (fun c => ?_) (fun c => ?_)
                  · have hT := hT.1 c
                    refine x_iconst (v := 3) dX10_levelOf_73 rfl ?_
                    refine x_goto (tgt := 78) dX10_levelOf_74 rfl ?_
                    exact x_iret dX10_levelOf_78 rfl rfl ⟨_, _, rfl, hW, hF, hT⟩
                  · have hT := hT.2 c
                    refine x_iload_n dX10_levelOf_67 rfl rfl ?_
                    refine x_bipush (v := 37) dX10_levelOf_68 rfl ?_
                    refine x_icmp_ne (tgt := 77) dX10_levelOf_70 rfl (fun c => ?_) (fun c => ?_)
                    · have hT := hT.1 c
                      refine x_iconst (v := (-1)) dX10_levelOf_77 rfl ?_
                      exact x_iret dX10_levelOf_78 rfl rfl ⟨_, _, rfl, hW, hF, hT⟩
                    · have hT := hT.2 c
                      refine x_iconst (v := 3) dX10_levelOf_73 rfl ?_
                      refine x_goto (tgt := 78) dX10_levelOf_74 rfl ?_
                      exact x_iret dX10_levelOf_78 rfl rfl ⟨_, _, rfl, hW, hF, hT⟩
              · have hT := hT.2 c
                refine x_iconst (v := 2) dX10_levelOf_51 rfl ?_
                refine x_goto (tgt := 78) dX10_levelOf_52 rfl ?_
                exact x_iret dX10_levelOf_78 rfl rfl ⟨_, _, rfl, hW, hF, hT⟩
          · have hT := hT.2 c
            refine x_iconst (v := 1) dX10_levelOf_35 rfl ?_
            refine x_goto (tgt := 78) dX10_levelOf_36 rfl ?_
            exact x_iret dX10_levelOf_78 rfl rfl ⟨_, _, rfl, hW, hF, hT⟩
    · have hT := hT.2 c
      refine x_iconst (v := 0) dX10_levelOf_12 rfl ?_
      refine x_goto (tgt := 78) dX10_levelOf_13 rfl ?_
      exact x_iret dX10_levelOf_78 rfl rfl ⟨_, _, rfl, hW, hF, hT⟩
theorem eX10_levelOf {l : Launch} {E : EN} {w : MO} {d : Nat} {s : MS} {Q : Option Value → MS → Prop} {x1 : Int32} (hst : l.stackTraces = false) (hT : ((x1 = 38 → Q (some (.int 0)) s) ∧ (¬ x1 = 38 → ((¬ x1 = 124 → ((256 ≤ x1 → Q (some (.int 1)) s) ∧ (¬ 256 ≤ x1 → ((x1 = 60 → Q (some (.int 1)) s) ∧ (¬ x1 = 60 → ((¬ x1 = 62 → ((x1 = 43 → Q (some (.int 2)) s) ∧ (¬ x1 = 43 → ((¬ x1 = 45 → ((x1 = 42 → Q (some (.int 3)) s) ∧ (¬ x1 = 42 → ((x1 = 47 → Q (some (.int 3)) s) ∧ (¬ x1 = 47 → ((¬ x1 = 37 → Q (some (.int (-1))) s) ∧ (x1 = 37 → Q (some (.int 3)) s))))))) ∧ (x1 = 45 → Q (some (.int 2)) s))))) ∧ (x1 = 62 → Q (some (.int 1)) s))))))) ∧ (x1 = 124 → Q (some (.int 0)) s))))) : EvM l E w d MX10_levelOf [.int x1] s Q :=
  EvM.of hst (by decide) (Nat.le_of_ble_eq_true rfl) (vX10_levelOf_0 hT)
theorem vX10_reduce_0 {l : Launch} {E : EN} {w : MO} {d : Nat} {s : MS} {Q : Option Value → MS → Prop} {x1 : Int32} (hT : (EvM l E w d MX10_isWaiting [.ref w.1, .int 1] s (fun r s1 => ∃ v2 : Int32, r = some (.int v2) ∧ ((v2 = 0 → Q none s1) ∧ (¬ v2 = 0 → (inB ((s1.1 101) - 1) 80 ∧ (EvM l E w d MX10_levelOf [.int (s1.2.2.1 96 ((s1.1 101) - 1).toNatClampNeg)] s1 (fun r s3 => ∃ v4 : Int32, r = some (.int v4) ∧ ((v4 < x1 → Q none s3) ∧ (¬ v4 < x1 → (inB ((s3.1 101) - 1) 80 ∧ (inB ((s3.1 101) - 1) 80 ∧ (EvM l E w d MX10_order [.ref w.1, .int 5, .int (s3.2.2.1 96 ((s3.1 101) - 1).toNatClampNeg), .int 0, .int (s3.2.2.1 98 ((s3.1 101) - 1).toNatClampNeg)] (sI s3 101 ((s3.1 101) - 1)) (fun r s5 => ∃ v6 : Int32, r = some (.int v6) ∧ ExM l E w (d + 1) MX10_reduce 0 [some (.ref w.1), some (.int x1)] [] s5 Q)))))))))))))) : ExM l E w (d + 1) MX10_reduce 0 [some (.ref w.1), some (.int x1)] [] s Q := by
  intro h0 h hW hF
  refine x_aload_n dX10_reduce_0 rfl rfl rfl ?_
  refine x_iconst (v := 1) dX10_reduce_1 rfl ?_
  refine m_inv (vs := [.int 1]) dX10_reduce_2 oX10_isWaiting q2634 q2632 qs87 rfl rfl (Nat.le_of_ble_eq_true rfl) rfl hW hF hT ?_
  rintro _ s1 ⟨v2, rfl, hT⟩ h hW hF
  refine x_if_eq (tgt := 64) dX10_reduce_5 rfl (fun c => ?_) (fun c => ?_)
  · have hT := hT.1 c
    exact x_vret dX10_reduce_64 rfl ⟨_, _, rfl, hW, hF, hT⟩
  · have hT := hT.2 c
    refine x_aload_n dX10_reduce_8 rfl rfl rfl ?_
    refine m_geta dX10_reduce_9 f_TallySlateModel_160 (by decide) rfl hW ?_
    refine x_aload_n dX10_reduce_12 rfl rfl rfl ?_
    refine m_geti (v := (s1.1 101)) dX10_reduce_13 f_TallySlateModel_413 (by decide) rfl hW rfl ?_
    refine x_iconst (v := 1) dX10_reduce_16 rfl ?_
    refine x_isub dX10_reduce_17 ?_
    obtain ⟨hb, hT⟩ := hT
    refine m_iald (v := (s1.2.2.1 96 ((s1.1 101) - 1).toNatClampNeg)) dX10_reduce_18 rfl hb hW rfl ?_
    refine m_invS (vs := [.int (s1.2.2.1 96 ((s1.1 101) - 1).toNatClampNeg)]) dX10_reduce_19 oX10_levelOf q2657 q2656 rfl rfl (Nat.le_of_ble_eq_true rfl) rfl hW hF hT ?_
    rintro _ s3 ⟨v4, rfl, hT⟩ h hW hF
    refine x_iload_n dX10_reduce_22 rfl rfl ?_
    refine x_icmp_lt (tgt := 64) dX10_reduce_23 rfl (fun c => ?_) (fun c => ?_)
    · have hT := hT.1 c
      exact x_vret dX10_reduce_64 rfl ⟨_, _, rfl, hW, hF, hT⟩
    · have hT := hT.2 c
      refine x_aload_n dX10_reduce_26 rfl rfl rfl ?_
      refine x_dup dX10_reduce_27 rfl ?_
      refine m_geti (v := (s3.1 101)) dX10_reduce_28 f_TallySlateModel_413 (by decide) rfl hW rfl ?_
      refine x_iconst (v := 1) dX10_reduce_31 rfl ?_
      refine x_isub dX10_reduce_32 ?_
      refine m_puti dX10_reduce_33 f_TallySlateModel_413 (by decide) rfl rfl rfl rfl hW hF ?_
      intro h hW hF
      refine x_aload_n dX10_reduce_36 rfl rfl rfl ?_
      refine x_iconst (v := 5) dX10_reduce_37 rfl ?_
      refine x_aload_n dX10_reduce_38 rfl rfl rfl ?_
      refine m_geta dX10_reduce_39 f_TallySlateModel_160 (by decide) rfl hW ?_
      refine x_aload_n dX10_reduce_42 rfl rfl rfl ?_
      refine m_geti (v := ((s3.1 101) - 1)) dX10_reduce_43 f_TallySlateModel_413 (by decide) rfl hW rfl ?_
      obtain ⟨hb, hT⟩ := hT
      refine m_iald (v := (s3.2.2.1 96 ((s3.1 101) - 1).toNatClampNeg)) dX10_reduce_46 rfl hb hW rfl ?_
      refine x_iconst (v := 0) dX10_reduce_47 rfl ?_
      refine x_aload_n dX10_reduce_48 rfl rfl rfl ?_
      refine m_geta dX10_reduce_49 f_TallySlateModel_166 (by decide) rfl hW ?_
      refine x_aload_n dX10_reduce_52 rfl rfl rfl ?_
      refine m_geti (v := ((s3.1 101) - 1)) dX10_reduce_53 f_TallySlateModel_413 (by decide) rfl hW rfl ?_
      obtain ⟨hb, hT⟩ := hT
      refine m_iald (v := (s3.2.2.1 98 ((s3.1 101) - 1).toNatClampNeg)) dX10_reduce_56 rfl hb hW rfl ?_
      refine m_inv (vs := [.int 5, .int (s3.2.2.1 96 ((s3.1 101) - 1).toNatClampNeg), .int 0, .int (s3.2.2.1 98 ((s3.1 101) - 1).toNatClampNeg)]) dX10_reduce_57 oX10_order q2610 q2608 qs81 rfl rfl (Nat.le_of_ble_eq_true rfl) rfl hW hF hT ?_
      rintro _ s5 ⟨v6, rfl, hT⟩ h hW hF
      refine x_pop dX10_reduce_60 rfl ?_
      refine x_goto (tgt := 0) dX10_reduce_61 rfl ?_
      exact hT h0 h hW hF
theorem eX10_reduce {l : Launch} {E : EN} {w : MO} {d : Nat} {s : MS} {Q : Option Value → MS → Prop} {x1 : Int32} (hst : l.stackTraces = false) (hT : (EvM l E w d MX10_isWaiting [.ref w.1, .int 1] s (fun r s1 => ∃ v2 : Int32, r = some (.int v2) ∧ ((v2 = 0 → Q none s1) ∧ (¬ v2 = 0 → (inB ((s1.1 101) - 1) 80 ∧ (EvM l E w d MX10_levelOf [.int (s1.2.2.1 96 ((s1.1 101) - 1).toNatClampNeg)] s1 (fun r s3 => ∃ v4 : Int32, r = some (.int v4) ∧ ((v4 < x1 → Q none s3) ∧ (¬ v4 < x1 → (inB ((s3.1 101) - 1) 80 ∧ (inB ((s3.1 101) - 1) 80 ∧ (EvM l E w d MX10_order [.ref w.1, .int 5, .int (s3.2.2.1 96 ((s3.1 101) - 1).toNatClampNeg), .int 0, .int (s3.2.2.1 98 ((s3.1 101) - 1).toNatClampNeg)] (sI s3 101 ((s3.1 101) - 1)) (fun r s5 => ∃ v6 : Int32, r = some (.int v6) ∧ ExM l E w (d + 1) MX10_reduce 0 [some (.ref w.1), some (.int x1)] [] s5 Q)))))))))))))) : EvM l E w (d + 1) MX10_reduce [.ref w.1, .int x1] s Q :=
  EvM.of hst (by decide) (Nat.le_of_ble_eq_true rfl) (vX10_reduce_0 hT)
