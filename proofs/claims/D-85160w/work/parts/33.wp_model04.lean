/-! weakest preconditions of methods of the model: printed by wp.py -/
set_option maxRecDepth 100000
set_option maxHeartbeats 16000000 in
theorem vX10_one_0 {l : Launch} {E : EN} {w : MO} {d : Nat} {s : MS} {Q : Option Value → MS → Prop} {x1 : Int32} (hT : (EvM l E w d MX10_kindAt [.ref w.1, .int ((s.1 108) - 1)] s (fun r s1 => ∃ v2 : Int32, r = some (.int v2) ∧ (inB ((s1.1 108) - 1) 9000 ∧ (∀ y3 : Int32, y3 = (s1.2.2.1 107 ((s1.1 108) - 1).toNatClampNeg) → (∀ y4 : Int32, y4 = ((s1.1 108) - 1) → ((¬ v2 = 3 → ((¬ v2 = 0 → ((¬ v2 = 1 → ExM l E w (d + 1) MX10_one 128 [some (.ref w.1), some (.int x1), none, some (.int y3), some (.int y4), some (.int 0), none, none, none] [] (sI s1 108 ((s1.1 108) - 1)) Q) ∧ (v2 = 1 → ExM l E w (d + 1) MX10_one 79 [some (.ref w.1), some (.int x1), none, some (.int y3), some (.int y4), some (.int 0), none, none, none] [] (sI s1 108 ((s1.1 108) - 1)) Q))) ∧ (v2 = 0 → (EvM l E w d MX10_single [.int x1, .int y3] (sI s1 108 ((s1.1 108) - 1)) (fun r s5 => ∃ v6 : Int32, r = some (.int v6) ∧ (EvM l E w d MX10_push [.ref w.1, .int 0, .int v6] s5 (fun r s7 => r = none ∧ Q none s7))))))) ∧ (v2 = 3 → (EvM l E w d MX10_trouble [.ref w.1, .int 3, .int (s1.1 127)] (sI s1 108 ((s1.1 108) - 1)) (fun r s8 => r = none ∧ Q none s8)))))))))) : ExM l E w (d + 1) MX10_one 0 [some (.ref w.1), some (.int x1), none, none, none, none, none, none, none] [] s Q := by
  intro h0 h hW hF
  refine x_aload_n dX10_one_0 rfl rfl rfl ?_
  refine x_aload_n dX10_one_1 rfl rfl rfl ?_
  refine m_geti (v := (s.1 108)) dX10_one_2 f_TallySlateModel_461 (by decide) rfl hW rfl ?_
  refine x_iconst (v := 1) dX10_one_5 rfl ?_
  refine x_isub dX10_one_6 ?_
  refine m_inv (vs := [.int ((s.1 108) - 1)]) dX10_one_7 oX10_kindAt q2728 q2726 qs106 rfl rfl (Nat.le_of_ble_eq_true rfl) rfl hW hF hT ?_
  rintro _ s1 ⟨v2, rfl, hT⟩ h hW hF
  refine x_istore_n (lo' := [some (.ref w.1), some (.int x1), some (.int v2), none, none, none, none, none, none]) dX10_one_10 rfl (Nat.le_of_ble_eq_true rfl) rfl ?_
  refine x_aload_n dX10_one_11 rfl rfl rfl ?_
  refine x_dup dX10_one_12 rfl ?_
  refine m_geti (v := (s1.1 108)) dX10_one_13 f_TallySlateModel_461 (by decide) rfl hW rfl ?_
  refine x_iconst (v := 1) dX10_one_16 rfl ?_
  refine x_isub dX10_one_17 ?_
  refine m_puti dX10_one_18 f_TallySlateModel_461 (by decide) rfl rfl rfl rfl hW hF ?_
  intro h hW hF
  refine x_aload_n dX10_one_21 rfl rfl rfl ?_
  refine m_geta dX10_one_22 f_TallySlateModel_189 (by decide) rfl hW ?_
  refine x_aload_n dX10_one_25 rfl rfl rfl ?_
  refine m_geti (v := ((s1.1 108) - 1)) dX10_one_26 f_TallySlateModel_461 (by decide) rfl hW rfl ?_
  obtain ⟨hb, hT⟩ := hT
  refine m_iald (v := (s1.2.2.1 107 ((s1.1 108) - 1).toNatClampNeg)) dX10_one_29 rfl hb hW rfl ?_
  obtain ⟨y3, ey3⟩ : ∃ z : Int32, z = (s1.2.2.1 107 ((s1.1 108) - 1).toNatClampNeg) := ⟨_, rfl⟩
  have hT := hT y3 ey3
  refine x_istore_n (lo' := [some (.ref w.1), some (.int x1), some (.int v2), some (.int y3), none, none, none, none, none]) dX10_one_30 rfl (Nat.le_of_ble_eq_true rfl) (by rw [ey3]; rfl) ?_
  refine x_aload_n dX10_one_31 rfl rfl rfl ?_
  refine m_geti (v := ((s1.1 108) - 1)) dX10_one_32 f_TallySlateModel_461 (by decide) rfl hW rfl ?_
  obtain ⟨y4, ey4⟩ : ∃ z : Int32, z = ((s1.1 108) - 1) := ⟨_, rfl⟩
  have hT := hT y4 ey4
  refine x_istore (lo' := [some (.ref w.1), some (.int x1), some (.int v2), some (.int y3), some (.int y4), none, none, none, none]) dX10_one_35 (Nat.le_of_ble_eq_true rfl) (by rw [ey4]; rfl) ?_
  refine x_iload_n dX10_one_37 rfl rfl ?_
  refine x_iconst (v := 3) dX10_one_38 rfl ?_
  refine x_icmp_ne (tgt := 54) dX10_one_39 rfl (fun c => ?_) (fun c => ?_)
  · have hT := hT.1 c
    refine x_iload_n dX10_one_54 rfl rfl ?_
    refine x_if_ne (tgt := 71) dX10_one_55 rfl (fun c => ?_) (fun c => ?_)
    · have hT := hT.1 c
      refine x_iload_n dX10_one_71 rfl rfl ?_
      refine x_iconst (v := 1) dX10_one_72 rfl ?_
      refine x_icmp_ne (tgt := 125) dX10_one_73 rfl (fun c => ?_) (fun c => ?_)
      · have hT := hT.1 c
        refine x_iconst (v := 0) dX10_one_125 rfl ?_
        refine x_istore (lo' := [some (.ref w.1), some (.int x1), some (.int v2), some (.int y3), some (.int y4), some (.int 0), none, none, none]) dX10_one_126 (Nat.le_of_ble_eq_true rfl) rfl ?_
        refine Ex.wkl (lo' := [some (.ref w.1), some (.int x1), none, some (.int y3), some (.int y4), some (.int 0), none, none, none]) ⟨rfl, rfl, rfl, rfl, rfl, trivial⟩ ?_
        exact hT h0 h hW hF
      · have hT := hT.2 c
        refine x_iconst (v := 0) dX10_one_76 rfl ?_
        refine x_istore (lo' := [some (.ref w.1), some (.int x1), some (.int v2), some (.int y3), some (.int y4), some (.int 0), none, none, none]) dX10_one_77 (Nat.le_of_ble_eq_true rfl) rfl ?_
        refine Ex.wkl (lo' := [some (.ref w.1), some (.int x1), none, some (.int y3), some (.int y4), some (.int 0), none, none, none]) ⟨rfl, rfl, rfl, rfl, rfl, trivial⟩ ?_
        exact hT h0 h hW hF
    · have hT := hT.2 c
      refine x_aload_n dX10_one_58 rfl rfl rfl ?_
      refine x_iconst (v := 0) dX10_one_59 rfl ?_
      refine x_iload_n dX10_one_60 rfl rfl ?_
      refine x_iload_n dX10_one_61 rfl rfl ?_
      refine m_invS (vs := [.int x1, .int y3]) dX10_one_62 oX10_single q2731 q2730 rfl rfl (Nat.le_of_ble_eq_true rfl) rfl hW hF hT ?_
      rintro _ s5 ⟨v6, rfl, hT⟩ h hW hF
      refine m_inv (vs := [.int 0, .int v6]) dX10_one_65 oX10_push q2708 q2706 qs101 rfl rfl (Nat.le_of_ble_eq_true rfl) rfl hW hF hT ?_
      rintro _ s7 ⟨rfl, hT⟩ h hW hF
      refine x_goto (tgt := 213) dX10_one_68 rfl ?_
      exact x_vret dX10_one_213 rfl ⟨_, _, rfl, hW, hF, hT⟩
  · have hT := hT.2 c
    refine x_aload_n dX10_one_42 rfl rfl rfl ?_
    refine x_iconst (v := 3) dX10_one_43 rfl ?_
    refine x_aload_n dX10_one_44 rfl rfl rfl ?_
    refine m_geti (v := (s1.1 127)) dX10_one_45 f_TallySlateModel_507 (by decide) rfl hW rfl ?_
    refine m_inv (vs := [.int 3, .int (s1.1 127)]) dX10_one_48 oX10_trouble q2696 q2694 qs98 rfl rfl (Nat.le_of_ble_eq_true rfl) rfl hW hF hT ?_
    rintro _ s8 ⟨rfl, hT⟩ h hW hF
    refine x_goto (tgt := 213) dX10_one_51 rfl ?_
    exact x_vret dX10_one_213 rfl ⟨_, _, rfl, hW, hF, hT⟩
theorem eX10_one {l : Launch} {E : EN} {w : MO} {d : Nat} {s : MS} {Q : Option Value → MS → Prop} {x1 : Int32} (hst : l.stackTraces = false) (hT : (EvM l E w d MX10_kindAt [.ref w.1, .int ((s.1 108) - 1)] s (fun r s1 => ∃ v2 : Int32, r = some (.int v2) ∧ (inB ((s1.1 108) - 1) 9000 ∧ (∀ y3 : Int32, y3 = (s1.2.2.1 107 ((s1.1 108) - 1).toNatClampNeg) → (∀ y4 : Int32, y4 = ((s1.1 108) - 1) → ((¬ v2 = 3 → ((¬ v2 = 0 → ((¬ v2 = 1 → ExM l E w (d + 1) MX10_one 128 [some (.ref w.1), some (.int x1), none, some (.int y3), some (.int y4), some (.int 0), none, none, none] [] (sI s1 108 ((s1.1 108) - 1)) Q) ∧ (v2 = 1 → ExM l E w (d + 1) MX10_one 79 [some (.ref w.1), some (.int x1), none, some (.int y3), some (.int y4), some (.int 0), none, none, none] [] (sI s1 108 ((s1.1 108) - 1)) Q))) ∧ (v2 = 0 → (EvM l E w d MX10_single [.int x1, .int y3] (sI s1 108 ((s1.1 108) - 1)) (fun r s5 => ∃ v6 : Int32, r = some (.int v6) ∧ (EvM l E w d MX10_push [.ref w.1, .int 0, .int v6] s5 (fun r s7 => r = none ∧ Q none s7))))))) ∧ (v2 = 3 → (EvM l E w d MX10_trouble [.ref w.1, .int 3, .int (s1.1 127)] (sI s1 108 ((s1.1 108) - 1)) (fun r s8 => r = none ∧ Q none s8)))))))))) : EvM l E w (d + 1) MX10_one [.ref w.1, .int x1] s Q :=
  EvM.of hst (by decide) (Nat.le_of_ble_eq_true rfl) (vX10_one_0 hT)
theorem vX10_one_128 {l : Launch} {E : EN} {w : MO} {d : Nat} {s : MS} {Q : Option Value → MS → Prop} {a1 : Int32} {a3 : Int32} {a4 : Int32} {a5 : Int32} (hT : (EvM l E w d MX10_sizeAt [.ref w.1, .int a3] s (fun r s1 => ∃ v2 : Int32, r = some (.int v2) ∧ ((v2 ≤ a5 → (EvM l E w d MX10_builds [.ref w.1, .int 2, .int a4] s1 (fun r s3 => r = none ∧ Q none s3))) ∧ (¬ v2 ≤ a5 → (EvM l E w d MX10_partAt [.ref w.1, .int a3, .int a5] s1 (fun r s4 => ∃ v5 : Int32, r = some (.int v5) ∧ (∀ y6 : Int32, y6 = (s4.1 108) → ExM l E w (d + 1) MX10_one 156 [some (.ref w.1), some (.int a1), none, some (.int a3), some (.int a4), some (.int a5), some (.int v5), some (.int y6), some (.int 0)] [] s4 Q)))))))) : ExM l E w (d + 1) MX10_one 128 [some (.ref w.1), some (.int a1), none, some (.int a3), some (.int a4), some (.int a5), none, none, none] [] s Q := by
  intro h0 h hW hF
  refine x_iload dX10_one_128 rfl ?_
  refine x_aload_n dX10_one_130 rfl rfl rfl ?_
  refine x_iload_n dX10_one_131 rfl rfl ?_
  refine m_inv (vs := [.int a3]) dX10_one_132 oX10_sizeAt q2735 q2733 qs107 rfl rfl (Nat.le_of_ble_eq_true rfl) rfl hW hF hT ?_
  rintro _ s1 ⟨v2, rfl, hT⟩ h hW hF
  refine x_icmp_ge (tgt := 206) dX10_one_135 rfl (fun c => ?_) (fun c => ?_)
  · have hT := hT.1 c
    refine x_aload_n dX10_one_206 rfl rfl rfl ?_
    refine x_iconst (v := 2) dX10_one_207 rfl ?_
    refine x_iload dX10_one_208 rfl ?_
    refine m_inv (vs := [.int 2, .int a4]) dX10_one_210 oX10_builds q2739 q2737 qs108 rfl rfl (Nat.le_of_ble_eq_true rfl) rfl hW hF hT ?_
    rintro _ s3 ⟨rfl, hT⟩ h hW hF
    exact x_vret dX10_one_213 rfl ⟨_, _, rfl, hW, hF, hT⟩
  · have hT := hT.2 c
    refine x_aload_n dX10_one_138 rfl rfl rfl ?_
    refine x_iload_n dX10_one_139 rfl rfl ?_
    refine x_iload dX10_one_140 rfl ?_
    refine m_inv (vs := [.int a3, .int a5]) dX10_one_142 oX10_partAt q2751 q2749 qs111 rfl rfl (Nat.le_of_ble_eq_true rfl) rfl hW hF hT ?_
    rintro _ s4 ⟨v5, rfl, hT⟩ h hW hF
    refine x_istore (lo' := [some (.ref w.1), some (.int a1), none, some (.int a3), some (.int a4), some (.int a5), some (.int v5), none, none]) dX10_one_145 (Nat.le_of_ble_eq_true rfl) rfl ?_
    refine x_aload_n dX10_one_147 rfl rfl rfl ?_
    refine m_geti (v := (s4.1 108)) dX10_one_148 f_TallySlateModel_461 (by decide) rfl hW rfl ?_
    obtain ⟨y6, ey6⟩ : ∃ z : Int32, z = (s4.1 108) := ⟨_, rfl⟩
    have hT := hT y6 ey6
    refine x_istore (lo' := [some (.ref w.1), some (.int a1), none, some (.int a3), some (.int a4), some (.int a5), some (.int v5), some (.int y6), none]) dX10_one_151 (Nat.le_of_ble_eq_true rfl) (by rw [ey6]; rfl) ?_
    refine x_iconst (v := 0) dX10_one_153 rfl ?_
    refine x_istore (lo' := [some (.ref w.1), some (.int a1), none, some (.int a3), some (.int a4), some (.int a5), some (.int v5), some (.int y6), some (.int 0)]) dX10_one_154 (Nat.le_of_ble_eq_true rfl) rfl ?_
    exact hT h0 h hW hF
theorem vX10_one_79 {l : Launch} {E : EN} {w : MO} {d : Nat} {s : MS} {Q : Option Value → MS → Prop} {a1 : Int32} {a3 : Int32} {a4 : Int32} {a5 : Int32} (hT : (EvM l E w d MX10_sizeAt [.ref w.1, .int a3] s (fun r s1 => ∃ v2 : Int32, r = some (.int v2) ∧ ((v2 ≤ a5 → (EvM l E w d MX10_builds [.ref w.1, .int 1, .int a4] s1 (fun r s3 => r = none ∧ Q none s3))) ∧ (¬ v2 ≤ a5 → (inB ((a3 + 2) + a5) 166300 ∧ (EvM l E w d MX10_single [.int a1, .int (s1.2.2.1 104 ((a3 + 2) + a5).toNatClampNeg)] s1 (fun r s4 => ∃ v5 : Int32, r = some (.int v5) ∧ (EvM l E w d MX10_push [.ref w.1, .int 0, .int v5] s4 (fun r s6 => r = none ∧ ExM l E w (d + 1) MX10_one 79 [some (.ref w.1), some (.int a1), none, some (.int a3), some (.int a4), some (.int (a5 + 1)), none, none, none] [] s6 Q)))))))))) : ExM l E w (d + 1) MX10_one 79 [some (.ref w.1), some (.int a1), none, some (.int a3), some (.int a4), some (.int a5), none, none, none] [] s Q := by
  intro h0 h hW hF
  refine x_iload dX10_one_79 rfl ?_
  refine x_aload_n dX10_one_81 rfl rfl rfl ?_
  refine x_iload_n dX10_one_82 rfl rfl ?_
  refine m_inv (vs := [.int a3]) dX10_one_83 oX10_sizeAt q2735 q2733 qs107 rfl rfl (Nat.le_of_ble_eq_true rfl) rfl hW hF hT ?_
  rintro _ s1 ⟨v2, rfl, hT⟩ h hW hF
  refine x_icmp_ge (tgt := 115) dX10_one_86 rfl (fun c => ?_) (fun c => ?_)
  · have hT := hT.1 c
    refine x_aload_n dX10_one_115 rfl rfl rfl ?_
    refine x_iconst (v := 1) dX10_one_116 rfl ?_
    refine x_iload dX10_one_117 rfl ?_
    refine m_inv (vs := [.int 1, .int a4]) dX10_one_119 oX10_builds q2739 q2737 qs108 rfl rfl (Nat.le_of_ble_eq_true rfl) rfl hW hF hT ?_
    rintro _ s3 ⟨rfl, hT⟩ h hW hF
    refine x_goto (tgt := 213) dX10_one_122 rfl ?_
    exact x_vret dX10_one_213 rfl ⟨_, _, rfl, hW, hF, hT⟩
  · have hT := hT.2 c
    refine x_aload_n dX10_one_89 rfl rfl rfl ?_
    refine x_iconst (v := 0) dX10_one_90 rfl ?_
    refine x_iload_n dX10_one_91 rfl rfl ?_
    refine x_aload_n dX10_one_92 rfl rfl rfl ?_
    refine m_geta dX10_one_93 f_TallySlateModel_183 (by decide) rfl hW ?_
    refine x_iload_n dX10_one_96 rfl rfl ?_
    refine x_iconst (v := 2) dX10_one_97 rfl ?_
    refine x_iadd dX10_one_98 ?_
    refine x_iload dX10_one_99 rfl ?_
    refine x_iadd dX10_one_101 ?_
    obtain ⟨hb, hT⟩ := hT
    refine m_iald (v := (s1.2.2.1 104 ((a3 + 2) + a5).toNatClampNeg)) dX10_one_102 rfl hb hW rfl ?_
    refine m_invS (vs := [.int a1, .int (s1.2.2.1 104 ((a3 + 2) + a5).toNatClampNeg)]) dX10_one_103 oX10_single q2731 q2730 rfl rfl (Nat.le_of_ble_eq_true rfl) rfl hW hF hT ?_
    rintro _ s4 ⟨v5, rfl, hT⟩ h hW hF
    refine m_inv (vs := [.int 0, .int v5]) dX10_one_106 oX10_push q2708 q2706 qs101 rfl rfl (Nat.le_of_ble_eq_true rfl) rfl hW hF hT ?_
    rintro _ s6 ⟨rfl, hT⟩ h hW hF
    refine x_iinc (lo' := [some (.ref w.1), some (.int a1), none, some (.int a3), some (.int a4), some (.int (a5 + 1)), none, none, none]) dX10_one_109 rfl (show _ = (a5 + 1) from rfl) rfl ?_
    refine x_goto (tgt := 79) dX10_one_112 rfl ?_
    exact hT h0 h hW hF
theorem vX10_one_156 {l : Launch} {E : EN} {w : MO} {d : Nat} {s : MS} {Q : Option Value → MS → Prop} {a1 : Int32} {a3 : Int32} {a4 : Int32} {a5 : Int32} {a6 : Int32} {a7 : Int32} {a8 : Int32} (hT : (EvM l E w d MX10_sizeAt [.ref w.1, .int a6] s (fun r s1 => ∃ v2 : Int32, r = some (.int v2) ∧ ((v2 ≤ a8 → (EvM l E w d MX10_rowOf [.ref w.1, .int a7] s1 (fun r s3 => r = none ∧ ExM l E w (d + 1) MX10_one 128 [some (.ref w.1), some (.int a1), none, some (.int a3), some (.int a4), some (.int (a5 + 1)), none, none, none] [] s3 Q))) ∧ (¬ v2 ≤ a8 → (inB ((a6 + 2) + a8) 166300 ∧ (EvM l E w d MX10_single [.int a1, .int (s1.2.2.1 104 ((a6 + 2) + a8).toNatClampNeg)] s1 (fun r s4 => ∃ v5 : Int32, r = some (.int v5) ∧ (EvM l E w d MX10_push [.ref w.1, .int 0, .int v5] s4 (fun r s6 => r = none ∧ ExM l E w (d + 1) MX10_one 156 [some (.ref w.1), some (.int a1), none, some (.int a3), some (.int a4), some (.int a5), some (.int a6), some (.int a7), some (.int (a8 + 1))] [] s6 Q)))))))))) : ExM l E w (d + 1) MX10_one 156 [some (.ref w.1), some (.int a1), none, some (.int a3), some (.int a4), some (.int a5), some (.int a6), some (.int a7), some (.int a8)] [] s Q := by
  intro h0 h hW hF
  refine x_iload dX10_one_156 rfl ?_
  refine x_aload_n dX10_one_158 rfl rfl rfl ?_
  refine x_iload dX10_one_159 rfl ?_
  refine m_inv (vs := [.int a6]) dX10_one_161 oX10_sizeAt q2735 q2733 qs107 rfl rfl (Nat.le_of_ble_eq_true rfl) rfl hW hF hT ?_
  rintro _ s1 ⟨v2, rfl, hT⟩ h hW hF
  refine x_icmp_ge (tgt := 194) dX10_one_164 rfl (fun c => ?_) (fun c => ?_)
  · have hT := hT.1 c
    refine x_aload_n dX10_one_194 rfl rfl rfl ?_
    refine x_iload dX10_one_195 rfl ?_
    refine m_inv (vs := [.int a7]) dX10_one_197 oX10_rowOf q2775 q2773 qs117 rfl rfl (Nat.le_of_ble_eq_true rfl) rfl hW hF hT ?_
    rintro _ s3 ⟨rfl, hT⟩ h hW hF
    refine x_iinc (lo' := [some (.ref w.1), some (.int a1), none, some (.int a3), some (.int a4), some (.int (a5 + 1)), some (.int a6), some (.int a7), some (.int a8)]) dX10_one_200 rfl (show _ = (a5 + 1) from rfl) rfl ?_
    refine x_goto (tgt := 128) dX10_one_203 rfl ?_
    refine Ex.wkl (lo' := [some (.ref w.1), some (.int a1), none, some (.int a3), some (.int a4), some (.int (a5 + 1)), none, none, none]) ⟨rfl, rfl, rfl, rfl, rfl, trivial⟩ ?_
    exact hT h0 h hW hF
  · have hT := hT.2 c
    refine x_aload_n dX10_one_167 rfl rfl rfl ?_
    refine x_iconst (v := 0) dX10_one_168 rfl ?_
    refine x_iload_n dX10_one_169 rfl rfl ?_
    refine x_aload_n dX10_one_170 rfl rfl rfl ?_
    refine m_geta dX10_one_171 f_TallySlateModel_183 (by decide) rfl hW ?_
    refine x_iload dX10_one_174 rfl ?_
    refine x_iconst (v := 2) dX10_one_176 rfl ?_
    refine x_iadd dX10_one_177 ?_
    refine x_iload dX10_one_178 rfl ?_
    refine x_iadd dX10_one_180 ?_
    obtain ⟨hb, hT⟩ := hT
    refine m_iald (v := (s1.2.2.1 104 ((a6 + 2) + a8).toNatClampNeg)) dX10_one_181 rfl hb hW rfl ?_
    refine m_invS (vs := [.int a1, .int (s1.2.2.1 104 ((a6 + 2) + a8).toNatClampNeg)]) dX10_one_182 oX10_single q2731 q2730 rfl rfl (Nat.le_of_ble_eq_true rfl) rfl hW hF hT ?_
    rintro _ s4 ⟨v5, rfl, hT⟩ h hW hF
    refine m_inv (vs := [.int 0, .int v5]) dX10_one_185 oX10_push q2708 q2706 qs101 rfl rfl (Nat.le_of_ble_eq_true rfl) rfl hW hF hT ?_
    rintro _ s6 ⟨rfl, hT⟩ h hW hF
    refine x_iinc (lo' := [some (.ref w.1), some (.int a1), none, some (.int a3), some (.int a4), some (.int a5), some (.int a6), some (.int a7), some (.int (a8 + 1))]) dX10_one_188 rfl (show _ = (a8 + 1) from rfl) rfl ?_
    refine x_goto (tgt := 156) dX10_one_191 rfl ?_
    exact hT h0 h hW hF
theorem vX10_kindAt_0 {l : Launch} {E : EN} {w : MO} {d : Nat} {s : MS} {Q : Option Value → MS → Prop} {x1 : Int32} (hT : (inB x1 9000 ∧ ((¬ (s.2.2.1 106 x1.toNatClampNeg) = 0 → (inB x1 9000 ∧ (inB (s.2.2.1 107 x1.toNatClampNeg) 166300 ∧ Q (some (.int (s.2.2.1 104 (s.2.2.1 107 x1.toNatClampNeg).toNatClampNeg))) s))) ∧ ((s.2.2.1 106 x1.toNatClampNeg) = 0 → Q (some (.int 0)) s)))) : ExM l E w d MX10_kindAt 0 [some (.ref w.1), some (.int x1)] [] s Q := by
  intro h0 h hW hF
  refine x_aload_n dX10_kindAt_0 rfl rfl rfl ?_
  refine m_geta dX10_kindAt_1 f_TallySlateModel_186 (by decide) rfl hW ?_
  refine x_iload_n dX10_kindAt_4 rfl rfl ?_
  obtain ⟨hb, hT⟩ := hT
  refine m_iald (v := (s.2.2.1 106 x1.toNatClampNeg)) dX10_kindAt_5 rfl hb hW rfl ?_
  refine x_if_ne (tgt := 13) dX10_kindAt_6 rfl (fun c => ?_) (fun c => ?_)
  · have hT := hT.1 c
    refine x_aload_n dX10_kindAt_13 rfl rfl rfl ?_
    refine m_geta dX10_kindAt_14 f_TallySlateModel_183 (by decide) rfl hW ?_
    refine x_aload_n dX10_kindAt_17 rfl rfl rfl ?_
    refine m_geta dX10_kindAt_18 f_TallySlateModel_189 (by decide) rfl hW ?_
    refine x_iload_n dX10_kindAt_21 rfl rfl ?_
    obtain ⟨hb, hT⟩ := hT
    refine m_iald (v := (s.2.2.1 107 x1.toNatClampNeg)) dX10_kindAt_22 rfl hb hW rfl ?_
    obtain ⟨hb, hT⟩ := hT
    refine m_iald (v := (s.2.2.1 104 (s.2.2.1 107 x1.toNatClampNeg).toNatClampNeg)) dX10_kindAt_23 rfl hb hW rfl ?_
    exact x_iret dX10_kindAt_24 rfl rfl ⟨_, _, rfl, hW, hF, hT⟩
  · have hT := hT.2 c
    refine x_iconst (v := 0) dX10_kindAt_9 rfl ?_
    refine x_goto (tgt := 24) dX10_kindAt_10 rfl ?_
    exact x_iret dX10_kindAt_24 rfl rfl ⟨_, _, rfl, hW, hF, hT⟩
theorem eX10_kindAt {l : Launch} {E : EN} {w : MO} {d : Nat} {s : MS} {Q : Option Value → MS → Prop} {x1 : Int32} (hst : l.stackTraces = false) (hT : (inB x1 9000 ∧ ((¬ (s.2.2.1 106 x1.toNatClampNeg) = 0 → (inB x1 9000 ∧ (inB (s.2.2.1 107 x1.toNatClampNeg) 166300 ∧ Q (some (.int (s.2.2.1 104 (s.2.2.1 107 x1.toNatClampNeg).toNatClampNeg))) s))) ∧ ((s.2.2.1 106 x1.toNatClampNeg) = 0 → Q (some (.int 0)) s)))) : EvM l E w d MX10_kindAt [.ref w.1, .int x1] s Q :=
  EvM.of hst (by decide) (Nat.le_of_ble_eq_true rfl) (vX10_kindAt_0 hT)
theorem vX10_single_0 {l : Launch} {E : EN} {w : MO} {d : Nat} {s : MS} {Q : Option Value → MS → Prop} {x1 : Int32} {x2 : Int32} (hT : ((¬ x1 = 45 → ((¬ x2 = 0 → Q (some (.int 0)) s) ∧ (x2 = 0 → Q (some (.int 1)) s))) ∧ (x1 = 45 → Q (some (.int (-x2))) s))) : ExM l E w d MX10_single 0 [some (.int x1), some (.int x2)] [] s Q := by
  intro h0 h hW hF
  refine x_iload_n dX10_single_0 rfl rfl ?_
  refine x_bipush (v := 45) dX10_single_1 rfl ?_
  refine x_icmp_ne (tgt := 11) dX10_single_3 rfl (fun c => ?_) (fun c => ?_)
  · have hT := hT.1 c
    refine x_iload_n dX10_single_11 rfl rfl ?_
    refine x_if_ne (tgt := 19) dX10_single_12 rfl (fun c => ?_) (fun c => ?_)
    · have hT := hT.1 c
      refine x_iconst (v := 0) dX10_single_19 rfl ?_
      exact x_iret dX10_single_20 rfl rfl ⟨_, _, rfl, hW, hF, hT⟩
    · have hT := hT.2 c
      refine x_iconst (v := 1) dX10_single_15 rfl ?_
      refine x_goto (tgt := 20) dX10_single_16 rfl ?_
      exact x_iret dX10_single_20 rfl rfl ⟨_, _, rfl, hW, hF, hT⟩
  · have hT := hT.2 c
    refine x_iload_n dX10_single_6 rfl rfl ?_
    refine x_ineg dX10_single_7 ?_
    refine x_goto (tgt := 20) dX10_single_8 rfl ?_
    exact x_iret dX10_single_20 rfl rfl ⟨_, _, rfl, hW, hF, hT⟩
theorem eX10_single {l : Launch} {E : EN} {w : MO} {d : Nat} {s : MS} {Q : Option Value → MS → Prop} {x1 : Int32} {x2 : Int32} (hst : l.stackTraces = false) (hT : ((¬ x1 = 45 → ((¬ x2 = 0 → Q (some (.int 0)) s) ∧ (x2 = 0 → Q (some (.int 1)) s))) ∧ (x1 = 45 → Q (some (.int (-x2))) s))) : EvM l E w d MX10_single [.int x1, .int x2] s Q :=
  EvM.of hst (by decide) (Nat.le_of_ble_eq_true rfl) (vX10_single_0 hT)
theorem vX10_sizeAt_0 {l : Launch} {E : EN} {w : MO} {d : Nat} {s : MS} {Q : Option Value → MS → Prop} {x1 : Int32} (hT : (inB (x1 + 1) 166300 ∧ Q (some (.int (s.2.2.1 104 (x1 + 1).toNatClampNeg))) s)) : ExM l E w d MX10_sizeAt 0 [some (.ref w.1), some (.int x1)] [] s Q := by
  intro h0 h hW hF
  refine x_aload_n dX10_sizeAt_0 rfl rfl rfl ?_
  refine m_geta dX10_sizeAt_1 f_TallySlateModel_183 (by decide) rfl hW ?_
  refine x_iload_n dX10_sizeAt_4 rfl rfl ?_
  refine x_iconst (v := 1) dX10_sizeAt_5 rfl ?_
  refine x_iadd dX10_sizeAt_6 ?_
  obtain ⟨hb, hT⟩ := hT
  refine m_iald (v := (s.2.2.1 104 (x1 + 1).toNatClampNeg)) dX10_sizeAt_7 rfl hb hW rfl ?_
  exact x_iret dX10_sizeAt_8 rfl rfl ⟨_, _, rfl, hW, hF, hT⟩
theorem eX10_sizeAt {l : Launch} {E : EN} {w : MO} {d : Nat} {s : MS} {Q : Option Value → MS → Prop} {x1 : Int32} (hst : l.stackTraces = false) (hT : (inB (x1 + 1) 166300 ∧ Q (some (.int (s.2.2.1 104 (x1 + 1).toNatClampNeg))) s)) : EvM l E w d MX10_sizeAt [.ref w.1, .int x1] s Q :=
  EvM.of hst (by decide) (Nat.le_of_ble_eq_true rfl) (vX10_sizeAt_0 hT)
theorem vX10_builds_0 {l : Launch} {E : EN} {w : MO} {d : Nat} {s : MS} {Q : Option Value → MS → Prop} {x1 : Int32} {x2 : Int32} (hT : (∀ y1 : Int32, y1 = ((s.1 108) - x2) → ((¬ x1 = 1 → ((y1 ≤ 20 → ExM l E w (d + 1) MX10_builds 36 [some (.ref w.1), some (.int x1), some (.int x2), some (.int y1), some (.int 0), some (.int 0), some (.int x2), none, none, none] [] s Q) ∧ (¬ y1 ≤ 20 → ExM l E w (d + 1) MX10_builds 36 [some (.ref w.1), some (.int x1), some (.int x2), some (.int y1), some (.int 0), some (.int 1), some (.int x2), none, none, none] [] s Q))) ∧ (x1 = 1 → ((y1 ≤ 64 → ExM l E w (d + 1) MX10_builds 36 [some (.ref w.1), some (.int x1), some (.int x2), some (.int y1), some (.int 0), some (.int 0), some (.int x2), none, none, none] [] s Q) ∧ (¬ y1 ≤ 64 → ExM l E w (d + 1) MX10_builds 36 [some (.ref w.1), some (.int x1), some (.int x2), some (.int y1), some (.int 0), some (.int 1), some (.int x2), none, none, none] [] s Q)))))) : ExM l E w (d + 1) MX10_builds 0 [some (.ref w.1), some (.int x1), some (.int x2), none, none, none, none, none, none, none] [] s Q := by
  intro h0 h hW hF
  refine x_aload_n dX10_builds_0 rfl rfl rfl ?_
  refine m_geti (v := (s.1 108)) dX10_builds_1 f_TallySlateModel_461 (by decide) rfl hW rfl ?_
  refine x_iload_n dX10_builds_4 rfl rfl ?_
  refine x_isub dX10_builds_5 ?_
  obtain ⟨y1, ey1⟩ : ∃ z : Int32, z = ((s.1 108) - x2) := ⟨_, rfl⟩
  have hT := hT y1 ey1
  refine x_istore_n (lo' := [some (.ref w.1), some (.int x1), some (.int x2), some (.int y1), none, none, none, none, none, none]) dX10_builds_6 rfl (Nat.le_of_ble_eq_true rfl) (by rw [ey1]; rfl) ?_
  refine x_iconst (v := 0) dX10_builds_7 rfl ?_
  refine x_istore (lo' := [some (.ref w.1), some (.int x1), some (.int x2), some (.int y1), some (.int 0), none, none, none, none, none]) dX10_builds_8 (Nat.le_of_ble_eq_true rfl) rfl ?_
  refine x_iload_n dX10_builds_10 rfl rfl ?_
  refine x_iload_n dX10_builds_11 rfl rfl ?_
  refine x_iconst (v := 1) dX10_builds_12 rfl ?_
  refine x_icmp_ne (tgt := 21) dX10_builds_13 rfl (fun c => ?_) (fun c => ?_)
  · have hT := hT.1 c
    refine x_bipush (v := 20) dX10_builds_21 rfl ?_
    refine x_icmp_le (tgt := 30) dX10_builds_23 rfl (fun c => ?_) (fun c => ?_)
    · have hT := hT.1 c
      refine x_iconst (v := 0) dX10_builds_30 rfl ?_
      refine x_istore (lo' := [some (.ref w.1), some (.int x1), some (.int x2), some (.int y1), some (.int 0), some (.int 0), none, none, none, none]) dX10_builds_31 (Nat.le_of_ble_eq_true rfl) rfl ?_
      refine x_iload_n dX10_builds_33 rfl rfl ?_
      refine x_istore (lo' := [some (.ref w.1), some (.int x1), some (.int x2), some (.int y1), some (.int 0), some (.int 0), some (.int x2), none, none, none]) dX10_builds_34 (Nat.le_of_ble_eq_true rfl) rfl ?_
      exact hT h0 h hW hF
    · have hT := hT.2 c
      refine x_iconst (v := 1) dX10_builds_26 rfl ?_
      refine x_goto (tgt := 31) dX10_builds_27 rfl ?_
      refine x_istore (lo' := [some (.ref w.1), some (.int x1), some (.int x2), some (.int y1), some (.int 0), some (.int 1), none, none, none, none]) dX10_builds_31 (Nat.le_of_ble_eq_true rfl) rfl ?_
      refine x_iload_n dX10_builds_33 rfl rfl ?_
      refine x_istore (lo' := [some (.ref w.1), some (.int x1), some (.int x2), some (.int y1), some (.int 0), some (.int 1), some (.int x2), none, none, none]) dX10_builds_34 (Nat.le_of_ble_eq_true rfl) rfl ?_
      exact hT h0 h hW hF
  · have hT := hT.2 c
    refine x_bipush (v := 64) dX10_builds_16 rfl ?_
    refine x_goto (tgt := 23) dX10_builds_18 rfl ?_
    refine x_icmp_le (tgt := 30) dX10_builds_23 rfl (fun c => ?_) (fun c => ?_)
    · have hT := hT.1 c
      refine x_iconst (v := 0) dX10_builds_30 rfl ?_
      refine x_istore (lo' := [some (.ref w.1), some (.int x1), some (.int x2), some (.int y1), some (.int 0), some (.int 0), none, none, none, none]) dX10_builds_31 (Nat.le_of_ble_eq_true rfl) rfl ?_
      refine x_iload_n dX10_builds_33 rfl rfl ?_
      refine x_istore (lo' := [some (.ref w.1), some (.int x1), some (.int x2), some (.int y1), some (.int 0), some (.int 0), some (.int x2), none, none, none]) dX10_builds_34 (Nat.le_of_ble_eq_true rfl) rfl ?_
      exact hT h0 h hW hF
    · have hT := hT.2 c
      refine x_iconst (v := 1) dX10_builds_26 rfl ?_
      refine x_goto (tgt := 31) dX10_builds_27 rfl ?_
      refine x_istore (lo' := [some (.ref w.1), some (.int x1), some (.int x2), some (.int y1), some (.int 0), some (.int 1), none, none, none, none]) dX10_builds_31 (Nat.le_of_ble_eq_true rfl) rfl ?_
      refine x_iload_n dX10_builds_33 rfl rfl ?_
      refine x_istore (lo' := [some (.ref w.1), some (.int x1), some (.int x2), some (.int y1), some (.int 0), some (.int 1), some (.int x2), none, none, none]) dX10_builds_34 (Nat.le_of_ble_eq_true rfl) rfl ?_
      exact hT h0 h hW hF
theorem eX10_builds {l : Launch} {E : EN} {w : MO} {d : Nat} {s : MS} {Q : Option Value → MS → Prop} {x1 : Int32} {x2 : Int32} (hst : l.stackTraces = false) (hT : (∀ y1 : Int32, y1 = ((s.1 108) - x2) → ((¬ x1 = 1 → ((y1 ≤ 20 → ExM l E w (d + 1) MX10_builds 36 [some (.ref w.1), some (.int x1), some (.int x2), some (.int y1), some (.int 0), some (.int 0), some (.int x2), none, none, none] [] s Q) ∧ (¬ y1 ≤ 20 → ExM l E w (d + 1) MX10_builds 36 [some (.ref w.1), some (.int x1), some (.int x2), some (.int y1), some (.int 0), some (.int 1), some (.int x2), none, none, none] [] s Q))) ∧ (x1 = 1 → ((y1 ≤ 64 → ExM l E w (d + 1) MX10_builds 36 [some (.ref w.1), some (.int x1), some (.int x2), some (.int y1), some (.int 0), some (.int 0), some (.int x2), none, none, none] [] s Q) ∧ (¬ y1 ≤ 64 → ExM l E w (d + 1) MX10_builds 36 [some (.ref w.1), some (.int x1), some (.int x2), some (.int y1), some (.int 0), some (.int 1), some (.int x2), none, none, none] [] s Q)))))) : EvM l E w (d + 1) MX10_builds [.ref w.1, .int x1, .int x2] s Q :=
  EvM.of hst (by decide) (Nat.le_of_ble_eq_true rfl) (vX10_builds_0 hT)
set_option maxHeartbeats 16000000 in
theorem vX10_builds_36 {l : Launch} {E : EN} {w : MO} {d : Nat} {s : MS} {Q : Option Value → MS → Prop} {a1 : Int32} {a2 : Int32} {a3 : Int32} {a4 : Int32} {a5 : Int32} {a6 : Int32} (hT : (((s.1 108) ≤ a6 → ((¬ a5 = 0 → ExM l E w (d + 1) MX10_builds 101 [some (.ref w.1), some (.int a1), some (.int a2), some (.int a3), none, some (.int 1), some (.int 0), some (.int 1), some (.int a2), none] [] s Q) ∧ (a5 = 0 → ((a4 ≤ 200 → ExM l E w (d + 1) MX10_builds 101 [some (.ref w.1), some (.int a1), some (.int a2), some (.int a3), none, some (.int 0), some (.int 0), some (.int 1), some (.int a2), none] [] s Q) ∧ (¬ a4 ≤ 200 → ExM l E w (d + 1) MX10_builds 101 [some (.ref w.1), some (.int a1), some (.int a2), some (.int a3), none, some (.int 1), some (.int 0), some (.int 1), some (.int a2), none] [] s Q))))) ∧ (¬ (s.1 108) ≤ a6 → ((¬ a1 = 2 → ((¬ a5 = 0 → ExM l E w (d + 1) MX10_builds 101 [some (.ref w.1), some (.int a1), some (.int a2), some (.int a3), none, some (.int 1), some (.int 0), some (.int 1), some (.int a2), none] [] s Q) ∧ (a5 = 0 → ((a4 ≤ 200 → ExM l E w (d + 1) MX10_builds 101 [some (.ref w.1), some (.int a1), some (.int a2), some (.int a3), none, some (.int 0), some (.int 0), some (.int 1), some (.int a2), none] [] s Q) ∧ (¬ a4 ≤ 200 → ExM l E w (d + 1) MX10_builds 101 [some (.ref w.1), some (.int a1), some (.int a2), some (.int a3), none, some (.int 1), some (.int 0), some (.int 1), some (.int a2), none] [] s Q))))) ∧ (a1 = 2 → (inB a6 9000 ∧ (EvM l E w d MX10_sizeAt [.ref w.1, .int (s.2.2.1 107 a6.toNatClampNeg)] s (fun r s1 => ∃ v2 : Int32, r = some (.int v2) ∧ (∀ y3 : Int32, y3 = (a4 + v2) → ExM l E w (d + 1) MX10_builds 36 [some (.ref w.1), some (.int a1), some (.int a2), some (.int a3), some (.int y3), some (.int a5), some (.int (a6 + 1)), none, none, none] [] s1 Q))))))))) : ExM l E w (d + 1) MX10_builds 36 [some (.ref w.1), some (.int a1), some (.int a2), some (.int a3), some (.int a4), some (.int a5), some (.int a6), none, none, none] [] s Q := by
  intro h0 h hW hF
  refine x_iload dX10_builds_36 rfl ?_
  refine x_aload_n dX10_builds_38 rfl rfl rfl ?_
  refine m_geti (v := (s.1 108)) dX10_builds_39 f_TallySlateModel_461 (by decide) rfl hW rfl ?_
  refine x_icmp_ge (tgt := 72) dX10_builds_42 rfl (fun c => ?_) (fun c => ?_)
  · have hT := hT.1 c
    refine x_iload dX10_builds_72 rfl ?_
    refine x_if_ne (tgt := 85) dX10_builds_74 rfl (fun c => ?_) (fun c => ?_)
    · have hT := hT.1 c
      refine x_iconst (v := 1) dX10_builds_85 rfl ?_
      refine x_goto (tgt := 90) dX10_builds_86 rfl ?_
      refine x_istore (lo' := [some (.ref w.1), some (.int a1), some (.int a2), some (.int a3), some (.int a4), some (.int 1), some (.int a6), none, none, none]) dX10_builds_90 (Nat.le_of_ble_eq_true rfl) rfl ?_
      refine x_iconst (v := 0) dX10_builds_92 rfl ?_
      refine x_istore (lo' := [some (.ref w.1), some (.int a1), some (.int a2), some (.int a3), some (.int a4), some (.int 1), some (.int 0), none, none, none]) dX10_builds_93 (Nat.le_of_ble_eq_true rfl) rfl ?_
      refine x_iconst (v := 1) dX10_builds_95 rfl ?_
      refine x_istore (lo' := [some (.ref w.1), some (.int a1), some (.int a2), some (.int a3), some (.int a4), some (.int 1), some (.int 0), some (.int 1), none, none]) dX10_builds_96 (Nat.le_of_ble_eq_true rfl) rfl ?_
      refine x_iload_n dX10_builds_98 rfl rfl ?_
      refine x_istore (lo' := [some (.ref w.1), some (.int a1), some (.int a2), some (.int a3), some (.int a4), some (.int 1), some (.int 0), some (.int 1), some (.int a2), none]) dX10_builds_99 (Nat.le_of_ble_eq_true rfl) rfl ?_
      refine Ex.wkl (lo' := [some (.ref w.1), some (.int a1), some (.int a2), some (.int a3), none, some (.int 1), some (.int 0), some (.int 1), some (.int a2), none]) ⟨rfl, rfl, rfl, rfl, rfl, rfl, rfl, rfl, trivial⟩ ?_
      exact hT h0 h hW hF
    · have hT := hT.2 c
      refine x_iload dX10_builds_77 rfl ?_
      refine x_sipush (v := 200) dX10_builds_79 rfl ?_
      refine x_icmp_le (tgt := 89) dX10_builds_82 rfl (fun c => ?_) (fun c => ?_)
      · have hT := hT.1 c
        refine x_iconst (v := 0) dX10_builds_89 rfl ?_
        refine x_istore (lo' := [some (.ref w.1), some (.int a1), some (.int a2), some (.int a3), some (.int a4), some (.int 0), some (.int a6), none, none, none]) dX10_builds_90 (Nat.le_of_ble_eq_true rfl) rfl ?_
        refine x_iconst (v := 0) dX10_builds_92 rfl ?_
        refine x_istore (lo' := [some (.ref w.1), some (.int a1), some (.int a2), some (.int a3), some (.int a4), some (.int 0), some (.int 0), none, none, none]) dX10_builds_93 (Nat.le_of_ble_eq_true rfl) rfl ?_
        refine x_iconst (v := 1) dX10_builds_95 rfl ?_
        refine x_istore (lo' := [some (.ref w.1), some (.int a1), some (.int a2), some (.int a3), some (.int a4), some (.int 0), some (.int 0), some (.int 1), none, none]) dX10_builds_96 (Nat.le_of_ble_eq_true rfl) rfl ?_
        refine x_iload_n dX10_builds_98 rfl rfl ?_
        refine x_istore (lo' := [some (.ref w.1), some (.int a1), some (.int a2), some (.int a3), some (.int a4), some (.int 0), some (.int 0), some (.int 1), some (.int a2), none]) dX10_builds_99 (Nat.le_of_ble_eq_true rfl) rfl ?_
        refine Ex.wkl (lo' := [some (.ref w.1), some (.int a1), some (.int a2), some (.int a3), none, some (.int 0), some (.int 0), some (.int 1), some (.int a2), none]) ⟨rfl, rfl, rfl, rfl, rfl, rfl, rfl, rfl, trivial⟩ ?_
        exact hT h0 h hW hF
      · have hT := hT.2 c
        refine x_iconst (v := 1) dX10_builds_85 rfl ?_
        refine x_goto (tgt := 90) dX10_builds_86 rfl ?_
        refine x_istore (lo' := [some (.ref w.1), some (.int a1), some (.int a2), some (.int a3), some (.int a4), some (.int 1), some (.int a6), none, none, none]) dX10_builds_90 (Nat.le_of_ble_eq_true rfl) rfl ?_
        refine x_iconst (v := 0) dX10_builds_92 rfl ?_
        refine x_istore (lo' := [some (.ref w.1), some (.int a1), some (.int a2), some (.int a3), some (.int a4), some (.int 1), some (.int 0), none, none, none]) dX10_builds_93 (Nat.le_of_ble_eq_true rfl) rfl ?_
        refine x_iconst (v := 1) dX10_builds_95 rfl ?_
        refine x_istore (lo' := [some (.ref w.1), some (.int a1), some (.int a2), some (.int a3), some (.int a4), some (.int 1), some (.int 0), some (.int 1), none, none]) dX10_builds_96 (Nat.le_of_ble_eq_true rfl) rfl ?_
        refine x_iload_n dX10_builds_98 rfl rfl ?_
        refine x_istore (lo' := [some (.ref w.1), some (.int a1), some (.int a2), some (.int a3), some (.int a4), some (.int 1), some (.int 0), some (.int 1), some (.int a2), none]) dX10_builds_99 (Nat.le_of_ble_eq_true rfl) rfl ?_
        refine Ex.wkl (lo' := [some (.ref w.1), some (.int a1), some (.int a2), some (.int a3), none, some (.int 1), some (.int 0), some (.int 1), some (.int a2), none]) ⟨rfl, rfl, rfl, rfl, rfl, rfl, rfl, rfl, trivial⟩ ?_
        exact hT h0 h hW hF
  · have hT := hT.2 c
    refine x_iload_n dX10_builds_45 rfl rfl ?_
    refine x_iconst (v := 2) dX10_builds_46 rfl ?_
    refine x_icmp_ne (tgt := 72) dX10_builds_47 rfl (fun c => ?_) (fun c => ?_)
    · have hT := hT.1 c
      refine x_iload dX10_builds_72 rfl ?_
      refine x_if_ne (tgt := 85) dX10_builds_74 rfl (fun c => ?_) (fun c => ?_)
      · have hT := hT.1 c
        refine x_iconst (v := 1) dX10_builds_85 rfl ?_
        refine x_goto (tgt := 90) dX10_builds_86 rfl ?_
        refine x_istore (lo' := [some (.ref w.1), some (.int a1), some (.int a2), some (.int a3), some (.int a4), some (.int 1), some (.int a6), none, none, none]) dX10_builds_90 (Nat.le_of_ble_eq_true rfl) rfl ?_
        refine x_iconst (v := 0) dX10_builds_92 rfl ?_
        refine x_istore (lo' := [some (.ref w.1), some (.int a1), some (.int a2), some (.int a3), some (.int a4), some (.int 1), some (.int 0), none, none, none]) dX10_builds_93 (Nat.le_of_ble_eq_true rfl) rfl ?_
        refine x_iconst (v := 1) dX10_builds_95 rfl ?_
        refine x_istore (lo' := [some (.ref w.1), some (.int a1), some (.int a2), some (.int a3), some (.int a4), some (.int 1), some (.int 0), some (.int 1), none, none]) dX10_builds_96 (Nat.le_of_ble_eq_true rfl) rfl ?_
        refine x_iload_n dX10_builds_98 rfl rfl ?_
        refine x_istore (lo' := [some (.ref w.1), some (.int a1), some (.int a2), some (.int a3), some (.int a4), some (.int 1), some (.int 0), some (.int 1), some (.int a2), none]) dX10_builds_99 (Nat.le_of_ble_eq_true rfl) rfl ?_
        refine Ex.wkl (lo' := [some (.ref w.1), some (.int a1), some (.int a2), some (.int a3), none, some (.int 1), some (.int 0), some (.int 1), some (.int a2), none]) ⟨rfl, rfl, rfl, rfl, rfl, rfl, rfl, rfl, trivial⟩ ?_
        exact hT h0 h hW hF
      · have hT := hT.2 c
        refine x_iload dX10_builds_77 rfl ?_
        refine x_sipush (v := 200) dX10_builds_79 rfl ?_
        refine x_icmp_le (tgt := 89) dX10_builds_82 rfl (fun c => ?_) (fun c => ?_)
        · have hT := hT.1 c
          refine x_iconst (v := 0) dX10_builds_89 rfl ?_
          refine x_istore (lo' := [some (.ref w.1), some (.int a1), some (.int a2), some (.int a3), some (.int a4), some (.int 0), some (.int a6), none, none, none]) dX10_builds_90 (Nat.le_of_ble_eq_true rfl) rfl ?_
          refine x_iconst (v := 0) dX10_builds_92 rfl ?_
          refine x_istore (lo' := [some (.ref w.1), some (.int a1), some (.int a2), some (.int a3), some (.int a4), some (.int 0), some (.int 0), none, none, none]) dX10_builds_93 (Nat.le_of_ble_eq_true rfl) rfl ?_
          refine x_iconst (v := 1) dX10_builds_95 rfl ?_
          refine x_istore (lo' := [some (.ref w.1), some (.int a1), some (.int a2), some (.int a3), some (.int a4), some (.int 0), some (.int 0), some (.int 1), none, none]) dX10_builds_96 (Nat.le_of_ble_eq_true rfl) rfl ?_
          refine x_iload_n dX10_builds_98 rfl rfl ?_
          refine x_istore (lo' := [some (.ref w.1), some (.int a1), some (.int a2), some (.int a3), some (.int a4), some (.int 0), some (.int 0), some (.int 1), some (.int a2), none]) dX10_builds_99 (Nat.le_of_ble_eq_true rfl) rfl ?_
          refine Ex.wkl (lo' := [some (.ref w.1), some (.int a1), some (.int a2), some (.int a3), none, some (.int 0), some (.int 0), some (.int 1), some (.int a2), none]) ⟨rfl, rfl, rfl, rfl, rfl, rfl, rfl, rfl, trivial⟩ ?_
          exact hT h0 h hW hF
        · have hT := hT.2 c
          refine x_iconst (v := 1) dX10_builds_85 rfl ?_
          refine x_goto (tgt := 90) dX10_builds_86 rfl ?_
          refine x_istore (lo' := [some (.ref w.1), some (.int a1), some (.int a2), some (.int a3), some (.int a4), some (.int 1), some (.int a6), none, none, none]) dX10_builds_90 (Nat.le_of_ble_eq_true rfl) rfl ?_
          refine x_iconst (v := 0) dX10_builds_92 rfl ?_
          refine x_istore (lo' := [some (.ref w.1), some (.int a1), some (.int a2), some (.int a3), some (.int a4), some (.int 1), some (.int 0), none, none, none]) dX10_builds_93 (Nat.le_of_ble_eq_true rfl) rfl ?_
          refine x_iconst (v := 1) dX10_builds_95 rfl ?_
          refine x_istore (lo' := [some (.ref w.1), some (.int a1), some (.int a2), some (.int a3), some (.int a4), some (.int 1), some (.int 0), some (.int 1), none, none]) dX10_builds_96 (Nat.le_of_ble_eq_true rfl) rfl ?_
          refine x_iload_n dX10_builds_98 rfl rfl ?_
          refine x_istore (lo' := [some (.ref w.1), some (.int a1), some (.int a2), some (.int a3), some (.int a4), some (.int 1), some (.int 0), some (.int 1), some (.int a2), none]) dX10_builds_99 (Nat.le_of_ble_eq_true rfl) rfl ?_
          refine Ex.wkl (lo' := [some (.ref w.1), some (.int a1), some (.int a2), some (.int a3), none, some (.int 1), some (.int 0), some (.int 1), some (.int a2), none]) ⟨rfl, rfl, rfl, rfl, rfl, rfl, rfl, rfl, trivial⟩ ?_
          exact hT h0 h hW hF
    · have hT := hT.2 c
      refine x_iload dX10_builds_50 rfl ?_
      refine x_aload_n dX10_builds_52 rfl rfl rfl ?_
      refine x_aload_n dX10_builds_53 rfl rfl rfl ?_
      refine m_geta dX10_builds_54 f_TallySlateModel_189 (by decide) rfl hW ?_
      refine x_iload dX10_builds_57 rfl ?_
      obtain ⟨hb, hT⟩ := hT
      refine m_iald (v := (s.2.2.1 107 a6.toNatClampNeg)) dX10_builds_59 rfl hb hW rfl ?_
      refine m_inv (vs := [.int (s.2.2.1 107 a6.toNatClampNeg)]) dX10_builds_60 oX10_sizeAt q2735 q2733 qs107 rfl rfl (Nat.le_of_ble_eq_true rfl) rfl hW hF hT ?_
      rintro _ s1 ⟨v2, rfl, hT⟩ h hW hF
      refine x_iadd dX10_builds_63 ?_
      obtain ⟨y3, ey3⟩ : ∃ z : Int32, z = (a4 + v2) := ⟨_, rfl⟩
      have hT := hT y3 ey3
      refine x_istore (lo' := [some (.ref w.1), some (.int a1), some (.int a2), some (.int a3), some (.int y3), some (.int a5), some (.int a6), none, none, none]) dX10_builds_64 (Nat.le_of_ble_eq_true rfl) (by rw [ey3]; rfl) ?_
      refine x_iinc (lo' := [some (.ref w.1), some (.int a1), some (.int a2), some (.int a3), some (.int y3), some (.int a5), some (.int (a6 + 1)), none, none, none]) dX10_builds_66 rfl (show _ = (a6 + 1) from rfl) rfl ?_
      refine x_goto (tgt := 36) dX10_builds_69 rfl ?_
      exact hT h0 h hW hF
set_option maxHeartbeats 16000000 in
theorem vX10_builds_101 {l : Launch} {E : EN} {w : MO} {d : Nat} {s : MS} {Q : Option Value → MS → Prop} {a1 : Int32} {a2 : Int32} {a3 : Int32} {a5 : Int32} {a6 : Int32} {a7 : Int32} {a8 : Int32} (hT : (((s.1 108) ≤ a8 → ((¬ a5 = 0 → (EvM l E w d MX10_trouble [.ref w.1, .int 2, .int (s.1 127)] s (fun r s1 => r = none ∧ Q none s1))) ∧ (a5 = 0 → ((3 < a6 → (EvM l E w d MX10_trouble [.ref w.1, .int 2, .int (s.1 127)] s (fun r s2 => r = none ∧ Q none s2))) ∧ (¬ 3 < a6 → ((a7 ≤ 600 → (EvM l E w d MX10_begins [.ref w.1, .int a1, .int a3] s (fun r s3 => ∃ v4 : Int32, r = some (.int v4) ∧ ExM l E w (d + 1) MX10_builds 239 [some (.ref w.1), some (.int a1), some (.int a2), none, none, none, none, none, some (.int v4), some (.int a2)] [] s3 Q))) ∧ (¬ a7 ≤ 600 → (EvM l E w d MX10_trouble [.ref w.1, .int 2, .int (s.1 127)] s (fun r s5 => r = none ∧ Q none s5))))))))) ∧ (¬ (s.1 108) ≤ a8 → ((¬ a1 = 3 → ((¬ a5 = 0 → (EvM l E w d MX10_trouble [.ref w.1, .int 2, .int (s.1 127)] s (fun r s6 => r = none ∧ Q none s6))) ∧ (a5 = 0 → ((3 < a6 → (EvM l E w d MX10_trouble [.ref w.1, .int 2, .int (s.1 127)] s (fun r s7 => r = none ∧ Q none s7))) ∧ (¬ 3 < a6 → ((a7 ≤ 600 → (EvM l E w d MX10_begins [.ref w.1, .int a1, .int a3] s (fun r s8 => ∃ v9 : Int32, r = some (.int v9) ∧ ExM l E w (d + 1) MX10_builds 239 [some (.ref w.1), some (.int a1), some (.int a2), none, none, none, none, none, some (.int v9), some (.int a2)] [] s8 Q))) ∧ (¬ a7 ≤ 600 → (EvM l E w d MX10_trouble [.ref w.1, .int 2, .int (s.1 127)] s (fun r s10 => r = none ∧ Q none s10))))))))) ∧ (a1 = 3 → ((¬ a5 = 0 → ((¬ a5 = 0 → (EvM l E w d MX10_trouble [.ref w.1, .int 2, .int (s.1 127)] s (fun r s11 => r = none ∧ Q none s11))) ∧ (a5 = 0 → ((3 < a6 → (EvM l E w d MX10_trouble [.ref w.1, .int 2, .int (s.1 127)] s (fun r s12 => r = none ∧ Q none s12))) ∧ (¬ 3 < a6 → ((a7 ≤ 600 → (EvM l E w d MX10_begins [.ref w.1, .int a1, .int a3] s (fun r s13 => ∃ v14 : Int32, r = some (.int v14) ∧ ExM l E w (d + 1) MX10_builds 239 [some (.ref w.1), some (.int a1), some (.int a2), none, none, none, none, none, some (.int v14), some (.int a2)] [] s13 Q))) ∧ (¬ a7 ≤ 600 → (EvM l E w d MX10_trouble [.ref w.1, .int 2, .int (s.1 127)] s (fun r s15 => r = none ∧ Q none s15))))))))) ∧ (a5 = 0 → (inB a8 9000 ∧ ((¬ (s.2.2.1 106 a8.toNatClampNeg) = 1 → ((0 ≤ a6 → (∀ y16 : Int32, y16 = (a7 + 1) → ExM l E w (d + 1) MX10_builds 101 [some (.ref w.1), some (.int a1), some (.int a2), some (.int a3), none, some (.int a5), some (.int a6), some (.int y16), some (.int (a8 + 1)), none] [] (sI (sI s 113 0) 114 1) Q)) ∧ (¬ 0 ≤ a6 → (∀ y17 : Int32, y17 = (a7 + 1) → ExM l E w (d + 1) MX10_builds 101 [some (.ref w.1), some (.int a1), some (.int a2), some (.int a3), none, some (.int a5), some (.int 0), some (.int y17), some (.int (a8 + 1)), none] [] (sI (sI s 113 0) 114 1) Q)))) ∧ ((s.2.2.1 106 a8.toNatClampNeg) = 1 → (inB a8 9000 ∧ (EvM l E w d MX10_measure [.ref w.1, .int (s.2.2.1 107 a8.toNatClampNeg)] (sI (sI s 113 0) 114 1) (fun r s18 => r = none ∧ (((s18.1 113) ≤ a6 → (∀ y19 : Int32, y19 = (a7 + (s18.1 114)) → ExM l E w (d + 1) MX10_builds 101 [some (.ref w.1), some (.int a1), some (.int a2), some (.int a3), none, some (.int a5), some (.int a6), some (.int y19), some (.int (a8 + 1)), none] [] s18 Q)) ∧ (¬ (s18.1 113) ≤ a6 → (∀ y20 : Int32, y20 = (s18.1 113) → (∀ y21 : Int32, y21 = (a7 + (s18.1 114)) → ExM l E w (d + 1) MX10_builds 101 [some (.ref w.1), some (.int a1), some (.int a2), some (.int a3), none, some (.int a5), some (.int y20), some (.int y21), some (.int (a8 + 1)), none] [] s18 Q))))))))))))))))) : ExM l E w (d + 1) MX10_builds 101 [some (.ref w.1), some (.int a1), some (.int a2), some (.int a3), none, some (.int a5), some (.int a6), some (.int a7), some (.int a8), none] [] s Q := by
  intro h0 h hW hF
  refine x_iload dX10_builds_101 rfl ?_
  refine x_aload_n dX10_builds_103 rfl rfl rfl ?_
  refine m_geti (v := (s.1 108)) dX10_builds_104 f_TallySlateModel_461 (by decide) rfl hW rfl ?_
  refine x_icmp_ge (tgt := 187) dX10_builds_107 rfl (fun c => ?_) (fun c => ?_)
  · have hT := hT.1 c
    refine x_iload dX10_builds_187 rfl ?_
    refine x_if_ne (tgt := 206) dX10_builds_189 rfl (fun c => ?_) (fun c => ?_)
    · have hT := hT.1 c
      refine x_iconst (v := 1) dX10_builds_206 rfl ?_
      refine x_goto (tgt := 211) dX10_builds_207 rfl ?_
      refine x_istore (lo' := [some (.ref w.1), some (.int a1), some (.int a2), some (.int a3), none, some (.int 1), some (.int a6), some (.int a7), some (.int a8), none]) dX10_builds_211 (Nat.le_of_ble_eq_true rfl) rfl ?_
      refine x_iload dX10_builds_213 rfl ?_
      refine x_if_eq (tgt := 228) dX10_builds_215 rfl (fun c => absurd c (by decide)) (fun _ => ?_)
      refine x_aload_n dX10_builds_218 rfl rfl rfl ?_
      refine x_iconst (v := 2) dX10_builds_219 rfl ?_
      refine x_aload_n dX10_builds_220 rfl rfl rfl ?_
      refine m_geti (v := (s.1 127)) dX10_builds_221 f_TallySlateModel_507 (by decide) rfl hW rfl ?_
      refine m_inv (vs := [.int 2, .int (s.1 127)]) dX10_builds_224 oX10_trouble q2696 q2694 qs98 rfl rfl (Nat.le_of_ble_eq_true rfl) rfl hW hF hT ?_
      rintro _ s1 ⟨rfl, hT⟩ h hW hF
      exact x_vret dX10_builds_227 rfl ⟨_, _, rfl, hW, hF, hT⟩
    · have hT := hT.2 c
      refine x_iload dX10_builds_192 rfl ?_
      refine x_iconst (v := 3) dX10_builds_194 rfl ?_
      refine x_icmp_gt (tgt := 206) dX10_builds_195 rfl (fun c => ?_) (fun c => ?_)
      · have hT := hT.1 c
        refine x_iconst (v := 1) dX10_builds_206 rfl ?_
        refine x_goto (tgt := 211) dX10_builds_207 rfl ?_
        refine x_istore (lo' := [some (.ref w.1), some (.int a1), some (.int a2), some (.int a3), none, some (.int 1), some (.int a6), some (.int a7), some (.int a8), none]) dX10_builds_211 (Nat.le_of_ble_eq_true rfl) rfl ?_
        refine x_iload dX10_builds_213 rfl ?_
        refine x_if_eq (tgt := 228) dX10_builds_215 rfl (fun c => absurd c (by decide)) (fun _ => ?_)
        refine x_aload_n dX10_builds_218 rfl rfl rfl ?_
        refine x_iconst (v := 2) dX10_builds_219 rfl ?_
        refine x_aload_n dX10_builds_220 rfl rfl rfl ?_
        refine m_geti (v := (s.1 127)) dX10_builds_221 f_TallySlateModel_507 (by decide) rfl hW rfl ?_
        refine m_inv (vs := [.int 2, .int (s.1 127)]) dX10_builds_224 oX10_trouble q2696 q2694 qs98 rfl rfl (Nat.le_of_ble_eq_true rfl) rfl hW hF hT ?_
        rintro _ s2 ⟨rfl, hT⟩ h hW hF
        exact x_vret dX10_builds_227 rfl ⟨_, _, rfl, hW, hF, hT⟩
      · have hT := hT.2 c
        refine x_iload dX10_builds_198 rfl ?_
        refine x_sipush (v := 600) dX10_builds_200 rfl ?_
        refine x_icmp_le (tgt := 210) dX10_builds_203 rfl (fun c => ?_) (fun c => ?_)
        · have hT := hT.1 c
          refine x_iconst (v := 0) dX10_builds_210 rfl ?_
          refine x_istore (lo' := [some (.ref w.1), some (.int a1), some (.int a2), some (.int a3), none, some (.int 0), some (.int a6), some (.int a7), some (.int a8), none]) dX10_builds_211 (Nat.le_of_ble_eq_true rfl) rfl ?_
          refine x_iload dX10_builds_213 rfl ?_
          refine x_if_eq (tgt := 228) dX10_builds_215 rfl (fun _ => ?_) (fun c => absurd c (by decide))
          refine x_aload_n dX10_builds_228 rfl rfl rfl ?_
          refine x_iload_n dX10_builds_229 rfl rfl ?_
          refine x_iload_n dX10_builds_230 rfl rfl ?_
          refine m_inv (vs := [.int a1, .int a3]) dX10_builds_231 oX10_begins q2763 q2761 qs114 rfl rfl (Nat.le_of_ble_eq_true rfl) rfl hW hF hT ?_
          rintro _ s3 ⟨v4, rfl, hT⟩ h hW hF
          refine x_istore (lo' := [some (.ref w.1), some (.int a1), some (.int a2), some (.int a3), none, some (.int 0), some (.int a6), some (.int a7), some (.int v4), none]) dX10_builds_234 (Nat.le_of_ble_eq_true rfl) rfl ?_
          refine x_iload_n dX10_builds_236 rfl rfl ?_
          refine x_istore (lo' := [some (.ref w.1), some (.int a1), some (.int a2), some (.int a3), none, some (.int 0), some (.int a6), some (.int a7), some (.int v4), some (.int a2)]) dX10_builds_237 (Nat.le_of_ble_eq_true rfl) rfl ?_
          refine Ex.wkl (lo' := [some (.ref w.1), some (.int a1), some (.int a2), none, none, none, none, none, some (.int v4), some (.int a2)]) ⟨rfl, rfl, rfl, rfl, rfl, trivial⟩ ?_
          exact hT h0 h hW hF
        · have hT := hT.2 c
          refine x_iconst (v := 1) dX10_builds_206 rfl ?_
          refine x_goto (tgt := 211) dX10_builds_207 rfl ?_
          refine x_istore (lo' := [some (.ref w.1), some (.int a1), some (.int a2), some (.int a3), none, some (.int 1), some (.int a6), some (.int a7), some (.int a8), none]) dX10_builds_211 (Nat.le_of_ble_eq_true rfl) rfl ?_
          refine x_iload dX10_builds_213 rfl ?_
          refine x_if_eq (tgt := 228) dX10_builds_215 rfl (fun c => absurd c (by decide)) (fun _ => ?_)
          refine x_aload_n dX10_builds_218 rfl rfl rfl ?_
          refine x_iconst (v := 2) dX10_builds_219 rfl ?_
          refine x_aload_n dX10_builds_220 rfl rfl rfl ?_
          refine m_geti (v := (s.1 127)) dX10_builds_221 f_TallySlateModel_507 (by decide) rfl hW rfl ?_
          refine m_inv (vs := [.int 2, .int (s.1 127)]) dX10_builds_224 oX10_trouble q2696 q2694 qs98 rfl rfl (Nat.le_of_ble_eq_true rfl) rfl hW hF hT ?_
          rintro _ s5 ⟨rfl, hT⟩ h hW hF
          exact x_vret dX10_builds_227 rfl ⟨_, _, rfl, hW, hF, hT⟩
  · have hT := hT.2 c
    refine x_iload_n dX10_builds_110 rfl rfl ?_
    refine x_iconst (v := 3) dX10_builds_111 rfl ?_
    refine x_icmp_ne (tgt := 187) dX10_builds_112 rfl (fun c => ?_) (fun c => ?_)
    · have hT := hT.1 c
      refine x_iload dX10_builds_187 rfl ?_
      refine x_if_ne (tgt := 206) dX10_builds_189 rfl (fun c => ?_) (fun c => ?_)
      · have hT := hT.1 c
        refine x_iconst (v := 1) dX10_builds_206 rfl ?_
        refine x_goto (tgt := 211) dX10_builds_207 rfl ?_
        refine x_istore (lo' := [some (.ref w.1), some (.int a1), some (.int a2), some (.int a3), none, some (.int 1), some (.int a6), some (.int a7), some (.int a8), none]) dX10_builds_211 (Nat.le_of_ble_eq_true rfl) rfl ?_
        refine x_iload dX10_builds_213 rfl ?_
        refine x_if_eq (tgt := 228) dX10_builds_215 rfl (fun c => absurd c (by decide)) (fun _ => ?_)
        refine x_aload_n dX10_builds_218 rfl rfl rfl ?_
        refine x_iconst (v := 2) dX10_builds_219 rfl ?_
        refine x_aload_n dX10_builds_220 rfl rfl rfl ?_
        refine m_geti (v := (s.1 127)) dX10_builds_221 f_TallySlateModel_507 (by decide) rfl hW rfl ?_
        refine m_inv (vs := [.int 2, .int (s.1 127)]) dX10_builds_224 oX10_trouble q2696 q2694 qs98 rfl rfl (Nat.le_of_ble_eq_true rfl) rfl hW hF hT ?_
        rintro _ s6 ⟨rfl, hT⟩ h hW hF
        exact x_vret dX10_builds_227 rfl ⟨_, _, rfl, hW, hF, hT⟩
      · have hT := hT.2 c
        refine x_iload dX10_builds_192 rfl ?_
        refine x_iconst (v := 3) dX10_builds_194 rfl ?_
        refine x_icmp_gt (tgt := 206) dX10_builds_195 rfl (fun c => ?_) (fun c => ?_)
        · have hT := hT.1 c
          refine x_iconst (v := 1) dX10_builds_206 rfl ?_
          refine x_goto (tgt := 211) dX10_builds_207 rfl ?_
          refine x_istore (lo' := [some (.ref w.1), some (.int a1), some (.int a2), some (.int a3), none, some (.int 1), some (.int a6), some (.int a7), some (.int a8), none]) dX10_builds_211 (Nat.le_of_ble_eq_true rfl) rfl ?_
          refine x_iload dX10_builds_213 rfl ?_
          refine x_if_eq (tgt := 228) dX10_builds_215 rfl (fun c => absurd c (by decide)) (fun _ => ?_)
          refine x_aload_n dX10_builds_218 rfl rfl rfl ?_
          refine x_iconst (v := 2) dX10_builds_219 rfl ?_
          refine x_aload_n dX10_builds_220 rfl rfl rfl ?_
          refine m_geti (v := (s.1 127)) dX10_builds_221 f_TallySlateModel_507 (by decide) rfl hW rfl ?_
          refine m_inv (vs := [.int 2, .int (s.1 127)]) dX10_builds_224 oX10_trouble q2696 q2694 qs98 rfl rfl (Nat.le_of_ble_eq_true rfl) rfl hW hF hT ?_
          rintro _ s7 ⟨rfl, hT⟩ h hW hF
          exact x_vret dX10_builds_227 rfl ⟨_, _, rfl, hW, hF, hT⟩
        · have hT := hT.2 c
          refine x_iload dX10_builds_198 rfl ?_
          refine x_sipush (v := 600) dX10_builds_200 rfl ?_
          refine x_icmp_le (tgt := 210) dX10_builds_203 rfl (fun c => ?_) (fun c => ?_)
          · have hT := hT.1 c
            refine x_iconst (v := 0) dX10_builds_210 rfl ?_
            refine x_istore (lo' := [some (.ref w.1), some (.int a1), some (.int a2), some (.int a3), none, some (.int 0), some (.int a6), some (.int a7), some (.int a8), none]) dX10_builds_211 (Nat.le_of_ble_eq_true rfl) rfl ?_
            refine x_iload dX10_builds_213 rfl ?_
            refine x_if_eq (tgt := 228) dX10_builds_215 rfl (fun _ => ?_) (fun c => absurd c (by decide))
            refine x_aload_n dX10_builds_228 rfl rfl rfl ?_
            refine x_iload_n dX10_builds_229 rfl rfl ?_
            refine x_iload_n dX10_builds_230 rfl rfl ?_
            refine m_inv (vs := [.int a1, .int a3]) dX10_builds_231 oX10_begins q2763 q2761 qs114 rfl rfl (Nat.le_of_ble_eq_true rfl) rfl hW hF hT ?_
            rintro _ s8 ⟨v9, rfl, hT⟩ h hW hF
            refine x_istore (lo' := [some (.ref w.1), some (.int a1), some (.int a2), some (.int a3), none, some (.int 0), some (.int a6), some (.int a7), some (.int v9), none]) dX10_builds_234 (Nat.le_of_ble_eq_true rfl) rfl ?_
            refine x_iload_n dX10_builds_236 rfl rfl ?_
            refine x_istore (lo' := [some (.ref w.1), some (.int a1), some (.int a2), some (.int a3), none, some (.int 0), some (.int a6), some (.int a7), some (.int v9), some (.int a2)]) dX10_builds_237 (Nat.le_of_ble_eq_true rfl) rfl ?_
            refine Ex.wkl (lo' := [some (.ref w.1), some (.int a1), some (.int a2), none, none, none, none, none, some (.int v9), some (.int a2)]) ⟨rfl, rfl, rfl, rfl, rfl, trivial⟩ ?_
            exact hT h0 h hW hF
          · have hT := hT.2 c
            refine x_iconst (v := 1) dX10_builds_206 rfl ?_
            refine x_goto (tgt := 211) dX10_builds_207 rfl ?_
            refine x_istore (lo' := [some (.ref w.1), some (.int a1), some (.int a2), some (.int a3), none, some (.int 1), some (.int a6), some (.int a7), some (.int a8), none]) dX10_builds_211 (Nat.le_of_ble_eq_true rfl) rfl ?_
            refine x_iload dX10_builds_213 rfl ?_
            refine x_if_eq (tgt := 228) dX10_builds_215 rfl (fun c => absurd c (by decide)) (fun _ => ?_)
            refine x_aload_n dX10_builds_218 rfl rfl rfl ?_
            refine x_iconst (v := 2) dX10_builds_219 rfl ?_
            refine x_aload_n dX10_builds_220 rfl rfl rfl ?_
            refine m_geti (v := (s.1 127)) dX10_builds_221 f_TallySlateModel_507 (by decide) rfl hW rfl ?_
            refine m_inv (vs := [.int 2, .int (s.1 127)]) dX10_builds_224 oX10_trouble q2696 q2694 qs98 rfl rfl (Nat.le_of_ble_eq_true rfl) rfl hW hF hT ?_
            rintro _ s10 ⟨rfl, hT⟩ h hW hF
            exact x_vret dX10_builds_227 rfl ⟨_, _, rfl, hW, hF, hT⟩
    · have hT := hT.2 c
      refine x_iload dX10_builds_115 rfl ?_
      refine x_if_ne (tgt := 187) dX10_builds_117 rfl (fun c => ?_) (fun c => ?_)
      · have hT := hT.1 c
        refine x_iload dX10_builds_187 rfl ?_
        refine x_if_ne (tgt := 206) dX10_builds_189 rfl (fun c => ?_) (fun c => ?_)
        · have hT := hT.1 c
          refine x_iconst (v := 1) dX10_builds_206 rfl ?_
          refine x_goto (tgt := 211) dX10_builds_207 rfl ?_
          refine x_istore (lo' := [some (.ref w.1), some (.int a1), some (.int a2), some (.int a3), none, some (.int 1), some (.int a6), some (.int a7), some (.int a8), none]) dX10_builds_211 (Nat.le_of_ble_eq_true rfl) rfl ?_
          refine x_iload dX10_builds_213 rfl ?_
          refine x_if_eq (tgt := 228) dX10_builds_215 rfl (fun c => absurd c (by decide)) (fun _ => ?_)
          refine x_aload_n dX10_builds_218 rfl rfl rfl ?_
          refine x_iconst (v := 2) dX10_builds_219 rfl ?_
          refine x_aload_n dX10_builds_220 rfl rfl rfl ?_
          refine m_geti (v := (s.1 127)) dX10_builds_221 f_TallySlateModel_507 (by decide) rfl hW rfl ?_
          refine m_inv (vs := [.int 2, .int (s.1 127)]) dX10_builds_224 oX10_trouble q2696 q2694 qs98 rfl rfl (Nat.le_of_ble_eq_true rfl) rfl hW hF hT ?_
          rintro _ s11 ⟨rfl, hT⟩ h hW hF
          exact x_vret dX10_builds_227 rfl ⟨_, _, rfl, hW, hF, hT⟩
        · have hT := hT.2 c
          refine x_iload dX10_builds_192 rfl ?_
          refine x_iconst (v := 3) dX10_builds_194 rfl ?_
          refine x_icmp_gt (tgt := 206) dX10_builds_195 rfl (fun c => ?_) (fun c => ?_)
          · have hT := hT.1 c
            refine x_iconst (v := 1) dX10_builds_206 rfl ?_
            refine x_goto (tgt := 211) dX10_builds_207 rfl ?_
            refine x_istore (lo' := [some (.ref w.1), some (.int a1), some (.int a2), some (.int a3), none, some (.int 1), some (.int a6), some (.int a7), some (.int a8), none]) dX10_builds_211 (Nat.le_of_ble_eq_true rfl) rfl ?_
            refine x_iload dX10_builds_213 rfl ?_
            refine x_if_eq (tgt := 228) dX10_builds_215 rfl (fun c => absurd c (by decide)) (fun _ => ?_)
            refine x_aload_n dX10_builds_218 rfl rfl rfl ?_
            refine x_iconst (v := 2) dX10_builds_219 rfl ?_
            refine x_aload_n dX10_builds_220 rfl rfl rfl ?_
            refine m_geti (v := (s.1 127)) dX10_builds_221 f_TallySlateModel_507 (by decide) rfl hW rfl ?_
            refine m_inv (vs := [.int 2, .int (s.1 127)]) dX10_builds_224 oX10_trouble q2696 q2694 qs98 rfl rfl (Nat.le_of_ble_eq_true rfl) rfl hW hF hT ?_
            rintro _ s12 ⟨rfl, hT⟩ h hW hF
            exact x_vret dX10_builds_227 rfl ⟨_, _, rfl, hW, hF, hT⟩
          · have hT := hT.2 c
            refine x_iload dX10_builds_198 rfl ?_
            refine x_sipush (v := 600) dX10_builds_200 rfl ?_
            refine x_icmp_le (tgt := 210) dX10_builds_203 rfl (fun c => ?_) (fun c => ?_)
            · have hT := hT.1 c
              refine x_iconst (v := 0) dX10_builds_210 rfl ?_
              refine x_istore (lo' := [some (.ref w.1), some (.int a1), some (.int a2), some (.int a3), none, some (.int 0), some (.int a6), some (.int a7), some (.int a8), none]) dX10_builds_211 (Nat.le_of_ble_eq_true rfl) rfl ?_
              refine x_iload dX10_builds_213 rfl ?_
              refine x_if_eq (tgt := 228) dX10_builds_215 rfl (fun _ => ?_) (fun c => absurd c (by decide))
              refine x_aload_n dX10_builds_228 rfl rfl rfl ?_
              refine x_iload_n dX10_builds_229 rfl rfl ?_
              refine x_iload_n dX10_builds_230 rfl rfl ?_
              refine m_inv (vs := [.int a1, .int a3]) dX10_builds_231 oX10_begins q2763 q2761 qs114 rfl rfl (Nat.le_of_ble_eq_true rfl) rfl hW hF hT ?_
              rintro _ s13 ⟨v14, rfl, hT⟩ h hW hF
              refine x_istore (lo' := [some (.ref w.1), some (.int a1), some (.int a2), some (.int a3), none, some (.int 0), some (.int a6), some (.int a7), some (.int v14), none]) dX10_builds_234 (Nat.le_of_ble_eq_true rfl) rfl ?_
              refine x_iload_n dX10_builds_236 rfl rfl ?_
              refine x_istore (lo' := [some (.ref w.1), some (.int a1), some (.int a2), some (.int a3), none, some (.int 0), some (.int a6), some (.int a7), some (.int v14), some (.int a2)]) dX10_builds_237 (Nat.le_of_ble_eq_true rfl) rfl ?_
              refine Ex.wkl (lo' := [some (.ref w.1), some (.int a1), some (.int a2), none, none, none, none, none, some (.int v14), some (.int a2)]) ⟨rfl, rfl, rfl, rfl, rfl, trivial⟩ ?_
              exact hT h0 h hW hF
            · have hT := hT.2 c
              refine x_iconst (v := 1) dX10_builds_206 rfl ?_
              refine x_goto (tgt := 211) dX10_builds_207 rfl ?_
              refine x_istore (lo' := [some (.ref w.1), some (.int a1), some (.int a2), some (.int a3), none, some (.int 1), some (.int a6), some (.int a7), some (.int a8), none]) dX10_builds_211 (Nat.le_of_ble_eq_true rfl) rfl ?_
              refine x_iload dX10_builds_213 rfl ?_
              refine x_if_eq (tgt := 228) dX10_builds_215 rfl (fun c => absurd c (by decide)) (fun _ => ?_)
              refine x_aload_n dX10_builds_218 rfl rfl rfl ?_
              refine x_iconst (v := 2) dX10_builds_219 rfl ?_
              refine x_aload_n dX10_builds_220 rfl rfl rfl ?_
              refine m_geti (v := (s.1 127)) dX10_builds_221 f_TallySlateModel_507 (by decide) rfl hW rfl ?_
              refine m_inv (vs := [.int 2, .int (s.1 127)]) dX10_builds_224 oX10_trouble q2696 q2694 qs98 rfl rfl (Nat.le_of_ble_eq_true rfl) rfl hW hF hT ?_
              rintro _ s15 ⟨rfl, hT⟩ h hW hF
              exact x_vret dX10_builds_227 rfl ⟨_, _, rfl, hW, hF, hT⟩
      · have hT := hT.2 c
        refine x_aload_n dX10_builds_120 rfl rfl rfl ?_
        refine x_iconst (v := 0) dX10_builds_121 rfl ?_
        refine m_puti dX10_builds_122 f_TallySlateModel_480 (by decide) rfl rfl rfl rfl hW hF ?_
        intro h hW hF
        refine x_aload_n dX10_builds_125 rfl rfl rfl ?_
        refine x_iconst (v := 1) dX10_builds_126 rfl ?_
        refine m_puti dX10_builds_127 f_TallySlateModel_486 (by decide) rfl rfl rfl rfl hW hF ?_
        intro h hW hF
        refine x_aload_n dX10_builds_130 rfl rfl rfl ?_
        refine m_geta dX10_builds_131 f_TallySlateModel_186 (by decide) rfl hW ?_
        refine x_iload dX10_builds_134 rfl ?_
        obtain ⟨hb, hT⟩ := hT
        refine m_iald (v := (s.2.2.1 106 a8.toNatClampNeg)) dX10_builds_136 rfl hb hW rfl ?_
        refine x_iconst (v := 1) dX10_builds_137 rfl ?_
        refine x_icmp_ne (tgt := 152) dX10_builds_138 rfl (fun c => ?_) (fun c => ?_)
        · have hT := hT.1 c
          refine x_aload_n dX10_builds_152 rfl rfl rfl ?_
          refine m_geti (v := 0) dX10_builds_153 f_TallySlateModel_480 (by decide) rfl hW rfl ?_
          refine x_iload dX10_builds_156 rfl ?_
          refine x_icmp_le (tgt := 168) dX10_builds_158 rfl (fun c => ?_) (fun c => ?_)
          · have hT := hT.1 c
            refine x_iload dX10_builds_168 rfl ?_
            refine x_istore (lo' := [some (.ref w.1), some (.int a1), some (.int a2), some (.int a3), none, some (.int a5), some (.int a6), some (.int a7), some (.int a8), none]) dX10_builds_170 (Nat.le_of_ble_eq_true rfl) rfl ?_
            refine x_iload dX10_builds_172 rfl ?_
            refine x_aload_n dX10_builds_174 rfl rfl rfl ?_
            refine m_geti (v := 1) dX10_builds_175 f_TallySlateModel_486 (by decide) rfl hW rfl ?_
            refine x_iadd dX10_builds_178 ?_
            obtain ⟨y16, ey16⟩ : ∃ z : Int32, z = (a7 + 1) := ⟨_, rfl⟩
            have hT := hT y16 ey16
            refine x_istore (lo' := [some (.ref w.1), some (.int a1), some (.int a2), some (.int a3), none, some (.int a5), some (.int a6), some (.int y16), some (.int a8), none]) dX10_builds_179 (Nat.le_of_ble_eq_true rfl) (by rw [ey16]; rfl) ?_
            refine x_iinc (lo' := [some (.ref w.1), some (.int a1), some (.int a2), some (.int a3), none, some (.int a5), some (.int a6), some (.int y16), some (.int (a8 + 1)), none]) dX10_builds_181 rfl (show _ = (a8 + 1) from rfl) rfl ?_
            refine x_goto (tgt := 101) dX10_builds_184 rfl ?_
            exact hT h0 h hW hF
          · have hT := hT.2 c
            refine x_aload_n dX10_builds_161 rfl rfl rfl ?_
            refine m_geti (v := 0) dX10_builds_162 f_TallySlateModel_480 (by decide) rfl hW rfl ?_
            refine x_goto (tgt := 170) dX10_builds_165 rfl ?_
            refine x_istore (lo' := [some (.ref w.1), some (.int a1), some (.int a2), some (.int a3), none, some (.int a5), some (.int 0), some (.int a7), some (.int a8), none]) dX10_builds_170 (Nat.le_of_ble_eq_true rfl) rfl ?_
            refine x_iload dX10_builds_172 rfl ?_
            refine x_aload_n dX10_builds_174 rfl rfl rfl ?_
            refine m_geti (v := 1) dX10_builds_175 f_TallySlateModel_486 (by decide) rfl hW rfl ?_
            refine x_iadd dX10_builds_178 ?_
            obtain ⟨y17, ey17⟩ : ∃ z : Int32, z = (a7 + 1) := ⟨_, rfl⟩
            have hT := hT y17 ey17
            refine x_istore (lo' := [some (.ref w.1), some (.int a1), some (.int a2), some (.int a3), none, some (.int a5), some (.int 0), some (.int y17), some (.int a8), none]) dX10_builds_179 (Nat.le_of_ble_eq_true rfl) (by rw [ey17]; rfl) ?_
            refine x_iinc (lo' := [some (.ref w.1), some (.int a1), some (.int a2), some (.int a3), none, some (.int a5), some (.int 0), some (.int y17), some (.int (a8 + 1)), none]) dX10_builds_181 rfl (show _ = (a8 + 1) from rfl) rfl ?_
            refine x_goto (tgt := 101) dX10_builds_184 rfl ?_
            exact hT h0 h hW hF
        · have hT := hT.2 c
          refine x_aload_n dX10_builds_141 rfl rfl rfl ?_
          refine x_aload_n dX10_builds_142 rfl rfl rfl ?_
          refine m_geta dX10_builds_143 f_TallySlateModel_189 (by decide) rfl hW ?_
          refine x_iload dX10_builds_146 rfl ?_
          obtain ⟨hb, hT⟩ := hT
          refine m_iald (v := (s.2.2.1 107 a8.toNatClampNeg)) dX10_builds_148 rfl hb hW rfl ?_
          refine m_inv (vs := [.int (s.2.2.1 107 a8.toNatClampNeg)]) dX10_builds_149 oX10_measure q2743 q2741 qs109 rfl rfl (Nat.le_of_ble_eq_true rfl) rfl hW hF hT ?_
          rintro _ s18 ⟨rfl, hT⟩ h hW hF
          refine x_aload_n dX10_builds_152 rfl rfl rfl ?_
          refine m_geti (v := (s18.1 113)) dX10_builds_153 f_TallySlateModel_480 (by decide) rfl hW rfl ?_
          refine x_iload dX10_builds_156 rfl ?_
          refine x_icmp_le (tgt := 168) dX10_builds_158 rfl (fun c => ?_) (fun c => ?_)
          · have hT := hT.1 c
            refine x_iload dX10_builds_168 rfl ?_
            refine x_istore (lo' := [some (.ref w.1), some (.int a1), some (.int a2), some (.int a3), none, some (.int a5), some (.int a6), some (.int a7), some (.int a8), none]) dX10_builds_170 (Nat.le_of_ble_eq_true rfl) rfl ?_
            refine x_iload dX10_builds_172 rfl ?_
            refine x_aload_n dX10_builds_174 rfl rfl rfl ?_
            refine m_geti (v := (s18.1 114)) dX10_builds_175 f_TallySlateModel_486 (by decide) rfl hW rfl ?_
            refine x_iadd dX10_builds_178 ?_
            obtain ⟨y19, ey19⟩ : ∃ z : Int32, z = (a7 + (s18.1 114)) := ⟨_, rfl⟩
            have hT := hT y19 ey19
            refine x_istore (lo' := [some (.ref w.1), some (.int a1), some (.int a2), some (.int a3), none, some (.int a5), some (.int a6), some (.int y19), some (.int a8), none]) dX10_builds_179 (Nat.le_of_ble_eq_true rfl) (by rw [ey19]; rfl) ?_
            refine x_iinc (lo' := [some (.ref w.1), some (.int a1), some (.int a2), some (.int a3), none, some (.int a5), some (.int a6), some (.int y19), some (.int (a8 + 1)), none]) dX10_builds_181 rfl (show _ = (a8 + 1) from rfl) rfl ?_
            refine x_goto (tgt := 101) dX10_builds_184 rfl ?_
            exact hT h0 h hW hF
          · have hT := hT.2 c
            refine x_aload_n dX10_builds_161 rfl rfl rfl ?_
            refine m_geti (v := (s18.1 113)) dX10_builds_162 f_TallySlateModel_480 (by decide) rfl hW rfl ?_
            refine x_goto (tgt := 170) dX10_builds_165 rfl ?_
            obtain ⟨y20, ey20⟩ : ∃ z : Int32, z = (s18.1 113) := ⟨_, rfl⟩
            have hT := hT y20 ey20
            refine x_istore (lo' := [some (.ref w.1), some (.int a1), some (.int a2), some (.int a3), none, some (.int a5), some (.int y20), some (.int a7), some (.int a8), none]) dX10_builds_170 (Nat.le_of_ble_eq_true rfl) (by rw [ey20]; rfl) ?_
            refine x_iload dX10_builds_172 rfl ?_
            refine x_aload_n dX10_builds_174 rfl rfl rfl ?_
            refine m_geti (v := (s18.1 114)) dX10_builds_175 f_TallySlateModel_486 (by decide) rfl hW rfl ?_
            refine x_iadd dX10_builds_178 ?_
            obtain ⟨y21, ey21⟩ : ∃ z : Int32, z = (a7 + (s18.1 114)) := ⟨_, rfl⟩
            have hT := hT y21 ey21
            refine x_istore (lo' := [some (.ref w.1), some (.int a1), some (.int a2), some (.int a3), none, some (.int a5), some (.int y20), some (.int y21), some (.int a8), none]) dX10_builds_179 (Nat.le_of_ble_eq_true rfl) (by rw [ey21]; rfl) ?_
            refine x_iinc (lo' := [some (.ref w.1), some (.int a1), some (.int a2), some (.int a3), none, some (.int a5), some (.int y20), some (.int y21), some (.int (a8 + 1)), none]) dX10_builds_181 rfl (show _ = (a8 + 1) from rfl) rfl ?_
            refine x_goto (tgt := 101) dX10_builds_184 rfl ?_
            exact hT h0 h hW hF
set_option maxHeartbeats 16000000 in
theorem vX10_builds_239 {l : Launch} {E : EN} {w : MO} {d : Nat} {s : MS} {Q : Option Value → MS → Prop} {a1 : Int32} {a2 : Int32} {a8 : Int32} {a9 : Int32} (hT : (((s.1 108) ≤ a9 → (EvM l E w d MX10_gives [.ref w.1, .int a8] (sI s 108 a2) (fun r s1 => r = none ∧ Q none s1))) ∧ (¬ (s.1 108) ≤ a9 → ((¬ a1 = 3 → (inB a9 9000 ∧ ((¬ (s.2.2.1 106 a9.toNatClampNeg) = 1 → (inB a9 9000 ∧ (inB (s.1 105) 166300 ∧ ExM l E w (d + 1) MX10_builds 239 [some (.ref w.1), some (.int a1), some (.int a2), none, none, none, none, none, some (.int a8), some (.int (a9 + 1))] [] (sI (sA s 104 (s.1 105).toNatClampNeg (s.2.2.1 107 a9.toNatClampNeg)) 105 ((s.1 105) + 1)) Q))) ∧ ((s.2.2.1 106 a9.toNatClampNeg) = 1 → (inB a9 9000 ∧ (inB (s.1 105) 166300 ∧ ExM l E w (d + 1) MX10_builds 239 [some (.ref w.1), some (.int a1), some (.int a2), none, none, none, none, none, some (.int a8), some (.int (a9 + 1))] [] (sI (sA s 104 (s.1 105).toNatClampNeg ((s.2.2.1 107 a9.toNatClampNeg) - a8)) 105 ((s.1 105) + 1)) Q)))))) ∧ (a1 = 3 → (inB a9 9000 ∧ (inB (s.1 105) 166300 ∧ (inB a9 9000 ∧ ((¬ (s.2.2.1 106 a9.toNatClampNeg) = 1 → (inB a9 9000 ∧ (inB ((s.1 105) + 1) 166300 ∧ ExM l E w (d + 1) MX10_builds 239 [some (.ref w.1), some (.int a1), some (.int a2), none, none, none, none, none, some (.int a8), some (.int (a9 + 1))] [] (sI (sA (sI (sA s 104 (s.1 105).toNatClampNeg (s.2.2.1 106 a9.toNatClampNeg)) 105 ((s.1 105) + 1)) 104 ((s.1 105) + 1).toNatClampNeg (s.2.2.1 107 a9.toNatClampNeg)) 105 (((s.1 105) + 1) + 1)) Q))) ∧ ((s.2.2.1 106 a9.toNatClampNeg) = 1 → (inB a9 9000 ∧ (inB ((s.1 105) + 1) 166300 ∧ ExM l E w (d + 1) MX10_builds 239 [some (.ref w.1), some (.int a1), some (.int a2), none, none, none, none, none, some (.int a8), some (.int (a9 + 1))] [] (sI (sA (sI (sA s 104 (s.1 105).toNatClampNeg (s.2.2.1 106 a9.toNatClampNeg)) 105 ((s.1 105) + 1)) 104 ((s.1 105) + 1).toNatClampNeg ((s.2.2.1 107 a9.toNatClampNeg) - a8)) 105 (((s.1 105) + 1) + 1)) Q)))))))))))) : ExM l E w (d + 1) MX10_builds 239 [some (.ref w.1), some (.int a1), some (.int a2), none, none, none, none, none, some (.int a8), some (.int a9)] [] s Q := by
  intro h0 h hW hF
  refine x_iload dX10_builds_239 rfl ?_
  refine x_aload_n dX10_builds_241 rfl rfl rfl ?_
  refine m_geti (v := (s.1 108)) dX10_builds_242 f_TallySlateModel_461 (by decide) rfl hW rfl ?_
  refine x_icmp_ge (tgt := 335) dX10_builds_245 rfl (fun c => ?_) (fun c => ?_)
  · have hT := hT.1 c
    refine x_aload_n dX10_builds_335 rfl rfl rfl ?_
    refine x_iload_n dX10_builds_336 rfl rfl ?_
    refine m_puti dX10_builds_337 f_TallySlateModel_461 (by decide) rfl rfl rfl rfl hW hF ?_
    intro h hW hF
    refine x_aload_n dX10_builds_340 rfl rfl rfl ?_
    refine x_iload dX10_builds_341 rfl ?_
    refine m_inv (vs := [.int a8]) dX10_builds_343 oX10_gives q2767 q2765 qs115 rfl rfl (Nat.le_of_ble_eq_true rfl) rfl hW hF hT ?_
    rintro _ s1 ⟨rfl, hT⟩ h hW hF
    exact x_vret dX10_builds_346 rfl ⟨_, _, rfl, hW, hF, hT⟩
  · have hT := hT.2 c
    refine x_iload_n dX10_builds_248 rfl rfl ?_
    refine x_iconst (v := 3) dX10_builds_249 rfl ?_
    refine x_icmp_ne (tgt := 279) dX10_builds_250 rfl (fun c => ?_) (fun c => ?_)
    · have hT := hT.1 c
      refine x_aload_n dX10_builds_279 rfl rfl rfl ?_
      refine m_geta dX10_builds_280 f_TallySlateModel_183 (by decide) rfl hW ?_
      refine x_aload_n dX10_builds_283 rfl rfl rfl ?_
      refine m_geti (v := (s.1 105)) dX10_builds_284 f_TallySlateModel_519 (by decide) rfl hW rfl ?_
      refine x_aload_n dX10_builds_287 rfl rfl rfl ?_
      refine m_geta dX10_builds_288 f_TallySlateModel_186 (by decide) rfl hW ?_
      refine x_iload dX10_builds_291 rfl ?_
      obtain ⟨hb, hT⟩ := hT
      refine m_iald (v := (s.2.2.1 106 a9.toNatClampNeg)) dX10_builds_293 rfl hb hW rfl ?_
      refine x_iconst (v := 1) dX10_builds_294 rfl ?_
      refine x_icmp_ne (tgt := 311) dX10_builds_295 rfl (fun c => ?_) (fun c => ?_)
      · have hT := hT.1 c
        refine x_aload_n dX10_builds_311 rfl rfl rfl ?_
        refine m_geta dX10_builds_312 f_TallySlateModel_189 (by decide) rfl hW ?_
        refine x_iload dX10_builds_315 rfl ?_
        obtain ⟨hb, hT⟩ := hT
        refine m_iald (v := (s.2.2.1 107 a9.toNatClampNeg)) dX10_builds_317 rfl hb hW rfl ?_
        obtain ⟨hb, hT⟩ := hT
        refine m_iast dX10_builds_318 rfl hb hW hF ?_
        intro h hW hF
        refine x_aload_n dX10_builds_319 rfl rfl rfl ?_
        refine x_dup dX10_builds_320 rfl ?_
        refine m_geti (v := (s.1 105)) dX10_builds_321 f_TallySlateModel_519 (by decide) rfl hW rfl ?_
        refine x_iconst (v := 1) dX10_builds_324 rfl ?_
        refine x_iadd dX10_builds_325 ?_
        refine m_puti dX10_builds_326 f_TallySlateModel_519 (by decide) rfl rfl rfl rfl hW hF ?_
        intro h hW hF
        refine x_iinc (lo' := [some (.ref w.1), some (.int a1), some (.int a2), none, none, none, none, none, some (.int a8), some (.int (a9 + 1))]) dX10_builds_329 rfl (show _ = (a9 + 1) from rfl) rfl ?_
        refine x_goto (tgt := 239) dX10_builds_332 rfl ?_
        exact hT h0 h hW hF
      · have hT := hT.2 c
        refine x_aload_n dX10_builds_298 rfl rfl rfl ?_
        refine m_geta dX10_builds_299 f_TallySlateModel_189 (by decide) rfl hW ?_
        refine x_iload dX10_builds_302 rfl ?_
        obtain ⟨hb, hT⟩ := hT
        refine m_iald (v := (s.2.2.1 107 a9.toNatClampNeg)) dX10_builds_304 rfl hb hW rfl ?_
        refine x_iload dX10_builds_305 rfl ?_
        refine x_isub dX10_builds_307 ?_
        refine x_goto (tgt := 318) dX10_builds_308 rfl ?_
        obtain ⟨hb, hT⟩ := hT
        refine m_iast dX10_builds_318 rfl hb hW hF ?_
        intro h hW hF
        refine x_aload_n dX10_builds_319 rfl rfl rfl ?_
        refine x_dup dX10_builds_320 rfl ?_
        refine m_geti (v := (s.1 105)) dX10_builds_321 f_TallySlateModel_519 (by decide) rfl hW rfl ?_
        refine x_iconst (v := 1) dX10_builds_324 rfl ?_
        refine x_iadd dX10_builds_325 ?_
        refine m_puti dX10_builds_326 f_TallySlateModel_519 (by decide) rfl rfl rfl rfl hW hF ?_
        intro h hW hF
        refine x_iinc (lo' := [some (.ref w.1), some (.int a1), some (.int a2), none, none, none, none, none, some (.int a8), some (.int (a9 + 1))]) dX10_builds_329 rfl (show _ = (a9 + 1) from rfl) rfl ?_
        refine x_goto (tgt := 239) dX10_builds_332 rfl ?_
        exact hT h0 h hW hF
    · have hT := hT.2 c
      refine x_aload_n dX10_builds_253 rfl rfl rfl ?_
      refine m_geta dX10_builds_254 f_TallySlateModel_183 (by decide) rfl hW ?_
      refine x_aload_n dX10_builds_257 rfl rfl rfl ?_
      refine m_geti (v := (s.1 105)) dX10_builds_258 f_TallySlateModel_519 (by decide) rfl hW rfl ?_
      refine x_aload_n dX10_builds_261 rfl rfl rfl ?_
      refine m_geta dX10_builds_262 f_TallySlateModel_186 (by decide) rfl hW ?_
      refine x_iload dX10_builds_265 rfl ?_
      obtain ⟨hb, hT⟩ := hT
      refine m_iald (v := (s.2.2.1 106 a9.toNatClampNeg)) dX10_builds_267 rfl hb hW rfl ?_
      obtain ⟨hb, hT⟩ := hT
      refine m_iast dX10_builds_268 rfl hb hW hF ?_
      intro h hW hF
      refine x_aload_n dX10_builds_269 rfl rfl rfl ?_
      refine x_dup dX10_builds_270 rfl ?_
      refine m_geti (v := (s.1 105)) dX10_builds_271 f_TallySlateModel_519 (by decide) rfl hW rfl ?_
      refine x_iconst (v := 1) dX10_builds_274 rfl ?_
      refine x_iadd dX10_builds_275 ?_
      refine m_puti dX10_builds_276 f_TallySlateModel_519 (by decide) rfl rfl rfl rfl hW hF ?_
      intro h hW hF
      refine x_aload_n dX10_builds_279 rfl rfl rfl ?_
      refine m_geta dX10_builds_280 f_TallySlateModel_183 (by decide) rfl hW ?_
      refine x_aload_n dX10_builds_283 rfl rfl rfl ?_
      refine m_geti (v := ((s.1 105) + 1)) dX10_builds_284 f_TallySlateModel_519 (by decide) rfl hW rfl ?_
      refine x_aload_n dX10_builds_287 rfl rfl rfl ?_
      refine m_geta dX10_builds_288 f_TallySlateModel_186 (by decide) rfl hW ?_
      refine x_iload dX10_builds_291 rfl ?_
      obtain ⟨hb, hT⟩ := hT
      refine m_iald (v := (s.2.2.1 106 a9.toNatClampNeg)) dX10_builds_293 rfl hb hW rfl ?_
      refine x_iconst (v := 1) dX10_builds_294 rfl ?_
      refine x_icmp_ne (tgt := 311) dX10_builds_295 rfl (fun c => ?_) (fun c => ?_)
      · have hT := hT.1 c
        refine x_aload_n dX10_builds_311 rfl rfl rfl ?_
        refine m_geta dX10_builds_312 f_TallySlateModel_189 (by decide) rfl hW ?_
        refine x_iload dX10_builds_315 rfl ?_
        obtain ⟨hb, hT⟩ := hT
        refine m_iald (v := (s.2.2.1 107 a9.toNatClampNeg)) dX10_builds_317 rfl hb hW rfl ?_
        obtain ⟨hb, hT⟩ := hT
        refine m_iast dX10_builds_318 rfl hb hW hF ?_
        intro h hW hF
        refine x_aload_n dX10_builds_319 rfl rfl rfl ?_
        refine x_dup dX10_builds_320 rfl ?_
        refine m_geti (v := ((s.1 105) + 1)) dX10_builds_321 f_TallySlateModel_519 (by decide) rfl hW rfl ?_
        refine x_iconst (v := 1) dX10_builds_324 rfl ?_
        refine x_iadd dX10_builds_325 ?_
        refine m_puti dX10_builds_326 f_TallySlateModel_519 (by decide) rfl rfl rfl rfl hW hF ?_
        intro h hW hF
        refine x_iinc (lo' := [some (.ref w.1), some (.int a1), some (.int a2), none, none, none, none, none, some (.int a8), some (.int (a9 + 1))]) dX10_builds_329 rfl (show _ = (a9 + 1) from rfl) rfl ?_
        refine x_goto (tgt := 239) dX10_builds_332 rfl ?_
        exact hT h0 h hW hF
      · have hT := hT.2 c
        refine x_aload_n dX10_builds_298 rfl rfl rfl ?_
        refine m_geta dX10_builds_299 f_TallySlateModel_189 (by decide) rfl hW ?_
        refine x_iload dX10_builds_302 rfl ?_
        obtain ⟨hb, hT⟩ := hT
        refine m_iald (v := (s.2.2.1 107 a9.toNatClampNeg)) dX10_builds_304 rfl hb hW rfl ?_
        refine x_iload dX10_builds_305 rfl ?_
        refine x_isub dX10_builds_307 ?_
        refine x_goto (tgt := 318) dX10_builds_308 rfl ?_
        obtain ⟨hb, hT⟩ := hT
        refine m_iast dX10_builds_318 rfl hb hW hF ?_
        intro h hW hF
        refine x_aload_n dX10_builds_319 rfl rfl rfl ?_
        refine x_dup dX10_builds_320 rfl ?_
        refine m_geti (v := ((s.1 105) + 1)) dX10_builds_321 f_TallySlateModel_519 (by decide) rfl hW rfl ?_
        refine x_iconst (v := 1) dX10_builds_324 rfl ?_
        refine x_iadd dX10_builds_325 ?_
        refine m_puti dX10_builds_326 f_TallySlateModel_519 (by decide) rfl rfl rfl rfl hW hF ?_
        intro h hW hF
        refine x_iinc (lo' := [some (.ref w.1), some (.int a1), some (.int a2), none, none, none, none, none, some (.int a8), some (.int (a9 + 1))]) dX10_builds_329 rfl (show _ = (a9 + 1) from rfl) rfl ?_
        refine x_goto (tgt := 239) dX10_builds_332 rfl ?_
        exact hT h0 h hW hF
set_option maxHeartbeats 16000000 in
theorem vX10_measure_0 {l : Launch} {E : EN} {w : MO} {d : Nat} {s : MS} {Q : Option Value → MS → Prop} {x1 : Int32} (hT : (inB x1 166300 ∧ ((¬ (s.2.2.1 104 x1.toNatClampNeg) = 3 → (EvM l E w d MX10_plainBulk [.ref w.1, .int x1] (sI s 113 0) (fun r s1 => ∃ v2 : Int32, r = some (.int v2) ∧ (inB x1 166300 ∧ ((¬ (s1.2.2.1 104 x1.toNatClampNeg) = 3 → ExM l E w (d + 1) MX10_measure 49 [some (.ref w.1), none, none, none, none] [] (sI (sI s1 114 v2) 112 0) Q) ∧ ((s1.2.2.1 104 x1.toNatClampNeg) = 3 → (EvM l E w d MX10_goesIn [.ref w.1, .int x1, .int 0] (sI (sI s1 114 v2) 112 0) (fun r s3 => r = none ∧ ExM l E w (d + 1) MX10_measure 49 [some (.ref w.1), none, none, none, none] [] s3 Q)))))))) ∧ ((s.2.2.1 104 x1.toNatClampNeg) = 3 → (inB x1 166300 ∧ ((¬ (s.2.2.1 104 x1.toNatClampNeg) = 3 → ExM l E w (d + 1) MX10_measure 49 [some (.ref w.1), none, none, none, none] [] (sI (sI (sI s 113 0) 114 1) 112 0) Q) ∧ ((s.2.2.1 104 x1.toNatClampNeg) = 3 → (EvM l E w d MX10_goesIn [.ref w.1, .int x1, .int 0] (sI (sI (sI s 113 0) 114 1) 112 0) (fun r s4 => r = none ∧ ExM l E w (d + 1) MX10_measure 49 [some (.ref w.1), none, none, none, none] [] s4 Q))))))))) : ExM l E w (d + 1) MX10_measure 0 [some (.ref w.1), some (.int x1), none, none, none] [] s Q := by
  intro h0 h hW hF
  refine x_aload_n dX10_measure_0 rfl rfl rfl ?_
  refine x_iconst (v := 0) dX10_measure_1 rfl ?_
  refine m_puti dX10_measure_2 f_TallySlateModel_480 (by decide) rfl rfl rfl rfl hW hF ?_
  intro h hW hF
  refine x_aload_n dX10_measure_5 rfl rfl rfl ?_
  refine x_aload_n dX10_measure_6 rfl rfl rfl ?_
  refine m_geta dX10_measure_7 f_TallySlateModel_183 (by decide) rfl hW ?_
  refine x_iload_n dX10_measure_10 rfl rfl ?_
  obtain ⟨hb, hT⟩ := hT
  refine m_iald (v := (s.2.2.1 104 x1.toNatClampNeg)) dX10_measure_11 rfl hb hW rfl ?_
  refine x_iconst (v := 3) dX10_measure_12 rfl ?_
  refine x_icmp_ne (tgt := 20) dX10_measure_13 rfl (fun c => ?_) (fun c => ?_)
  · have hT := hT.1 c
    refine x_aload_n dX10_measure_20 rfl rfl rfl ?_
    refine x_iload_n dX10_measure_21 rfl rfl ?_
    refine m_inv (vs := [.int x1]) dX10_measure_22 oX10_plainBulk q2747 q2745 qs110 rfl rfl (Nat.le_of_ble_eq_true rfl) rfl hW hF hT ?_
    rintro _ s1 ⟨v2, rfl, hT⟩ h hW hF
    refine m_puti dX10_measure_25 f_TallySlateModel_486 (by decide) rfl rfl rfl rfl hW hF ?_
    intro h hW hF
    refine x_aload_n dX10_measure_28 rfl rfl rfl ?_
    refine x_iconst (v := 0) dX10_measure_29 rfl ?_
    refine m_puti dX10_measure_30 f_TallySlateModel_474 (by decide) rfl rfl rfl rfl hW hF ?_
    intro h hW hF
    refine x_aload_n dX10_measure_33 rfl rfl rfl ?_
    refine m_geta dX10_measure_34 f_TallySlateModel_183 (by decide) rfl hW ?_
    refine x_iload_n dX10_measure_37 rfl rfl ?_
    obtain ⟨hb, hT⟩ := hT
    refine m_iald (v := (s1.2.2.1 104 x1.toNatClampNeg)) dX10_measure_38 rfl hb hW rfl ?_
    refine x_iconst (v := 3) dX10_measure_39 rfl ?_
    refine x_icmp_ne (tgt := 49) dX10_measure_40 rfl (fun c => ?_) (fun c => ?_)
    · have hT := hT.1 c
      refine Ex.wkl (lo' := [some (.ref w.1), none, none, none, none]) ⟨rfl, trivial⟩ ?_
      exact hT h0 h hW hF
    · have hT := hT.2 c
      refine x_aload_n dX10_measure_43 rfl rfl rfl ?_
      refine x_iload_n dX10_measure_44 rfl rfl ?_
      refine x_iconst (v := 0) dX10_measure_45 rfl ?_
      refine m_inv (vs := [.int x1, .int 0]) dX10_measure_46 oX10_goesIn q2755 q2753 qs112 rfl rfl (Nat.le_of_ble_eq_true rfl) rfl hW hF hT ?_
      rintro _ s3 ⟨rfl, hT⟩ h hW hF
      refine Ex.wkl (lo' := [some (.ref w.1), none, none, none, none]) ⟨rfl, trivial⟩ ?_
      exact hT h0 h hW hF
  · have hT := hT.2 c
    refine x_iconst (v := 1) dX10_measure_16 rfl ?_
    refine x_goto (tgt := 25) dX10_measure_17 rfl ?_
    refine m_puti dX10_measure_25 f_TallySlateModel_486 (by decide) rfl rfl rfl rfl hW hF ?_
    intro h hW hF
    refine x_aload_n dX10_measure_28 rfl rfl rfl ?_
    refine x_iconst (v := 0) dX10_measure_29 rfl ?_
    refine m_puti dX10_measure_30 f_TallySlateModel_474 (by decide) rfl rfl rfl rfl hW hF ?_
    intro h hW hF
    refine x_aload_n dX10_measure_33 rfl rfl rfl ?_
    refine m_geta dX10_measure_34 f_TallySlateModel_183 (by decide) rfl hW ?_
    refine x_iload_n dX10_measure_37 rfl rfl ?_
    obtain ⟨hb, hT⟩ := hT
    refine m_iald (v := (s.2.2.1 104 x1.toNatClampNeg)) dX10_measure_38 rfl hb hW rfl ?_
    refine x_iconst (v := 3) dX10_measure_39 rfl ?_
    refine x_icmp_ne (tgt := 49) dX10_measure_40 rfl (fun c => ?_) (fun c => ?_)
    · have hT := hT.1 c
      refine Ex.wkl (lo' := [some (.ref w.1), none, none, none, none]) ⟨rfl, trivial⟩ ?_
      exact hT h0 h hW hF
    · have hT := hT.2 c
      refine x_aload_n dX10_measure_43 rfl rfl rfl ?_
      refine x_iload_n dX10_measure_44 rfl rfl ?_
      refine x_iconst (v := 0) dX10_measure_45 rfl ?_
      refine m_inv (vs := [.int x1, .int 0]) dX10_measure_46 oX10_goesIn q2755 q2753 qs112 rfl rfl (Nat.le_of_ble_eq_true rfl) rfl hW hF hT ?_
      rintro _ s4 ⟨rfl, hT⟩ h hW hF
      refine Ex.wkl (lo' := [some (.ref w.1), none, none, none, none]) ⟨rfl, trivial⟩ ?_
      exact hT h0 h hW hF
theorem eX10_measure {l : Launch} {E : EN} {w : MO} {d : Nat} {s : MS} {Q : Option Value → MS → Prop} {x1 : Int32} (hst : l.stackTraces = false) (hT : (inB x1 166300 ∧ ((¬ (s.2.2.1 104 x1.toNatClampNeg) = 3 → (EvM l E w d MX10_plainBulk [.ref w.1, .int x1] (sI s 113 0) (fun r s1 => ∃ v2 : Int32, r = some (.int v2) ∧ (inB x1 166300 ∧ ((¬ (s1.2.2.1 104 x1.toNatClampNeg) = 3 → ExM l E w (d + 1) MX10_measure 49 [some (.ref w.1), none, none, none, none] [] (sI (sI s1 114 v2) 112 0) Q) ∧ ((s1.2.2.1 104 x1.toNatClampNeg) = 3 → (EvM l E w d MX10_goesIn [.ref w.1, .int x1, .int 0] (sI (sI s1 114 v2) 112 0) (fun r s3 => r = none ∧ ExM l E w (d + 1) MX10_measure 49 [some (.ref w.1), none, none, none, none] [] s3 Q)))))))) ∧ ((s.2.2.1 104 x1.toNatClampNeg) = 3 → (inB x1 166300 ∧ ((¬ (s.2.2.1 104 x1.toNatClampNeg) = 3 → ExM l E w (d + 1) MX10_measure 49 [some (.ref w.1), none, none, none, none] [] (sI (sI (sI s 113 0) 114 1) 112 0) Q) ∧ ((s.2.2.1 104 x1.toNatClampNeg) = 3 → (EvM l E w d MX10_goesIn [.ref w.1, .int x1, .int 0] (sI (sI (sI s 113 0) 114 1) 112 0) (fun r s4 => r = none ∧ ExM l E w (d + 1) MX10_measure 49 [some (.ref w.1), none, none, none, none] [] s4 Q))))))))) : EvM l E w (d + 1) MX10_measure [.ref w.1, .int x1] s Q :=
  EvM.of hst (by decide) (Nat.le_of_ble_eq_true rfl) (vX10_measure_0 hT)
set_option maxHeartbeats 16000000 in
theorem vX10_measure_49 {l : Launch} {E : EN} {w : MO} {d : Nat} {s : MS} {Q : Option Value → MS → Prop}  (hT : (((s.1 112) ≤ 0 → Q none s) ∧ (¬ (s.1 112) ≤ 0 → (∀ y1 : Int32, y1 = ((s.1 112) - 1) → (inB y1 8 ∧ (∀ y2 : Int32, y2 = (s.2.2.1 109 y1.toNatClampNeg) → (inB y1 8 ∧ (∀ y3 : Int32, y3 = (s.2.2.1 111 y1.toNatClampNeg) → (((s.1 112) ≤ (s.1 113) → (EvM l E w d MX10_sizeAt [.ref w.1, .int y2] (sI s 113 (s.1 113)) (fun r s4 => ∃ v5 : Int32, r = some (.int v5) ∧ ((¬ y3 = v5 → (inB y1 8 ∧ (inB y1 8 ∧ (EvM l E w d MX10_isInt [.ref w.1, .int y2, .int y3] (sA s4 111 y1.toNatClampNeg ((s4.2.2.1 111 y1.toNatClampNeg) + 1)) (fun r s6 => ∃ v7 : Int32, r = some (.int v7) ∧ ((v7 = 0 → (EvM l E w d MX10_partAt [.ref w.1, .int y2, .int y3] s6 (fun r s8 => ∃ v9 : Int32, r = some (.int v9) ∧ (inB v9 166300 ∧ ((¬ (s8.2.2.1 104 v9.toNatClampNeg) = 3 → (EvM l E w d MX10_partAt [.ref w.1, .int y2, .int y3] s8 (fun r s10 => ∃ v11 : Int32, r = some (.int v11) ∧ (EvM l E w d MX10_plainBulk [.ref w.1, .int v11] s10 (fun r s12 => ∃ v13 : Int32, r = some (.int v13) ∧ ExM l E w (d + 1) MX10_measure 49 [some (.ref w.1), none, none, none, none] [] (sI s12 114 ((s8.1 114) + v13)) Q))))) ∧ ((s8.2.2.1 104 v9.toNatClampNeg) = 3 → (EvM l E w d MX10_partAt [.ref w.1, .int y2, .int y3] (sI s8 114 ((s8.1 114) + 1)) (fun r s14 => ∃ v15 : Int32, r = some (.int v15) ∧ (EvM l E w d MX10_goesIn [.ref w.1, .int v15, .int 0] s14 (fun r s16 => r = none ∧ ExM l E w (d + 1) MX10_measure 49 [some (.ref w.1), none, none, none, none] [] s16 Q)))))))))) ∧ (¬ v7 = 0 → ExM l E w (d + 1) MX10_measure 49 [some (.ref w.1), none, none, none, none] [] (sI s6 114 ((s6.1 114) + 1)) Q))))))) ∧ (y3 = v5 → ExM l E w (d + 1) MX10_measure 49 [some (.ref w.1), none, none, none, none] [] (sI s4 112 ((s4.1 112) - 1)) Q))))) ∧ (¬ (s.1 112) ≤ (s.1 113) → (EvM l E w d MX10_sizeAt [.ref w.1, .int y2] (sI s 113 (s.1 112)) (fun r s17 => ∃ v18 : Int32, r = some (.int v18) ∧ ((¬ y3 = v18 → (inB y1 8 ∧ (inB y1 8 ∧ (EvM l E w d MX10_isInt [.ref w.1, .int y2, .int y3] (sA s17 111 y1.toNatClampNeg ((s17.2.2.1 111 y1.toNatClampNeg) + 1)) (fun r s19 => ∃ v20 : Int32, r = some (.int v20) ∧ ((v20 = 0 → (EvM l E w d MX10_partAt [.ref w.1, .int y2, .int y3] s19 (fun r s21 => ∃ v22 : Int32, r = some (.int v22) ∧ (inB v22 166300 ∧ ((¬ (s21.2.2.1 104 v22.toNatClampNeg) = 3 → (EvM l E w d MX10_partAt [.ref w.1, .int y2, .int y3] s21 (fun r s23 => ∃ v24 : Int32, r = some (.int v24) ∧ (EvM l E w d MX10_plainBulk [.ref w.1, .int v24] s23 (fun r s25 => ∃ v26 : Int32, r = some (.int v26) ∧ ExM l E w (d + 1) MX10_measure 49 [some (.ref w.1), none, none, none, none] [] (sI s25 114 ((s21.1 114) + v26)) Q))))) ∧ ((s21.2.2.1 104 v22.toNatClampNeg) = 3 → (EvM l E w d MX10_partAt [.ref w.1, .int y2, .int y3] (sI s21 114 ((s21.1 114) + 1)) (fun r s27 => ∃ v28 : Int32, r = some (.int v28) ∧ (EvM l E w d MX10_goesIn [.ref w.1, .int v28, .int 0] s27 (fun r s29 => r = none ∧ ExM l E w (d + 1) MX10_measure 49 [some (.ref w.1), none, none, none, none] [] s29 Q)))))))))) ∧ (¬ v20 = 0 → ExM l E w (d + 1) MX10_measure 49 [some (.ref w.1), none, none, none, none] [] (sI s19 114 ((s19.1 114) + 1)) Q))))))) ∧ (y3 = v18 → ExM l E w (d + 1) MX10_measure 49 [some (.ref w.1), none, none, none, none] [] (sI s17 112 ((s17.1 112) - 1)) Q)))))))))))))) : ExM l E w (d + 1) MX10_measure 49 [some (.ref w.1), none, none, none, none] [] s Q := by
  intro h0 h hW hF
  refine x_aload_n dX10_measure_49 rfl rfl rfl ?_
  refine m_geti (v := (s.1 112)) dX10_measure_50 f_TallySlateModel_474 (by decide) rfl hW rfl ?_
  refine x_if_le (tgt := 224) dX10_measure_53 rfl (fun c => ?_) (fun c => ?_)
  · have hT := hT.1 c
    exact x_vret dX10_measure_224 rfl ⟨_, _, rfl, hW, hF, hT⟩
  · have hT := hT.2 c
    refine x_aload_n dX10_measure_56 rfl rfl rfl ?_
    refine m_geti (v := (s.1 112)) dX10_measure_57 f_TallySlateModel_474 (by decide) rfl hW rfl ?_
    refine x_iconst (v := 1) dX10_measure_60 rfl ?_
    refine x_isub dX10_measure_61 ?_
    obtain ⟨y1, ey1⟩ : ∃ z : Int32, z = ((s.1 112) - 1) := ⟨_, rfl⟩
    have hT := hT y1 ey1
    refine x_istore_n (lo' := [some (.ref w.1), none, some (.int y1), none, none]) dX10_measure_62 rfl (Nat.le_of_ble_eq_true rfl) (by rw [ey1]; rfl) ?_
    refine x_aload_n dX10_measure_63 rfl rfl rfl ?_
    refine m_geta dX10_measure_64 f_TallySlateModel_192 (by decide) rfl hW ?_
    refine x_iload_n dX10_measure_67 rfl rfl ?_
    obtain ⟨hb, hT⟩ := hT
    refine m_iald (v := (s.2.2.1 109 y1.toNatClampNeg)) dX10_measure_68 rfl hb hW rfl ?_
    obtain ⟨y2, ey2⟩ : ∃ z : Int32, z = (s.2.2.1 109 y1.toNatClampNeg) := ⟨_, rfl⟩
    have hT := hT y2 ey2
    refine x_istore_n (lo' := [some (.ref w.1), none, some (.int y1), some (.int y2), none]) dX10_measure_69 rfl (Nat.le_of_ble_eq_true rfl) (by rw [ey2]; rfl) ?_
    refine x_aload_n dX10_measure_70 rfl rfl rfl ?_
    refine m_geta dX10_measure_71 f_TallySlateModel_198 (by decide) rfl hW ?_
    refine x_iload_n dX10_measure_74 rfl rfl ?_
    obtain ⟨hb, hT⟩ := hT
    refine m_iald (v := (s.2.2.1 111 y1.toNatClampNeg)) dX10_measure_75 rfl hb hW rfl ?_
    obtain ⟨y3, ey3⟩ : ∃ z : Int32, z = (s.2.2.1 111 y1.toNatClampNeg) := ⟨_, rfl⟩
    have hT := hT y3 ey3
    refine x_istore (lo' := [some (.ref w.1), none, some (.int y1), some (.int y2), some (.int y3)]) dX10_measure_76 (Nat.le_of_ble_eq_true rfl) (by rw [ey3]; rfl) ?_
    refine x_aload_n dX10_measure_78 rfl rfl rfl ?_
    refine x_aload_n dX10_measure_79 rfl rfl rfl ?_
    refine m_geti (v := (s.1 112)) dX10_measure_80 f_TallySlateModel_474 (by decide) rfl hW rfl ?_
    refine x_aload_n dX10_measure_83 rfl rfl rfl ?_
    refine m_geti (v := (s.1 113)) dX10_measure_84 f_TallySlateModel_480 (by decide) rfl hW rfl ?_
    refine x_icmp_le (tgt := 97) dX10_measure_87 rfl (fun c => ?_) (fun c => ?_)
    · have hT := hT.1 c
      refine x_aload_n dX10_measure_97 rfl rfl rfl ?_
      refine m_geti (v := (s.1 113)) dX10_measure_98 f_TallySlateModel_480 (by decide) rfl hW rfl ?_
      refine m_puti dX10_measure_101 f_TallySlateModel_480 (by decide) rfl rfl rfl rfl hW hF ?_
      intro h hW hF
      refine x_iload dX10_measure_104 rfl ?_
      refine x_aload_n dX10_measure_106 rfl rfl rfl ?_
      refine x_iload_n dX10_measure_107 rfl rfl ?_
      refine m_inv (vs := [.int y2]) dX10_measure_108 oX10_sizeAt q2735 q2733 qs107 rfl rfl (Nat.le_of_ble_eq_true rfl) rfl hW hF hT ?_
      rintro _ s4 ⟨v5, rfl, hT⟩ h hW hF
      refine x_icmp_ne (tgt := 127) dX10_measure_111 rfl (fun c => ?_) (fun c => ?_)
      · have hT := hT.1 c
        refine x_aload_n dX10_measure_127 rfl rfl rfl ?_
        refine m_geta dX10_measure_128 f_TallySlateModel_198 (by decide) rfl hW ?_
        refine x_iload_n dX10_measure_131 rfl rfl ?_
        refine x_dup2 dX10_measure_132 rfl rfl ?_
        obtain ⟨hb, hT⟩ := hT
        refine m_iald (v := (s4.2.2.1 111 y1.toNatClampNeg)) dX10_measure_133 rfl hb hW rfl ?_
        refine x_iconst (v := 1) dX10_measure_134 rfl ?_
        refine x_iadd dX10_measure_135 ?_
        obtain ⟨hb, hT⟩ := hT
        refine m_iast dX10_measure_136 rfl hb hW hF ?_
        intro h hW hF
        refine x_aload_n dX10_measure_137 rfl rfl rfl ?_
        refine x_iload_n dX10_measure_138 rfl rfl ?_
        refine x_iload dX10_measure_139 rfl ?_
        refine m_inv (vs := [.int y2, .int y3]) dX10_measure_141 oX10_isInt q2759 q2757 qs113 rfl rfl (Nat.le_of_ble_eq_true rfl) rfl hW hF hT ?_
        rintro _ s6 ⟨v7, rfl, hT⟩ h hW hF
        refine x_if_eq (tgt := 160) dX10_measure_144 rfl (fun c => ?_) (fun c => ?_)
        · have hT := hT.1 c
          refine x_aload_n dX10_measure_160 rfl rfl rfl ?_
          refine m_geta dX10_measure_161 f_TallySlateModel_183 (by decide) rfl hW ?_
          refine x_aload_n dX10_measure_164 rfl rfl rfl ?_
          refine x_iload_n dX10_measure_165 rfl rfl ?_
          refine x_iload dX10_measure_166 rfl ?_
          refine m_inv (vs := [.int y2, .int y3]) dX10_measure_168 oX10_partAt q2751 q2749 qs111 rfl rfl (Nat.le_of_ble_eq_true rfl) rfl hW hF hT ?_
          rintro _ s8 ⟨v9, rfl, hT⟩ h hW hF
          obtain ⟨hb, hT⟩ := hT
          refine m_iald (v := (s8.2.2.1 104 v9.toNatClampNeg)) dX10_measure_171 rfl hb hW rfl ?_
          refine x_iconst (v := 3) dX10_measure_172 rfl ?_
          refine x_icmp_ne (tgt := 201) dX10_measure_173 rfl (fun c => ?_) (fun c => ?_)
          · have hT := hT.1 c
            refine x_aload_n dX10_measure_201 rfl rfl rfl ?_
            refine x_dup dX10_measure_202 rfl ?_
            refine m_geti (v := (s8.1 114)) dX10_measure_203 f_TallySlateModel_486 (by decide) rfl hW rfl ?_
            refine x_aload_n dX10_measure_206 rfl rfl rfl ?_
            refine x_aload_n dX10_measure_207 rfl rfl rfl ?_
            refine x_iload_n dX10_measure_208 rfl rfl ?_
            refine x_iload dX10_measure_209 rfl ?_
            refine m_inv (vs := [.int y2, .int y3]) dX10_measure_211 oX10_partAt q2751 q2749 qs111 rfl rfl (Nat.le_of_ble_eq_true rfl) rfl hW hF hT ?_
            rintro _ s10 ⟨v11, rfl, hT⟩ h hW hF
            refine m_inv (vs := [.int v11]) dX10_measure_214 oX10_plainBulk q2747 q2745 qs110 rfl rfl (Nat.le_of_ble_eq_true rfl) rfl hW hF hT ?_
            rintro _ s12 ⟨v13, rfl, hT⟩ h hW hF
            refine x_iadd dX10_measure_217 ?_
            refine m_puti dX10_measure_218 f_TallySlateModel_486 (by decide) rfl rfl rfl rfl hW hF ?_
            intro h hW hF
            refine x_goto (tgt := 49) dX10_measure_221 rfl ?_
            refine Ex.wkl (lo' := [some (.ref w.1), none, none, none, none]) ⟨rfl, trivial⟩ ?_
            exact hT h0 h hW hF
          · have hT := hT.2 c
            refine x_aload_n dX10_measure_176 rfl rfl rfl ?_
            refine x_dup dX10_measure_177 rfl ?_
            refine m_geti (v := (s8.1 114)) dX10_measure_178 f_TallySlateModel_486 (by decide) rfl hW rfl ?_
            refine x_iconst (v := 1) dX10_measure_181 rfl ?_
            refine x_iadd dX10_measure_182 ?_
            refine m_puti dX10_measure_183 f_TallySlateModel_486 (by decide) rfl rfl rfl rfl hW hF ?_
            intro h hW hF
            refine x_aload_n dX10_measure_186 rfl rfl rfl ?_
            refine x_aload_n dX10_measure_187 rfl rfl rfl ?_
            refine x_iload_n dX10_measure_188 rfl rfl ?_
            refine x_iload dX10_measure_189 rfl ?_
            refine m_inv (vs := [.int y2, .int y3]) dX10_measure_191 oX10_partAt q2751 q2749 qs111 rfl rfl (Nat.le_of_ble_eq_true rfl) rfl hW hF hT ?_
            rintro _ s14 ⟨v15, rfl, hT⟩ h hW hF
            refine x_iconst (v := 0) dX10_measure_194 rfl ?_
            refine m_inv (vs := [.int v15, .int 0]) dX10_measure_195 oX10_goesIn q2755 q2753 qs112 rfl rfl (Nat.le_of_ble_eq_true rfl) rfl hW hF hT ?_
            rintro _ s16 ⟨rfl, hT⟩ h hW hF
            refine x_goto (tgt := 221) dX10_measure_198 rfl ?_
            refine x_goto (tgt := 49) dX10_measure_221 rfl ?_
            refine Ex.wkl (lo' := [some (.ref w.1), none, none, none, none]) ⟨rfl, trivial⟩ ?_
            exact hT h0 h hW hF
        · have hT := hT.2 c
          refine x_aload_n dX10_measure_147 rfl rfl rfl ?_
          refine x_dup dX10_measure_148 rfl ?_
          refine m_geti (v := (s6.1 114)) dX10_measure_149 f_TallySlateModel_486 (by decide) rfl hW rfl ?_
          refine x_iconst (v := 1) dX10_measure_152 rfl ?_
          refine x_iadd dX10_measure_153 ?_
          refine m_puti dX10_measure_154 f_TallySlateModel_486 (by decide) rfl rfl rfl rfl hW hF ?_
          intro h hW hF
          refine x_goto (tgt := 221) dX10_measure_157 rfl ?_
          refine x_goto (tgt := 49) dX10_measure_221 rfl ?_
          refine Ex.wkl (lo' := [some (.ref w.1), none, none, none, none]) ⟨rfl, trivial⟩ ?_
          exact hT h0 h hW hF
      · have hT := hT.2 c
        refine x_aload_n dX10_measure_114 rfl rfl rfl ?_
        refine x_dup dX10_measure_115 rfl ?_
        refine m_geti (v := (s4.1 112)) dX10_measure_116 f_TallySlateModel_474 (by decide) rfl hW rfl ?_
        refine x_iconst (v := 1) dX10_measure_119 rfl ?_
        refine x_isub dX10_measure_120 ?_
        refine m_puti dX10_measure_121 f_TallySlateModel_474 (by decide) rfl rfl rfl rfl hW hF ?_
        intro h hW hF
        refine x_goto (tgt := 49) dX10_measure_124 rfl ?_
        refine Ex.wkl (lo' := [some (.ref w.1), none, none, none, none]) ⟨rfl, trivial⟩ ?_
        exact hT h0 h hW hF
    · have hT := hT.2 c
      refine x_aload_n dX10_measure_90 rfl rfl rfl ?_
      refine m_geti (v := (s.1 112)) dX10_measure_91 f_TallySlateModel_474 (by decide) rfl hW rfl ?_
      refine x_goto (tgt := 101) dX10_measure_94 rfl ?_
      refine m_puti dX10_measure_101 f_TallySlateModel_480 (by decide) rfl rfl rfl rfl hW hF ?_
      intro h hW hF
      refine x_iload dX10_measure_104 rfl ?_
      refine x_aload_n dX10_measure_106 rfl rfl rfl ?_
      refine x_iload_n dX10_measure_107 rfl rfl ?_
      refine m_inv (vs := [.int y2]) dX10_measure_108 oX10_sizeAt q2735 q2733 qs107 rfl rfl (Nat.le_of_ble_eq_true rfl) rfl hW hF hT ?_
      rintro _ s17 ⟨v18, rfl, hT⟩ h hW hF
      refine x_icmp_ne (tgt := 127) dX10_measure_111 rfl (fun c => ?_) (fun c => ?_)
      · have hT := hT.1 c
        refine x_aload_n dX10_measure_127 rfl rfl rfl ?_
        refine m_geta dX10_measure_128 f_TallySlateModel_198 (by decide) rfl hW ?_
        refine x_iload_n dX10_measure_131 rfl rfl ?_
        refine x_dup2 dX10_measure_132 rfl rfl ?_
        obtain ⟨hb, hT⟩ := hT
        refine m_iald (v := (s17.2.2.1 111 y1.toNatClampNeg)) dX10_measure_133 rfl hb hW rfl ?_
        refine x_iconst (v := 1) dX10_measure_134 rfl ?_
        refine x_iadd dX10_measure_135 ?_
        obtain ⟨hb, hT⟩ := hT
        refine m_iast dX10_measure_136 rfl hb hW hF ?_
        intro h hW hF
        refine x_aload_n dX10_measure_137 rfl rfl rfl ?_
        refine x_iload_n dX10_measure_138 rfl rfl ?_
        refine x_iload dX10_measure_139 rfl ?_
        refine m_inv (vs := [.int y2, .int y3]) dX10_measure_141 oX10_isInt q2759 q2757 qs113 rfl rfl (Nat.le_of_ble_eq_true rfl) rfl hW hF hT ?_
        rintro _ s19 ⟨v20, rfl, hT⟩ h hW hF
        refine x_if_eq (tgt := 160) dX10_measure_144 rfl (fun c => ?_) (fun c => ?_)
        · have hT := hT.1 c
          refine x_aload_n dX10_measure_160 rfl rfl rfl ?_
          refine m_geta dX10_measure_161 f_TallySlateModel_183 (by decide) rfl hW ?_
          refine x_aload_n dX10_measure_164 rfl rfl rfl ?_
          refine x_iload_n dX10_measure_165 rfl rfl ?_
          refine x_iload dX10_measure_166 rfl ?_
          refine m_inv (vs := [.int y2, .int y3]) dX10_measure_168 oX10_partAt q2751 q2749 qs111 rfl rfl (Nat.le_of_ble_eq_true rfl) rfl hW hF hT ?_
          rintro _ s21 ⟨v22, rfl, hT⟩ h hW hF
          obtain ⟨hb, hT⟩ := hT
          refine m_iald (v := (s21.2.2.1 104 v22.toNatClampNeg)) dX10_measure_171 rfl hb hW rfl ?_
          refine x_iconst (v := 3) dX10_measure_172 rfl ?_
          refine x_icmp_ne (tgt := 201) dX10_measure_173 rfl (fun c => ?_) (fun c => ?_)
          · have hT := hT.1 c
            refine x_aload_n dX10_measure_201 rfl rfl rfl ?_
            refine x_dup dX10_measure_202 rfl ?_
            refine m_geti (v := (s21.1 114)) dX10_measure_203 f_TallySlateModel_486 (by decide) rfl hW rfl ?_
            refine x_aload_n dX10_measure_206 rfl rfl rfl ?_
            refine x_aload_n dX10_measure_207 rfl rfl rfl ?_
            refine x_iload_n dX10_measure_208 rfl rfl ?_
            refine x_iload dX10_measure_209 rfl ?_
            refine m_inv (vs := [.int y2, .int y3]) dX10_measure_211 oX10_partAt q2751 q2749 qs111 rfl rfl (Nat.le_of_ble_eq_true rfl) rfl hW hF hT ?_
            rintro _ s23 ⟨v24, rfl, hT⟩ h hW hF
            refine m_inv (vs := [.int v24]) dX10_measure_214 oX10_plainBulk q2747 q2745 qs110 rfl rfl (Nat.le_of_ble_eq_true rfl) rfl hW hF hT ?_
            rintro _ s25 ⟨v26, rfl, hT⟩ h hW hF
            refine x_iadd dX10_measure_217 ?_
            refine m_puti dX10_measure_218 f_TallySlateModel_486 (by decide) rfl rfl rfl rfl hW hF ?_
            intro h hW hF
            refine x_goto (tgt := 49) dX10_measure_221 rfl ?_
            refine Ex.wkl (lo' := [some (.ref w.1), none, none, none, none]) ⟨rfl, trivial⟩ ?_
            exact hT h0 h hW hF
          · have hT := hT.2 c
            refine x_aload_n dX10_measure_176 rfl rfl rfl ?_
            refine x_dup dX10_measure_177 rfl ?_
            refine m_geti (v := (s21.1 114)) dX10_measure_178 f_TallySlateModel_486 (by decide) rfl hW rfl ?_
            refine x_iconst (v := 1) dX10_measure_181 rfl ?_
            refine x_iadd dX10_measure_182 ?_
            refine m_puti dX10_measure_183 f_TallySlateModel_486 (by decide) rfl rfl rfl rfl hW hF ?_
            intro h hW hF
            refine x_aload_n dX10_measure_186 rfl rfl rfl ?_
            refine x_aload_n dX10_measure_187 rfl rfl rfl ?_
            refine x_iload_n dX10_measure_188 rfl rfl ?_
            refine x_iload dX10_measure_189 rfl ?_
            refine m_inv (vs := [.int y2, .int y3]) dX10_measure_191 oX10_partAt q2751 q2749 qs111 rfl rfl (Nat.le_of_ble_eq_true rfl) rfl hW hF hT ?_
            rintro _ s27 ⟨v28, rfl, hT⟩ h hW hF
            refine x_iconst (v := 0) dX10_measure_194 rfl ?_
            refine m_inv (vs := [.int v28, .int 0]) dX10_measure_195 oX10_goesIn q2755 q2753 qs112 rfl rfl (Nat.le_of_ble_eq_true rfl) rfl hW hF hT ?_
            rintro _ s29 ⟨rfl, hT⟩ h hW hF
            refine x_goto (tgt := 221) dX10_measure_198 rfl ?_
            refine x_goto (tgt := 49) dX10_measure_221 rfl ?_
            refine Ex.wkl (lo' := [some (.ref w.1), none, none, none, none]) ⟨rfl, trivial⟩ ?_
            exact hT h0 h hW hF
        · have hT := hT.2 c
          refine x_aload_n dX10_measure_147 rfl rfl rfl ?_
          refine x_dup dX10_measure_148 rfl ?_
          refine m_geti (v := (s19.1 114)) dX10_measure_149 f_TallySlateModel_486 (by decide) rfl hW rfl ?_
          refine x_iconst (v := 1) dX10_measure_152 rfl ?_
          refine x_iadd dX10_measure_153 ?_
          refine m_puti dX10_measure_154 f_TallySlateModel_486 (by decide) rfl rfl rfl rfl hW hF ?_
          intro h hW hF
          refine x_goto (tgt := 221) dX10_measure_157 rfl ?_
          refine x_goto (tgt := 49) dX10_measure_221 rfl ?_
          refine Ex.wkl (lo' := [some (.ref w.1), none, none, none, none]) ⟨rfl, trivial⟩ ?_
          exact hT h0 h hW hF
      · have hT := hT.2 c
        refine x_aload_n dX10_measure_114 rfl rfl rfl ?_
        refine x_dup dX10_measure_115 rfl ?_
        refine m_geti (v := (s17.1 112)) dX10_measure_116 f_TallySlateModel_474 (by decide) rfl hW rfl ?_
        refine x_iconst (v := 1) dX10_measure_119 rfl ?_
        refine x_isub dX10_measure_120 ?_
        refine m_puti dX10_measure_121 f_TallySlateModel_474 (by decide) rfl rfl rfl rfl hW hF ?_
        intro h hW hF
        refine x_goto (tgt := 49) dX10_measure_124 rfl ?_
        refine Ex.wkl (lo' := [some (.ref w.1), none, none, none, none]) ⟨rfl, trivial⟩ ?_
        exact hT h0 h hW hF
theorem vX10_plainBulk_0 {l : Launch} {E : EN} {w : MO} {d : Nat} {s : MS} {Q : Option Value → MS → Prop} {x1 : Int32} (hT : (inB x1 166300 ∧ ((¬ (s.2.2.1 104 x1.toNatClampNeg) = 1 → ExM l E w (d + 1) MX10_plainBulk 22 [some (.ref w.1), some (.int x1), some (.int 1), some (.int 0)] [] s Q) ∧ ((s.2.2.1 104 x1.toNatClampNeg) = 1 → (EvM l E w d MX10_sizeAt [.ref w.1, .int x1] s (fun r s1 => ∃ v2 : Int32, r = some (.int v2) ∧ Q (some (.int (1 + v2))) s1)))))) : ExM l E w (d + 1) MX10_plainBulk 0 [some (.ref w.1), some (.int x1), none, none] [] s Q := by
  intro h0 h hW hF
  refine x_aload_n dX10_plainBulk_0 rfl rfl rfl ?_
  refine m_geta dX10_plainBulk_1 f_TallySlateModel_183 (by decide) rfl hW ?_
  refine x_iload_n dX10_plainBulk_4 rfl rfl ?_
  obtain ⟨hb, hT⟩ := hT
  refine m_iald (v := (s.2.2.1 104 x1.toNatClampNeg)) dX10_plainBulk_5 rfl hb hW rfl ?_
  refine x_iconst (v := 1) dX10_plainBulk_6 rfl ?_
  refine x_icmp_ne (tgt := 18) dX10_plainBulk_7 rfl (fun c => ?_) (fun c => ?_)
  · have hT := hT.1 c
    refine x_iconst (v := 1) dX10_plainBulk_18 rfl ?_
    refine x_istore_n (lo' := [some (.ref w.1), some (.int x1), some (.int 1), none]) dX10_plainBulk_19 rfl (Nat.le_of_ble_eq_true rfl) rfl ?_
    refine x_iconst (v := 0) dX10_plainBulk_20 rfl ?_
    refine x_istore_n (lo' := [some (.ref w.1), some (.int x1), some (.int 1), some (.int 0)]) dX10_plainBulk_21 rfl (Nat.le_of_ble_eq_true rfl) rfl ?_
    exact hT h0 h hW hF
  · have hT := hT.2 c
    refine x_iconst (v := 1) dX10_plainBulk_10 rfl ?_
    refine x_aload_n dX10_plainBulk_11 rfl rfl rfl ?_
    refine x_iload_n dX10_plainBulk_12 rfl rfl ?_
    refine m_inv (vs := [.int x1]) dX10_plainBulk_13 oX10_sizeAt q2735 q2733 qs107 rfl rfl (Nat.le_of_ble_eq_true rfl) rfl hW hF hT ?_
    rintro _ s1 ⟨v2, rfl, hT⟩ h hW hF
    refine x_iadd dX10_plainBulk_16 ?_
    exact x_iret dX10_plainBulk_17 rfl rfl ⟨_, _, rfl, hW, hF, hT⟩
theorem eX10_plainBulk {l : Launch} {E : EN} {w : MO} {d : Nat} {s : MS} {Q : Option Value → MS → Prop} {x1 : Int32} (hst : l.stackTraces = false) (hT : (inB x1 166300 ∧ ((¬ (s.2.2.1 104 x1.toNatClampNeg) = 1 → ExM l E w (d + 1) MX10_plainBulk 22 [some (.ref w.1), some (.int x1), some (.int 1), some (.int 0)] [] s Q) ∧ ((s.2.2.1 104 x1.toNatClampNeg) = 1 → (EvM l E w d MX10_sizeAt [.ref w.1, .int x1] s (fun r s1 => ∃ v2 : Int32, r = some (.int v2) ∧ Q (some (.int (1 + v2))) s1)))))) : EvM l E w (d + 1) MX10_plainBulk [.ref w.1, .int x1] s Q :=
  EvM.of hst (by decide) (Nat.le_of_ble_eq_true rfl) (vX10_plainBulk_0 hT)
theorem vX10_plainBulk_22 {l : Launch} {E : EN} {w : MO} {d : Nat} {s : MS} {Q : Option Value → MS → Prop} {a1 : Int32} {a2 : Int32} {a3 : Int32} (hT : (EvM l E w d MX10_sizeAt [.ref w.1, .int a1] s (fun r s1 => ∃ v2 : Int32, r = some (.int v2) ∧ ((v2 ≤ a3 → Q (some (.int a2)) s1) ∧ (¬ v2 ≤ a3 → (EvM l E w d MX10_partAt [.ref w.1, .int a1, .int a3] s1 (fun r s3 => ∃ v4 : Int32, r = some (.int v4) ∧ (EvM l E w d MX10_sizeAt [.ref w.1, .int v4] s3 (fun r s5 => ∃ v6 : Int32, r = some (.int v6) ∧ (∀ y7 : Int32, y7 = (a2 + (1 + v6)) → ExM l E w (d + 1) MX10_plainBulk 22 [some (.ref w.1), some (.int a1), some (.int y7), some (.int (a3 + 1))] [] s5 Q)))))))))) : ExM l E w (d + 1) MX10_plainBulk 22 [some (.ref w.1), some (.int a1), some (.int a2), some (.int a3)] [] s Q := by
  intro h0 h hW hF
  refine x_iload_n dX10_plainBulk_22 rfl rfl ?_
  refine x_aload_n dX10_plainBulk_23 rfl rfl rfl ?_
  refine x_iload_n dX10_plainBulk_24 rfl rfl ?_
  refine m_inv (vs := [.int a1]) dX10_plainBulk_25 oX10_sizeAt q2735 q2733 qs107 rfl rfl (Nat.le_of_ble_eq_true rfl) rfl hW hF hT ?_
  rintro _ s1 ⟨v2, rfl, hT⟩ h hW hF
  refine x_icmp_ge (tgt := 52) dX10_plainBulk_28 rfl (fun c => ?_) (fun c => ?_)
  · have hT := hT.1 c
    refine x_iload_n dX10_plainBulk_52 rfl rfl ?_
    exact x_iret dX10_plainBulk_53 rfl rfl ⟨_, _, rfl, hW, hF, hT⟩
  · have hT := hT.2 c
    refine x_iload_n dX10_plainBulk_31 rfl rfl ?_
    refine x_iconst (v := 1) dX10_plainBulk_32 rfl ?_
    refine x_aload_n dX10_plainBulk_33 rfl rfl rfl ?_
    refine x_aload_n dX10_plainBulk_34 rfl rfl rfl ?_
    refine x_iload_n dX10_plainBulk_35 rfl rfl ?_
    refine x_iload_n dX10_plainBulk_36 rfl rfl ?_
    refine m_inv (vs := [.int a1, .int a3]) dX10_plainBulk_37 oX10_partAt q2751 q2749 qs111 rfl rfl (Nat.le_of_ble_eq_true rfl) rfl hW hF hT ?_
    rintro _ s3 ⟨v4, rfl, hT⟩ h hW hF
    refine m_inv (vs := [.int v4]) dX10_plainBulk_40 oX10_sizeAt q2735 q2733 qs107 rfl rfl (Nat.le_of_ble_eq_true rfl) rfl hW hF hT ?_
    rintro _ s5 ⟨v6, rfl, hT⟩ h hW hF
    refine x_iadd dX10_plainBulk_43 ?_
    refine x_iadd dX10_plainBulk_44 ?_
    obtain ⟨y7, ey7⟩ : ∃ z : Int32, z = (a2 + (1 + v6)) := ⟨_, rfl⟩
    have hT := hT y7 ey7
    refine x_istore_n (lo' := [some (.ref w.1), some (.int a1), some (.int y7), some (.int a3)]) dX10_plainBulk_45 rfl (Nat.le_of_ble_eq_true rfl) (by rw [ey7]; rfl) ?_
    refine x_iinc (lo' := [some (.ref w.1), some (.int a1), some (.int y7), some (.int (a3 + 1))]) dX10_plainBulk_46 rfl (show _ = (a3 + 1) from rfl) rfl ?_
    refine x_goto (tgt := 22) dX10_plainBulk_49 rfl ?_
    exact hT h0 h hW hF
theorem vX10_partAt_0 {l : Launch} {E : EN} {w : MO} {d : Nat} {s : MS} {Q : Option Value → MS → Prop} {x1 : Int32} {x2 : Int32} (hT : (inB x1 166300 ∧ ((¬ (s.2.2.1 104 x1.toNatClampNeg) = 2 → (inB ((x1 + 3) + (2 * x2)) 166300 ∧ Q (some (.int (x1 + (s.2.2.1 104 ((x1 + 3) + (2 * x2)).toNatClampNeg)))) s)) ∧ ((s.2.2.1 104 x1.toNatClampNeg) = 2 → (inB ((x1 + 2) + x2) 166300 ∧ Q (some (.int (x1 + (s.2.2.1 104 ((x1 + 2) + x2).toNatClampNeg)))) s))))) : ExM l E w d MX10_partAt 0 [some (.ref w.1), some (.int x1), some (.int x2)] [] s Q := by
  intro h0 h hW hF
  refine x_iload_n dX10_partAt_0 rfl rfl ?_
  refine x_aload_n dX10_partAt_1 rfl rfl rfl ?_
  refine m_geta dX10_partAt_2 f_TallySlateModel_183 (by decide) rfl hW ?_
  refine x_iload_n dX10_partAt_5 rfl rfl ?_
  obtain ⟨hb, hT⟩ := hT
  refine m_iald (v := (s.2.2.1 104 x1.toNatClampNeg)) dX10_partAt_6 rfl hb hW rfl ?_
  refine x_iconst (v := 2) dX10_partAt_7 rfl ?_
  refine x_icmp_ne (tgt := 24) dX10_partAt_8 rfl (fun c => ?_) (fun c => ?_)
  · have hT := hT.1 c
    refine x_aload_n dX10_partAt_24 rfl rfl rfl ?_
    refine m_geta dX10_partAt_25 f_TallySlateModel_183 (by decide) rfl hW ?_
    refine x_iload_n dX10_partAt_28 rfl rfl ?_
    refine x_iconst (v := 3) dX10_partAt_29 rfl ?_
    refine x_iadd dX10_partAt_30 ?_
    refine x_iconst (v := 2) dX10_partAt_31 rfl ?_
    refine x_iload_n dX10_partAt_32 rfl rfl ?_
    refine x_imul dX10_partAt_33 ?_
    refine x_iadd dX10_partAt_34 ?_
    obtain ⟨hb, hT⟩ := hT
    refine m_iald (v := (s.2.2.1 104 ((x1 + 3) + (2 * x2)).toNatClampNeg)) dX10_partAt_35 rfl hb hW rfl ?_
    refine x_iadd dX10_partAt_36 ?_
    exact x_iret dX10_partAt_37 rfl rfl ⟨_, _, rfl, hW, hF, hT⟩
  · have hT := hT.2 c
    refine x_aload_n dX10_partAt_11 rfl rfl rfl ?_
    refine m_geta dX10_partAt_12 f_TallySlateModel_183 (by decide) rfl hW ?_
    refine x_iload_n dX10_partAt_15 rfl rfl ?_
    refine x_iconst (v := 2) dX10_partAt_16 rfl ?_
    refine x_iadd dX10_partAt_17 ?_
    refine x_iload_n dX10_partAt_18 rfl rfl ?_
    refine x_iadd dX10_partAt_19 ?_
    obtain ⟨hb, hT⟩ := hT
    refine m_iald (v := (s.2.2.1 104 ((x1 + 2) + x2).toNatClampNeg)) dX10_partAt_20 rfl hb hW rfl ?_
    refine x_goto (tgt := 36) dX10_partAt_21 rfl ?_
    refine x_iadd dX10_partAt_36 ?_
    exact x_iret dX10_partAt_37 rfl rfl ⟨_, _, rfl, hW, hF, hT⟩
theorem eX10_partAt {l : Launch} {E : EN} {w : MO} {d : Nat} {s : MS} {Q : Option Value → MS → Prop} {x1 : Int32} {x2 : Int32} (hst : l.stackTraces = false) (hT : (inB x1 166300 ∧ ((¬ (s.2.2.1 104 x1.toNatClampNeg) = 2 → (inB ((x1 + 3) + (2 * x2)) 166300 ∧ Q (some (.int (x1 + (s.2.2.1 104 ((x1 + 3) + (2 * x2)).toNatClampNeg)))) s)) ∧ ((s.2.2.1 104 x1.toNatClampNeg) = 2 → (inB ((x1 + 2) + x2) 166300 ∧ Q (some (.int (x1 + (s.2.2.1 104 ((x1 + 2) + x2).toNatClampNeg)))) s))))) : EvM l E w d MX10_partAt [.ref w.1, .int x1, .int x2] s Q :=
  EvM.of hst (by decide) (Nat.le_of_ble_eq_true rfl) (vX10_partAt_0 hT)
theorem vX10_goesIn_0 {l : Launch} {E : EN} {w : MO} {d : Nat} {s : MS} {Q : Option Value → MS → Prop} {x1 : Int32} {x2 : Int32} (hT : (inB (s.1 112) 8 ∧ (inB (s.1 112) 8 ∧ (inB (s.1 112) 8 ∧ Q none (sI (sA (sA (sA s 109 (s.1 112).toNatClampNeg x1) 110 (s.1 112).toNatClampNeg x2) 111 (s.1 112).toNatClampNeg 0) 112 ((s.1 112) + 1)))))) : ExM l E w d MX10_goesIn 0 [some (.ref w.1), some (.int x1), some (.int x2)] [] s Q := by
  intro h0 h hW hF
  refine x_aload_n dX10_goesIn_0 rfl rfl rfl ?_
  refine m_geta dX10_goesIn_1 f_TallySlateModel_192 (by decide) rfl hW ?_
  refine x_aload_n dX10_goesIn_4 rfl rfl rfl ?_
  refine m_geti (v := (s.1 112)) dX10_goesIn_5 f_TallySlateModel_474 (by decide) rfl hW rfl ?_
  refine x_iload_n dX10_goesIn_8 rfl rfl ?_
  obtain ⟨hb, hT⟩ := hT
  refine m_iast dX10_goesIn_9 rfl hb hW hF ?_
  intro h hW hF
  refine x_aload_n dX10_goesIn_10 rfl rfl rfl ?_
  refine m_geta dX10_goesIn_11 f_TallySlateModel_195 (by decide) rfl hW ?_
  refine x_aload_n dX10_goesIn_14 rfl rfl rfl ?_
  refine m_geti (v := (s.1 112)) dX10_goesIn_15 f_TallySlateModel_474 (by decide) rfl hW rfl ?_
  refine x_iload_n dX10_goesIn_18 rfl rfl ?_
  obtain ⟨hb, hT⟩ := hT
  refine m_iast dX10_goesIn_19 rfl hb hW hF ?_
  intro h hW hF
  refine x_aload_n dX10_goesIn_20 rfl rfl rfl ?_
  refine m_geta dX10_goesIn_21 f_TallySlateModel_198 (by decide) rfl hW ?_
  refine x_aload_n dX10_goesIn_24 rfl rfl rfl ?_
  refine m_geti (v := (s.1 112)) dX10_goesIn_25 f_TallySlateModel_474 (by decide) rfl hW rfl ?_
  refine x_iconst (v := 0) dX10_goesIn_28 rfl ?_
  obtain ⟨hb, hT⟩ := hT
  refine m_iast dX10_goesIn_29 rfl hb hW hF ?_
  intro h hW hF
  refine x_aload_n dX10_goesIn_30 rfl rfl rfl ?_
  refine x_dup dX10_goesIn_31 rfl ?_
  refine m_geti (v := (s.1 112)) dX10_goesIn_32 f_TallySlateModel_474 (by decide) rfl hW rfl ?_
  refine x_iconst (v := 1) dX10_goesIn_35 rfl ?_
  refine x_iadd dX10_goesIn_36 ?_
  refine m_puti dX10_goesIn_37 f_TallySlateModel_474 (by decide) rfl rfl rfl rfl hW hF ?_
  intro h hW hF
  exact x_vret dX10_goesIn_40 rfl ⟨_, _, rfl, hW, hF, hT⟩
theorem eX10_goesIn {l : Launch} {E : EN} {w : MO} {d : Nat} {s : MS} {Q : Option Value → MS → Prop} {x1 : Int32} {x2 : Int32} (hst : l.stackTraces = false) (hT : (inB (s.1 112) 8 ∧ (inB (s.1 112) 8 ∧ (inB (s.1 112) 8 ∧ Q none (sI (sA (sA (sA s 109 (s.1 112).toNatClampNeg x1) 110 (s.1 112).toNatClampNeg x2) 111 (s.1 112).toNatClampNeg 0) 112 ((s.1 112) + 1)))))) : EvM l E w d MX10_goesIn [.ref w.1, .int x1, .int x2] s Q :=
  EvM.of hst (by decide) (Nat.le_of_ble_eq_true rfl) (vX10_goesIn_0 hT)
theorem vX10_isInt_0 {l : Launch} {E : EN} {w : MO} {d : Nat} {s : MS} {Q : Option Value → MS → Prop} {x1 : Int32} {x2 : Int32} (hT : (inB ((x1 + 2) + (2 * x2)) 166300 ∧ ((¬ (s.2.2.1 104 ((x1 + 2) + (2 * x2)).toNatClampNeg) = 0 → Q (some (.int 0)) s) ∧ ((s.2.2.1 104 ((x1 + 2) + (2 * x2)).toNatClampNeg) = 0 → Q (some (.int 1)) s)))) : ExM l E w d MX10_isInt 0 [some (.ref w.1), some (.int x1), some (.int x2)] [] s Q := by
  intro h0 h hW hF
  refine x_aload_n dX10_isInt_0 rfl rfl rfl ?_
  refine m_geta dX10_isInt_1 f_TallySlateModel_183 (by decide) rfl hW ?_
  refine x_iload_n dX10_isInt_4 rfl rfl ?_
  refine x_iconst (v := 2) dX10_isInt_5 rfl ?_
  refine x_iadd dX10_isInt_6 ?_
  refine x_iconst (v := 2) dX10_isInt_7 rfl ?_
  refine x_iload_n dX10_isInt_8 rfl rfl ?_
  refine x_imul dX10_isInt_9 ?_
  refine x_iadd dX10_isInt_10 ?_
  obtain ⟨hb, hT⟩ := hT
  refine m_iald (v := (s.2.2.1 104 ((x1 + 2) + (2 * x2)).toNatClampNeg)) dX10_isInt_11 rfl hb hW rfl ?_
  refine x_if_ne (tgt := 19) dX10_isInt_12 rfl (fun c => ?_) (fun c => ?_)
  · have hT := hT.1 c
    refine x_iconst (v := 0) dX10_isInt_19 rfl ?_
    exact x_iret dX10_isInt_20 rfl rfl ⟨_, _, rfl, hW, hF, hT⟩
  · have hT := hT.2 c
    refine x_iconst (v := 1) dX10_isInt_15 rfl ?_
    refine x_goto (tgt := 20) dX10_isInt_16 rfl ?_
    exact x_iret dX10_isInt_20 rfl rfl ⟨_, _, rfl, hW, hF, hT⟩
theorem eX10_isInt {l : Launch} {E : EN} {w : MO} {d : Nat} {s : MS} {Q : Option Value → MS → Prop} {x1 : Int32} {x2 : Int32} (hst : l.stackTraces = false) (hT : (inB ((x1 + 2) + (2 * x2)) 166300 ∧ ((¬ (s.2.2.1 104 ((x1 + 2) + (2 * x2)).toNatClampNeg) = 0 → Q (some (.int 0)) s) ∧ ((s.2.2.1 104 ((x1 + 2) + (2 * x2)).toNatClampNeg) = 0 → Q (some (.int 1)) s)))) : EvM l E w d MX10_isInt [.ref w.1, .int x1, .int x2] s Q :=
  EvM.of hst (by decide) (Nat.le_of_ble_eq_true rfl) (vX10_isInt_0 hT)
theorem vX10_begins_0 {l : Launch} {E : EN} {w : MO} {d : Nat} {s : MS} {Q : Option Value → MS → Prop} {x1 : Int32} {x2 : Int32} (hT : (∀ y1 : Int32, y1 = (s.1 105) → (inB y1 166300 ∧ (inB (y1 + 1) 166300 ∧ Q (some (.int y1)) (sI (sA (sA s 104 y1.toNatClampNeg x1) 104 (y1 + 1).toNatClampNeg x2) 105 (y1 + 2)))))) : ExM l E w d MX10_begins 0 [some (.ref w.1), some (.int x1), some (.int x2), none] [] s Q := by
  intro h0 h hW hF
  refine x_aload_n dX10_begins_0 rfl rfl rfl ?_
  refine m_geti (v := (s.1 105)) dX10_begins_1 f_TallySlateModel_519 (by decide) rfl hW rfl ?_
  obtain ⟨y1, ey1⟩ : ∃ z : Int32, z = (s.1 105) := ⟨_, rfl⟩
  have hT := hT y1 ey1
  refine x_istore_n (lo' := [some (.ref w.1), some (.int x1), some (.int x2), some (.int y1)]) dX10_begins_4 rfl (Nat.le_of_ble_eq_true rfl) (by rw [ey1]; rfl) ?_
  refine x_aload_n dX10_begins_5 rfl rfl rfl ?_
  refine m_geta dX10_begins_6 f_TallySlateModel_183 (by decide) rfl hW ?_
  refine x_iload_n dX10_begins_9 rfl rfl ?_
  refine x_iload_n dX10_begins_10 rfl rfl ?_
  obtain ⟨hb, hT⟩ := hT
  refine m_iast dX10_begins_11 rfl hb hW hF ?_
  intro h hW hF
  refine x_aload_n dX10_begins_12 rfl rfl rfl ?_
  refine m_geta dX10_begins_13 f_TallySlateModel_183 (by decide) rfl hW ?_
  refine x_iload_n dX10_begins_16 rfl rfl ?_
  refine x_iconst (v := 1) dX10_begins_17 rfl ?_
  refine x_iadd dX10_begins_18 ?_
  refine x_iload_n dX10_begins_19 rfl rfl ?_
  obtain ⟨hb, hT⟩ := hT
  refine m_iast dX10_begins_20 rfl hb hW hF ?_
  intro h hW hF
  refine x_aload_n dX10_begins_21 rfl rfl rfl ?_
  refine x_iload_n dX10_begins_22 rfl rfl ?_
  refine x_iconst (v := 2) dX10_begins_23 rfl ?_
  refine x_iadd dX10_begins_24 ?_
  refine m_puti dX10_begins_25 f_TallySlateModel_519 (by decide) rfl rfl rfl rfl hW hF ?_
  intro h hW hF
  refine x_iload_n dX10_begins_28 rfl rfl ?_
  exact x_iret dX10_begins_29 rfl rfl ⟨_, _, rfl, hW, hF, hT⟩
theorem eX10_begins {l : Launch} {E : EN} {w : MO} {d : Nat} {s : MS} {Q : Option Value → MS → Prop} {x1 : Int32} {x2 : Int32} (hst : l.stackTraces = false) (hT : (∀ y1 : Int32, y1 = (s.1 105) → (inB y1 166300 ∧ (inB (y1 + 1) 166300 ∧ Q (some (.int y1)) (sI (sA (sA s 104 y1.toNatClampNeg x1) 104 (y1 + 1).toNatClampNeg x2) 105 (y1 + 2)))))) : EvM l E w d MX10_begins [.ref w.1, .int x1, .int x2] s Q :=
  EvM.of hst (by decide) (Nat.le_of_ble_eq_true rfl) (vX10_begins_0 hT)
theorem vX10_gives_0 {l : Launch} {E : EN} {w : MO} {d : Nat} {s : MS} {Q : Option Value → MS → Prop} {x1 : Int32} (hT : (EvM l E w d MX10_counts [.ref w.1, .int x1] s (fun r s1 => ∃ v2 : Int32, r = some (.int v2) ∧ ((((s.1 119) + v2) ≤ 3000 → (EvM l E w d MX10_push [.ref w.1, .int 1, .int x1] (sI s1 119 ((s.1 119) + v2)) (fun r s3 => r = none ∧ Q none s3))) ∧ (¬ ((s.1 119) + v2) ≤ 3000 → (EvM l E w d MX10_trouble [.ref w.1, .int 11, .int (s1.1 127)] (sI s1 119 ((s.1 119) + v2)) (fun r s4 => r = none ∧ (EvM l E w d MX10_push [.ref w.1, .int 1, .int x1] s4 (fun r s5 => r = none ∧ Q none s5))))))))) : ExM l E w (d + 1) MX10_gives 0 [some (.ref w.1), some (.int x1)] [] s Q := by
  intro h0 h hW hF
  refine x_aload_n dX10_gives_0 rfl rfl rfl ?_
  refine x_dup dX10_gives_1 rfl ?_
  refine m_geti (v := (s.1 119)) dX10_gives_2 f_TallySlateModel_513 (by decide) rfl hW rfl ?_
  refine x_aload_n dX10_gives_5 rfl rfl rfl ?_
  refine x_iload_n dX10_gives_6 rfl rfl ?_
  refine m_inv (vs := [.int x1]) dX10_gives_7 oX10_counts q2771 q2769 qs116 rfl rfl (Nat.le_of_ble_eq_true rfl) rfl hW hF hT ?_
  rintro _ s1 ⟨v2, rfl, hT⟩ h hW hF
  refine x_iadd dX10_gives_10 ?_
  refine m_puti dX10_gives_11 f_TallySlateModel_513 (by decide) rfl rfl rfl rfl hW hF ?_
  intro h hW hF
  refine x_aload_n dX10_gives_14 rfl rfl rfl ?_
  refine m_geti (v := ((s.1 119) + v2)) dX10_gives_15 f_TallySlateModel_513 (by decide) rfl hW rfl ?_
  refine x_sipush (v := 3000) dX10_gives_18 rfl ?_
  refine x_icmp_le (tgt := 34) dX10_gives_21 rfl (fun c => ?_) (fun c => ?_)
  · have hT := hT.1 c
    refine x_aload_n dX10_gives_34 rfl rfl rfl ?_
    refine x_iconst (v := 1) dX10_gives_35 rfl ?_
    refine x_iload_n dX10_gives_36 rfl rfl ?_
    refine m_inv (vs := [.int 1, .int x1]) dX10_gives_37 oX10_push q2708 q2706 qs101 rfl rfl (Nat.le_of_ble_eq_true rfl) rfl hW hF hT ?_
    rintro _ s3 ⟨rfl, hT⟩ h hW hF
    exact x_vret dX10_gives_40 rfl ⟨_, _, rfl, hW, hF, hT⟩
  · have hT := hT.2 c
    refine x_aload_n dX10_gives_24 rfl rfl rfl ?_
    refine x_bipush (v := 11) dX10_gives_25 rfl ?_
    refine x_aload_n dX10_gives_27 rfl rfl rfl ?_
    refine m_geti (v := (s1.1 127)) dX10_gives_28 f_TallySlateModel_507 (by decide) rfl hW rfl ?_
    refine m_inv (vs := [.int 11, .int (s1.1 127)]) dX10_gives_31 oX10_trouble q2696 q2694 qs98 rfl rfl (Nat.le_of_ble_eq_true rfl) rfl hW hF hT ?_
    rintro _ s4 ⟨rfl, hT⟩ h hW hF
    refine x_aload_n dX10_gives_34 rfl rfl rfl ?_
    refine x_iconst (v := 1) dX10_gives_35 rfl ?_
    refine x_iload_n dX10_gives_36 rfl rfl ?_
    refine m_inv (vs := [.int 1, .int x1]) dX10_gives_37 oX10_push q2708 q2706 qs101 rfl rfl (Nat.le_of_ble_eq_true rfl) rfl hW hF hT ?_
    rintro _ s5 ⟨rfl, hT⟩ h hW hF
    exact x_vret dX10_gives_40 rfl ⟨_, _, rfl, hW, hF, hT⟩
theorem eX10_gives {l : Launch} {E : EN} {w : MO} {d : Nat} {s : MS} {Q : Option Value → MS → Prop} {x1 : Int32} (hst : l.stackTraces = false) (hT : (EvM l E w d MX10_counts [.ref w.1, .int x1] s (fun r s1 => ∃ v2 : Int32, r = some (.int v2) ∧ ((((s.1 119) + v2) ≤ 3000 → (EvM l E w d MX10_push [.ref w.1, .int 1, .int x1] (sI s1 119 ((s.1 119) + v2)) (fun r s3 => r = none ∧ Q none s3))) ∧ (¬ ((s.1 119) + v2) ≤ 3000 → (EvM l E w d MX10_trouble [.ref w.1, .int 11, .int (s1.1 127)] (sI s1 119 ((s.1 119) + v2)) (fun r s4 => r = none ∧ (EvM l E w d MX10_push [.ref w.1, .int 1, .int x1] s4 (fun r s5 => r = none ∧ Q none s5))))))))) : EvM l E w (d + 1) MX10_gives [.ref w.1, .int x1] s Q :=
  EvM.of hst (by decide) (Nat.le_of_ble_eq_true rfl) (vX10_gives_0 hT)
theorem vX10_counts_0 {l : Launch} {E : EN} {w : MO} {d : Nat} {s : MS} {Q : Option Value → MS → Prop} {x1 : Int32} (hT : (inB x1 166300 ∧ ((¬ (s.2.2.1 104 x1.toNatClampNeg) = 1 → (inB x1 166300 ∧ ((¬ (s.2.2.1 104 x1.toNatClampNeg) = 3 → ExM l E w (d + 1) MX10_counts 42 [some (.ref w.1), some (.int x1), some (.int 4), some (.int 0)] [] s Q) ∧ ((s.2.2.1 104 x1.toNatClampNeg) = 3 → (EvM l E w d MX10_sizeAt [.ref w.1, .int x1] s (fun r s1 => ∃ v2 : Int32, r = some (.int v2) ∧ Q (some (.int (4 + (2 * v2)))) s1)))))) ∧ ((s.2.2.1 104 x1.toNatClampNeg) = 1 → (EvM l E w d MX10_sizeAt [.ref w.1, .int x1] s (fun r s3 => ∃ v4 : Int32, r = some (.int v4) ∧ Q (some (.int (4 + v4))) s3)))))) : ExM l E w (d + 1) MX10_counts 0 [some (.ref w.1), some (.int x1), none, none] [] s Q := by
  intro h0 h hW hF
  refine x_aload_n dX10_counts_0 rfl rfl rfl ?_
  refine m_geta dX10_counts_1 f_TallySlateModel_183 (by decide) rfl hW ?_
  refine x_iload_n dX10_counts_4 rfl rfl ?_
  obtain ⟨hb, hT⟩ := hT
  refine m_iald (v := (s.2.2.1 104 x1.toNatClampNeg)) dX10_counts_5 rfl hb hW rfl ?_
  refine x_iconst (v := 1) dX10_counts_6 rfl ?_
  refine x_icmp_ne (tgt := 18) dX10_counts_7 rfl (fun c => ?_) (fun c => ?_)
  · have hT := hT.1 c
    refine x_aload_n dX10_counts_18 rfl rfl rfl ?_
    refine m_geta dX10_counts_19 f_TallySlateModel_183 (by decide) rfl hW ?_
    refine x_iload_n dX10_counts_22 rfl rfl ?_
    obtain ⟨hb, hT⟩ := hT
    refine m_iald (v := (s.2.2.1 104 x1.toNatClampNeg)) dX10_counts_23 rfl hb hW rfl ?_
    refine x_iconst (v := 3) dX10_counts_24 rfl ?_
    refine x_icmp_ne (tgt := 38) dX10_counts_25 rfl (fun c => ?_) (fun c => ?_)
    · have hT := hT.1 c
      refine x_iconst (v := 4) dX10_counts_38 rfl ?_
      refine x_istore_n (lo' := [some (.ref w.1), some (.int x1), some (.int 4), none]) dX10_counts_39 rfl (Nat.le_of_ble_eq_true rfl) rfl ?_
      refine x_iconst (v := 0) dX10_counts_40 rfl ?_
      refine x_istore_n (lo' := [some (.ref w.1), some (.int x1), some (.int 4), some (.int 0)]) dX10_counts_41 rfl (Nat.le_of_ble_eq_true rfl) rfl ?_
      exact hT h0 h hW hF
    · have hT := hT.2 c
      refine x_iconst (v := 4) dX10_counts_28 rfl ?_
      refine x_iconst (v := 2) dX10_counts_29 rfl ?_
      refine x_aload_n dX10_counts_30 rfl rfl rfl ?_
      refine x_iload_n dX10_counts_31 rfl rfl ?_
      refine m_inv (vs := [.int x1]) dX10_counts_32 oX10_sizeAt q2735 q2733 qs107 rfl rfl (Nat.le_of_ble_eq_true rfl) rfl hW hF hT ?_
      rintro _ s1 ⟨v2, rfl, hT⟩ h hW hF
      refine x_imul dX10_counts_35 ?_
      refine x_iadd dX10_counts_36 ?_
      exact x_iret dX10_counts_37 rfl rfl ⟨_, _, rfl, hW, hF, hT⟩
  · have hT := hT.2 c
    refine x_iconst (v := 4) dX10_counts_10 rfl ?_
    refine x_aload_n dX10_counts_11 rfl rfl rfl ?_
    refine x_iload_n dX10_counts_12 rfl rfl ?_
    refine m_inv (vs := [.int x1]) dX10_counts_13 oX10_sizeAt q2735 q2733 qs107 rfl rfl (Nat.le_of_ble_eq_true rfl) rfl hW hF hT ?_
    rintro _ s3 ⟨v4, rfl, hT⟩ h hW hF
    refine x_iadd dX10_counts_16 ?_
    exact x_iret dX10_counts_17 rfl rfl ⟨_, _, rfl, hW, hF, hT⟩
theorem eX10_counts {l : Launch} {E : EN} {w : MO} {d : Nat} {s : MS} {Q : Option Value → MS → Prop} {x1 : Int32} (hst : l.stackTraces = false) (hT : (inB x1 166300 ∧ ((¬ (s.2.2.1 104 x1.toNatClampNeg) = 1 → (inB x1 166300 ∧ ((¬ (s.2.2.1 104 x1.toNatClampNeg) = 3 → ExM l E w (d + 1) MX10_counts 42 [some (.ref w.1), some (.int x1), some (.int 4), some (.int 0)] [] s Q) ∧ ((s.2.2.1 104 x1.toNatClampNeg) = 3 → (EvM l E w d MX10_sizeAt [.ref w.1, .int x1] s (fun r s1 => ∃ v2 : Int32, r = some (.int v2) ∧ Q (some (.int (4 + (2 * v2)))) s1)))))) ∧ ((s.2.2.1 104 x1.toNatClampNeg) = 1 → (EvM l E w d MX10_sizeAt [.ref w.1, .int x1] s (fun r s3 => ∃ v4 : Int32, r = some (.int v4) ∧ Q (some (.int (4 + v4))) s3)))))) : EvM l E w (d + 1) MX10_counts [.ref w.1, .int x1] s Q :=
  EvM.of hst (by decide) (Nat.le_of_ble_eq_true rfl) (vX10_counts_0 hT)
theorem vX10_counts_42 {l : Launch} {E : EN} {w : MO} {d : Nat} {s : MS} {Q : Option Value → MS → Prop} {a1 : Int32} {a2 : Int32} {a3 : Int32} (hT : (EvM l E w d MX10_sizeAt [.ref w.1, .int a1] s (fun r s1 => ∃ v2 : Int32, r = some (.int v2) ∧ ((v2 ≤ a3 → Q (some (.int a2)) s1) ∧ (¬ v2 ≤ a3 → (EvM l E w d MX10_partAt [.ref w.1, .int a1, .int a3] s1 (fun r s3 => ∃ v4 : Int32, r = some (.int v4) ∧ (EvM l E w d MX10_sizeAt [.ref w.1, .int v4] s3 (fun r s5 => ∃ v6 : Int32, r = some (.int v6) ∧ (∀ y7 : Int32, y7 = (a2 + (4 + v6)) → ExM l E w (d + 1) MX10_counts 42 [some (.ref w.1), some (.int a1), some (.int y7), some (.int (a3 + 1))] [] s5 Q)))))))))) : ExM l E w (d + 1) MX10_counts 42 [some (.ref w.1), some (.int a1), some (.int a2), some (.int a3)] [] s Q := by
  intro h0 h hW hF
  refine x_iload_n dX10_counts_42 rfl rfl ?_
  refine x_aload_n dX10_counts_43 rfl rfl rfl ?_
  refine x_iload_n dX10_counts_44 rfl rfl ?_
  refine m_inv (vs := [.int a1]) dX10_counts_45 oX10_sizeAt q2735 q2733 qs107 rfl rfl (Nat.le_of_ble_eq_true rfl) rfl hW hF hT ?_
  rintro _ s1 ⟨v2, rfl, hT⟩ h hW hF
  refine x_icmp_ge (tgt := 72) dX10_counts_48 rfl (fun c => ?_) (fun c => ?_)
  · have hT := hT.1 c
    refine x_iload_n dX10_counts_72 rfl rfl ?_
    exact x_iret dX10_counts_73 rfl rfl ⟨_, _, rfl, hW, hF, hT⟩
  · have hT := hT.2 c
    refine x_iload_n dX10_counts_51 rfl rfl ?_
    refine x_iconst (v := 4) dX10_counts_52 rfl ?_
    refine x_aload_n dX10_counts_53 rfl rfl rfl ?_
    refine x_aload_n dX10_counts_54 rfl rfl rfl ?_
    refine x_iload_n dX10_counts_55 rfl rfl ?_
    refine x_iload_n dX10_counts_56 rfl rfl ?_
    refine m_inv (vs := [.int a1, .int a3]) dX10_counts_57 oX10_partAt q2751 q2749 qs111 rfl rfl (Nat.le_of_ble_eq_true rfl) rfl hW hF hT ?_
    rintro _ s3 ⟨v4, rfl, hT⟩ h hW hF
    refine m_inv (vs := [.int v4]) dX10_counts_60 oX10_sizeAt q2735 q2733 qs107 rfl rfl (Nat.le_of_ble_eq_true rfl) rfl hW hF hT ?_
    rintro _ s5 ⟨v6, rfl, hT⟩ h hW hF
    refine x_iadd dX10_counts_63 ?_
    refine x_iadd dX10_counts_64 ?_
    obtain ⟨y7, ey7⟩ : ∃ z : Int32, z = (a2 + (4 + v6)) := ⟨_, rfl⟩
    have hT := hT y7 ey7
    refine x_istore_n (lo' := [some (.ref w.1), some (.int a1), some (.int y7), some (.int a3)]) dX10_counts_65 rfl (Nat.le_of_ble_eq_true rfl) (by rw [ey7]; rfl) ?_
    refine x_iinc (lo' := [some (.ref w.1), some (.int a1), some (.int y7), some (.int (a3 + 1))]) dX10_counts_66 rfl (show _ = (a3 + 1) from rfl) rfl ?_
    refine x_goto (tgt := 42) dX10_counts_69 rfl ?_
    exact hT h0 h hW hF
theorem vX10_rowOf_0 {l : Launch} {E : EN} {w : MO} {d : Nat} {s : MS} {Q : Option Value → MS → Prop} {x1 : Int32} (hT : (EvM l E w d MX10_begins [.ref w.1, .int 1, .int ((s.1 108) - x1)] s (fun r s1 => ∃ v2 : Int32, r = some (.int v2) ∧ ExM l E w (d + 1) MX10_rowOf 14 [some (.ref w.1), some (.int x1), some (.int v2), some (.int x1)] [] s1 Q))) : ExM l E w (d + 1) MX10_rowOf 0 [some (.ref w.1), some (.int x1), none, none] [] s Q := by
  intro h0 h hW hF
  refine x_aload_n dX10_rowOf_0 rfl rfl rfl ?_
  refine x_iconst (v := 1) dX10_rowOf_1 rfl ?_
  refine x_aload_n dX10_rowOf_2 rfl rfl rfl ?_
  refine m_geti (v := (s.1 108)) dX10_rowOf_3 f_TallySlateModel_461 (by decide) rfl hW rfl ?_
  refine x_iload_n dX10_rowOf_6 rfl rfl ?_
  refine x_isub dX10_rowOf_7 ?_
  refine m_inv (vs := [.int 1, .int ((s.1 108) - x1)]) dX10_rowOf_8 oX10_begins q2763 q2761 qs114 rfl rfl (Nat.le_of_ble_eq_true rfl) rfl hW hF hT ?_
  rintro _ s1 ⟨v2, rfl, hT⟩ h hW hF
  refine x_istore_n (lo' := [some (.ref w.1), some (.int x1), some (.int v2), none]) dX10_rowOf_11 rfl (Nat.le_of_ble_eq_true rfl) rfl ?_
  refine x_iload_n dX10_rowOf_12 rfl rfl ?_
  refine x_istore_n (lo' := [some (.ref w.1), some (.int x1), some (.int v2), some (.int x1)]) dX10_rowOf_13 rfl (Nat.le_of_ble_eq_true rfl) rfl ?_
  exact hT h0 h hW hF
theorem eX10_rowOf {l : Launch} {E : EN} {w : MO} {d : Nat} {s : MS} {Q : Option Value → MS → Prop} {x1 : Int32} (hst : l.stackTraces = false) (hT : (EvM l E w d MX10_begins [.ref w.1, .int 1, .int ((s.1 108) - x1)] s (fun r s1 => ∃ v2 : Int32, r = some (.int v2) ∧ ExM l E w (d + 1) MX10_rowOf 14 [some (.ref w.1), some (.int x1), some (.int v2), some (.int x1)] [] s1 Q))) : EvM l E w (d + 1) MX10_rowOf [.ref w.1, .int x1] s Q :=
  EvM.of hst (by decide) (Nat.le_of_ble_eq_true rfl) (vX10_rowOf_0 hT)
theorem vX10_rowOf_14 {l : Launch} {E : EN} {w : MO} {d : Nat} {s : MS} {Q : Option Value → MS → Prop} {a1 : Int32} {a2 : Int32} {a3 : Int32} (hT : (((s.1 108) ≤ a3 → (EvM l E w d MX10_push [.ref w.1, .int 1, .int a2] (sI s 108 a1) (fun r s1 => r = none ∧ Q none s1))) ∧ (¬ (s.1 108) ≤ a3 → (inB a3 9000 ∧ (inB (s.1 105) 166300 ∧ ExM l E w (d + 1) MX10_rowOf 14 [some (.ref w.1), some (.int a1), some (.int a2), some (.int (a3 + 1))] [] (sI (sA s 104 (s.1 105).toNatClampNeg (s.2.2.1 107 a3.toNatClampNeg)) 105 ((s.1 105) + 1)) Q))))) : ExM l E w (d + 1) MX10_rowOf 14 [some (.ref w.1), some (.int a1), some (.int a2), some (.int a3)] [] s Q := by
  intro h0 h hW hF
  refine x_iload_n dX10_rowOf_14 rfl rfl ?_
  refine x_aload_n dX10_rowOf_15 rfl rfl rfl ?_
  refine m_geti (v := (s.1 108)) dX10_rowOf_16 f_TallySlateModel_461 (by decide) rfl hW rfl ?_
  refine x_icmp_ge (tgt := 53) dX10_rowOf_19 rfl (fun c => ?_) (fun c => ?_)
  · have hT := hT.1 c
    refine x_aload_n dX10_rowOf_53 rfl rfl rfl ?_
    refine x_iload_n dX10_rowOf_54 rfl rfl ?_
    refine m_puti dX10_rowOf_55 f_TallySlateModel_461 (by decide) rfl rfl rfl rfl hW hF ?_
    intro h hW hF
    refine x_aload_n dX10_rowOf_58 rfl rfl rfl ?_
    refine x_iconst (v := 1) dX10_rowOf_59 rfl ?_
    refine x_iload_n dX10_rowOf_60 rfl rfl ?_
    refine m_inv (vs := [.int 1, .int a2]) dX10_rowOf_61 oX10_push q2708 q2706 qs101 rfl rfl (Nat.le_of_ble_eq_true rfl) rfl hW hF hT ?_
    rintro _ s1 ⟨rfl, hT⟩ h hW hF
    exact x_vret dX10_rowOf_64 rfl ⟨_, _, rfl, hW, hF, hT⟩
  · have hT := hT.2 c
    refine x_aload_n dX10_rowOf_22 rfl rfl rfl ?_
    refine m_geta dX10_rowOf_23 f_TallySlateModel_183 (by decide) rfl hW ?_
    refine x_aload_n dX10_rowOf_26 rfl rfl rfl ?_
    refine m_geti (v := (s.1 105)) dX10_rowOf_27 f_TallySlateModel_519 (by decide) rfl hW rfl ?_
    refine x_aload_n dX10_rowOf_30 rfl rfl rfl ?_
    refine m_geta dX10_rowOf_31 f_TallySlateModel_189 (by decide) rfl hW ?_
    refine x_iload_n dX10_rowOf_34 rfl rfl ?_
    obtain ⟨hb, hT⟩ := hT
    refine m_iald (v := (s.2.2.1 107 a3.toNatClampNeg)) dX10_rowOf_35 rfl hb hW rfl ?_
    obtain ⟨hb, hT⟩ := hT
    refine m_iast dX10_rowOf_36 rfl hb hW hF ?_
    intro h hW hF
    refine x_aload_n dX10_rowOf_37 rfl rfl rfl ?_
    refine x_dup dX10_rowOf_38 rfl ?_
    refine m_geti (v := (s.1 105)) dX10_rowOf_39 f_TallySlateModel_519 (by decide) rfl hW rfl ?_
    refine x_iconst (v := 1) dX10_rowOf_42 rfl ?_
    refine x_iadd dX10_rowOf_43 ?_
    refine m_puti dX10_rowOf_44 f_TallySlateModel_519 (by decide) rfl rfl rfl rfl hW hF ?_
    intro h hW hF
    refine x_iinc (lo' := [some (.ref w.1), some (.int a1), some (.int a2), some (.int (a3 + 1))]) dX10_rowOf_47 rfl (show _ = (a3 + 1) from rfl) rfl ?_
    refine x_goto (tgt := 14) dX10_rowOf_50 rfl ?_
    exact hT h0 h hW hF
set_option maxHeartbeats 16000000 in
theorem vX10_two_0 {l : Launch} {E : EN} {w : MO} {d : Nat} {s : MS} {Q : Option Value → MS → Prop} {x1 : Int32} (hT : (inB ((s.1 108) - 2) 9000 ∧ (∀ y1 : Int32, y1 = (s.2.2.1 106 ((s.1 108) - 2).toNatClampNeg) → (inB ((s.1 108) - 2) 9000 ∧ (∀ y2 : Int32, y2 = (s.2.2.1 107 ((s.1 108) - 2).toNatClampNeg) → (inB ((s.1 108) - 1) 9000 ∧ (∀ y3 : Int32, y3 = (s.2.2.1 106 ((s.1 108) - 1).toNatClampNeg) → (inB ((s.1 108) - 1) 9000 ∧ (∀ y4 : Int32, y4 = (s.2.2.1 107 ((s.1 108) - 1).toNatClampNeg) → (EvM l E w d MX10_kindAt [.ref w.1, .int ((s.1 108) - 2)] s (fun r s5 => ∃ v6 : Int32, r = some (.int v6) ∧ (EvM l E w d MX10_kindAt [.ref w.1, .int ((s5.1 108) - 1)] s5 (fun r s7 => ∃ v8 : Int32, r = some (.int v8) ∧ (∀ y9 : Int32, y9 = ((s7.1 108) - 2) → ((x1 = 47 → ((v6 = 3 → (EvM l E w d MX10_trouble [.ref w.1, .int 3, .int (s7.1 127)] (sI s7 108 ((s7.1 108) - 2)) (fun r s10 => r = none ∧ Q none s10))) ∧ (¬ v6 = 3 → ((¬ v8 = 3 → ((¬ v6 = 0 → ((v6 = 2 → ExM l E w (d + 1) MX10_two 194 [some (.ref w.1), some (.int x1), some (.int y1), some (.int y2), some (.int y3), some (.int y4), some (.int v6), some (.int v8), some (.int y9), some (.int 1), none, none, none, none, none, none, none, none, none, none, none] [.int 1] (sI s7 108 ((s7.1 108) - 2)) Q) ∧ (¬ v6 = 2 → ((¬ v8 = 2 → ExM l E w (d + 1) MX10_two 194 [some (.ref w.1), some (.int x1), some (.int y1), some (.int y2), some (.int y3), some (.int y4), some (.int v6), some (.int v8), some (.int y9), some (.int 1), none, none, none, none, none, none, none, none, none, none, none] [.int 0] (sI s7 108 ((s7.1 108) - 2)) Q) ∧ (v8 = 2 → ExM l E w (d + 1) MX10_two 194 [some (.ref w.1), some (.int x1), some (.int y1), some (.int y2), some (.int y3), some (.int y4), some (.int v6), some (.int v8), some (.int y9), some (.int 1), none, none, none, none, none, none, none, none, none, none, none] [.int 1] (sI s7 108 ((s7.1 108) - 2)) Q))))) ∧ (v6 = 0 → ((¬ v8 = 0 → ((v6 = 2 → ExM l E w (d + 1) MX10_two 194 [some (.ref w.1), some (.int x1), some (.int y1), some (.int y2), some (.int y3), some (.int y4), some (.int v6), some (.int v8), some (.int y9), some (.int 1), none, none, none, none, none, none, none, none, none, none, none] [.int 1] (sI s7 108 ((s7.1 108) - 2)) Q) ∧ (¬ v6 = 2 → ((¬ v8 = 2 → ExM l E w (d + 1) MX10_two 194 [some (.ref w.1), some (.int x1), some (.int y1), some (.int y2), some (.int y3), some (.int y4), some (.int v6), some (.int v8), some (.int y9), some (.int 1), none, none, none, none, none, none, none, none, none, none, none] [.int 0] (sI s7 108 ((s7.1 108) - 2)) Q) ∧ (v8 = 2 → ExM l E w (d + 1) MX10_two 194 [some (.ref w.1), some (.int x1), some (.int y1), some (.int y2), some (.int y3), some (.int y4), some (.int v6), some (.int v8), some (.int y9), some (.int 1), none, none, none, none, none, none, none, none, none, none, none] [.int 1] (sI s7 108 ((s7.1 108) - 2)) Q))))) ∧ (v8 = 0 → ((¬ y4 = 0 → (EvM l E w d MX10_act [.int x1, .int y2, .int y4] (sI s7 108 ((s7.1 108) - 2)) (fun r s11 => ∃ v12 : Int32, r = some (.int v12) ∧ (EvM l E w d MX10_push [.ref w.1, .int 0, .int v12] s11 (fun r s13 => r = none ∧ Q none s13))))) ∧ (y4 = 0 → (EvM l E w d MX10_trouble [.ref w.1, .int 6, .int (s7.1 127)] (sI s7 108 ((s7.1 108) - 2)) (fun r s14 => r = none ∧ Q none s14))))))))) ∧ (v8 = 3 → (EvM l E w d MX10_trouble [.ref w.1, .int 3, .int (s7.1 127)] (sI s7 108 ((s7.1 108) - 2)) (fun r s15 => r = none ∧ Q none s15))))))) ∧ (¬ x1 = 47 → ((¬ x1 = 37 → ((v6 = 3 → (EvM l E w d MX10_trouble [.ref w.1, .int 3, .int (s7.1 127)] (sI s7 108 ((s7.1 108) - 2)) (fun r s16 => r = none ∧ Q none s16))) ∧ (¬ v6 = 3 → ((¬ v8 = 3 → ((¬ v6 = 0 → ((v6 = 2 → ExM l E w (d + 1) MX10_two 194 [some (.ref w.1), some (.int x1), some (.int y1), some (.int y2), some (.int y3), some (.int y4), some (.int v6), some (.int v8), some (.int y9), some (.int 0), none, none, none, none, none, none, none, none, none, none, none] [.int 1] (sI s7 108 ((s7.1 108) - 2)) Q) ∧ (¬ v6 = 2 → ((¬ v8 = 2 → ExM l E w (d + 1) MX10_two 194 [some (.ref w.1), some (.int x1), some (.int y1), some (.int y2), some (.int y3), some (.int y4), some (.int v6), some (.int v8), some (.int y9), some (.int 0), none, none, none, none, none, none, none, none, none, none, none] [.int 0] (sI s7 108 ((s7.1 108) - 2)) Q) ∧ (v8 = 2 → ExM l E w (d + 1) MX10_two 194 [some (.ref w.1), some (.int x1), some (.int y1), some (.int y2), some (.int y3), some (.int y4), some (.int v6), some (.int v8), some (.int y9), some (.int 0), none, none, none, none, none, none, none, none, none, none, none] [.int 1] (sI s7 108 ((s7.1 108) - 2)) Q))))) ∧ (v6 = 0 → ((¬ v8 = 0 → ((v6 = 2 → ExM l E w (d + 1) MX10_two 194 [some (.ref w.1), some (.int x1), some (.int y1), some (.int y2), some (.int y3), some (.int y4), some (.int v6), some (.int v8), some (.int y9), some (.int 0), none, none, none, none, none, none, none, none, none, none, none] [.int 1] (sI s7 108 ((s7.1 108) - 2)) Q) ∧ (¬ v6 = 2 → ((¬ v8 = 2 → ExM l E w (d + 1) MX10_two 194 [some (.ref w.1), some (.int x1), some (.int y1), some (.int y2), some (.int y3), some (.int y4), some (.int v6), some (.int v8), some (.int y9), some (.int 0), none, none, none, none, none, none, none, none, none, none, none] [.int 0] (sI s7 108 ((s7.1 108) - 2)) Q) ∧ (v8 = 2 → ExM l E w (d + 1) MX10_two 194 [some (.ref w.1), some (.int x1), some (.int y1), some (.int y2), some (.int y3), some (.int y4), some (.int v6), some (.int v8), some (.int y9), some (.int 0), none, none, none, none, none, none, none, none, none, none, none] [.int 1] (sI s7 108 ((s7.1 108) - 2)) Q))))) ∧ (v8 = 0 → (EvM l E w d MX10_act [.int x1, .int y2, .int y4] (sI s7 108 ((s7.1 108) - 2)) (fun r s17 => ∃ v18 : Int32, r = some (.int v18) ∧ (EvM l E w d MX10_push [.ref w.1, .int 0, .int v18] s17 (fun r s19 => r = none ∧ Q none s19))))))))) ∧ (v8 = 3 → (EvM l E w d MX10_trouble [.ref w.1, .int 3, .int (s7.1 127)] (sI s7 108 ((s7.1 108) - 2)) (fun r s20 => r = none ∧ Q none s20))))))) ∧ (x1 = 37 → ((v6 = 3 → (EvM l E w d MX10_trouble [.ref w.1, .int 3, .int (s7.1 127)] (sI s7 108 ((s7.1 108) - 2)) (fun r s21 => r = none ∧ Q none s21))) ∧ (¬ v6 = 3 → ((¬ v8 = 3 → ((¬ v6 = 0 → ((v6 = 2 → ExM l E w (d + 1) MX10_two 194 [some (.ref w.1), some (.int x1), some (.int y1), some (.int y2), some (.int y3), some (.int y4), some (.int v6), some (.int v8), some (.int y9), some (.int 1), none, none, none, none, none, none, none, none, none, none, none] [.int 1] (sI s7 108 ((s7.1 108) - 2)) Q) ∧ (¬ v6 = 2 → ((¬ v8 = 2 → ExM l E w (d + 1) MX10_two 194 [some (.ref w.1), some (.int x1), some (.int y1), some (.int y2), some (.int y3), some (.int y4), some (.int v6), some (.int v8), some (.int y9), some (.int 1), none, none, none, none, none, none, none, none, none, none, none] [.int 0] (sI s7 108 ((s7.1 108) - 2)) Q) ∧ (v8 = 2 → ExM l E w (d + 1) MX10_two 194 [some (.ref w.1), some (.int x1), some (.int y1), some (.int y2), some (.int y3), some (.int y4), some (.int v6), some (.int v8), some (.int y9), some (.int 1), none, none, none, none, none, none, none, none, none, none, none] [.int 1] (sI s7 108 ((s7.1 108) - 2)) Q))))) ∧ (v6 = 0 → ((¬ v8 = 0 → ((v6 = 2 → ExM l E w (d + 1) MX10_two 194 [some (.ref w.1), some (.int x1), some (.int y1), some (.int y2), some (.int y3), some (.int y4), some (.int v6), some (.int v8), some (.int y9), some (.int 1), none, none, none, none, none, none, none, none, none, none, none] [.int 1] (sI s7 108 ((s7.1 108) - 2)) Q) ∧ (¬ v6 = 2 → ((¬ v8 = 2 → ExM l E w (d + 1) MX10_two 194 [some (.ref w.1), some (.int x1), some (.int y1), some (.int y2), some (.int y3), some (.int y4), some (.int v6), some (.int v8), some (.int y9), some (.int 1), none, none, none, none, none, none, none, none, none, none, none] [.int 0] (sI s7 108 ((s7.1 108) - 2)) Q) ∧ (v8 = 2 → ExM l E w (d + 1) MX10_two 194 [some (.ref w.1), some (.int x1), some (.int y1), some (.int y2), some (.int y3), some (.int y4), some (.int v6), some (.int v8), some (.int y9), some (.int 1), none, none, none, none, none, none, none, none, none, none, none] [.int 1] (sI s7 108 ((s7.1 108) - 2)) Q))))) ∧ (v8 = 0 → ((¬ y4 = 0 → (EvM l E w d MX10_act [.int x1, .int y2, .int y4] (sI s7 108 ((s7.1 108) - 2)) (fun r s22 => ∃ v23 : Int32, r = some (.int v23) ∧ (EvM l E w d MX10_push [.ref w.1, .int 0, .int v23] s22 (fun r s24 => r = none ∧ Q none s24))))) ∧ (y4 = 0 → (EvM l E w d MX10_trouble [.ref w.1, .int 6, .int (s7.1 127)] (sI s7 108 ((s7.1 108) - 2)) (fun r s25 => r = none ∧ Q none s25))))))))) ∧ (v8 = 3 → (EvM l E w d MX10_trouble [.ref w.1, .int 3, .int (s7.1 127)] (sI s7 108 ((s7.1 108) - 2)) (fun r s26 => r = none ∧ Q none s26)))))))))))))))))))))))) : ExM l E w (d + 1) MX10_two 0 [some (.ref w.1), some (.int x1), none, none, none, none, none, none, none, none, none, none, none, none, none, none, none, none, none, none, none] [] s Q := by
  intro h0 h hW hF
  refine x_aload_n dX10_two_0 rfl rfl rfl ?_
  refine m_geta dX10_two_1 f_TallySlateModel_186 (by decide) rfl hW ?_
  refine x_aload_n dX10_two_4 rfl rfl rfl ?_
  refine m_geti (v := (s.1 108)) dX10_two_5 f_TallySlateModel_461 (by decide) rfl hW rfl ?_
  refine x_iconst (v := 2) dX10_two_8 rfl ?_
  refine x_isub dX10_two_9 ?_
  obtain ⟨hb, hT⟩ := hT
  refine m_iald (v := (s.2.2.1 106 ((s.1 108) - 2).toNatClampNeg)) dX10_two_10 rfl hb hW rfl ?_
  obtain ⟨y1, ey1⟩ : ∃ z : Int32, z = (s.2.2.1 106 ((s.1 108) - 2).toNatClampNeg) := ⟨_, rfl⟩
  have hT := hT y1 ey1
  refine x_istore_n (lo' := [some (.ref w.1), some (.int x1), some (.int y1), none, none, none, none, none, none, none, none, none, none, none, none, none, none, none, none, none, none]) dX10_two_11 rfl (Nat.le_of_ble_eq_true rfl) (by rw [ey1]; rfl) ?_
  refine x_aload_n dX10_two_12 rfl rfl rfl ?_
  refine m_geta dX10_two_13 f_TallySlateModel_189 (by decide) rfl hW ?_
  refine x_aload_n dX10_two_16 rfl rfl rfl ?_
  refine m_geti (v := (s.1 108)) dX10_two_17 f_TallySlateModel_461 (by decide) rfl hW rfl ?_
  refine x_iconst (v := 2) dX10_two_20 rfl ?_
  refine x_isub dX10_two_21 ?_
  obtain ⟨hb, hT⟩ := hT
  refine m_iald (v := (s.2.2.1 107 ((s.1 108) - 2).toNatClampNeg)) dX10_two_22 rfl hb hW rfl ?_
  obtain ⟨y2, ey2⟩ : ∃ z : Int32, z = (s.2.2.1 107 ((s.1 108) - 2).toNatClampNeg) := ⟨_, rfl⟩
  have hT := hT y2 ey2
  refine x_istore_n (lo' := [some (.ref w.1), some (.int x1), some (.int y1), some (.int y2), none, none, none, none, none, none, none, none, none, none, none, none, none, none, none, none, none]) dX10_two_23 rfl (Nat.le_of_ble_eq_true rfl) (by rw [ey2]; rfl) ?_
  refine x_aload_n dX10_two_24 rfl rfl rfl ?_
  refine m_geta dX10_two_25 f_TallySlateModel_186 (by decide) rfl hW ?_
  refine x_aload_n dX10_two_28 rfl rfl rfl ?_
  refine m_geti (v := (s.1 108)) dX10_two_29 f_TallySlateModel_461 (by decide) rfl hW rfl ?_
  refine x_iconst (v := 1) dX10_two_32 rfl ?_
  refine x_isub dX10_two_33 ?_
  obtain ⟨hb, hT⟩ := hT
  refine m_iald (v := (s.2.2.1 106 ((s.1 108) - 1).toNatClampNeg)) dX10_two_34 rfl hb hW rfl ?_
  obtain ⟨y3, ey3⟩ : ∃ z : Int32, z = (s.2.2.1 106 ((s.1 108) - 1).toNatClampNeg) := ⟨_, rfl⟩
  have hT := hT y3 ey3
  refine x_istore (lo' := [some (.ref w.1), some (.int x1), some (.int y1), some (.int y2), some (.int y3), none, none, none, none, none, none, none, none, none, none, none, none, none, none, none, none]) dX10_two_35 (Nat.le_of_ble_eq_true rfl) (by rw [ey3]; rfl) ?_
  refine x_aload_n dX10_two_37 rfl rfl rfl ?_
  refine m_geta dX10_two_38 f_TallySlateModel_189 (by decide) rfl hW ?_
  refine x_aload_n dX10_two_41 rfl rfl rfl ?_
  refine m_geti (v := (s.1 108)) dX10_two_42 f_TallySlateModel_461 (by decide) rfl hW rfl ?_
  refine x_iconst (v := 1) dX10_two_45 rfl ?_
  refine x_isub dX10_two_46 ?_
  obtain ⟨hb, hT⟩ := hT
  refine m_iald (v := (s.2.2.1 107 ((s.1 108) - 1).toNatClampNeg)) dX10_two_47 rfl hb hW rfl ?_
  obtain ⟨y4, ey4⟩ : ∃ z : Int32, z = (s.2.2.1 107 ((s.1 108) - 1).toNatClampNeg) := ⟨_, rfl⟩
  have hT := hT y4 ey4
  refine x_istore (lo' := [some (.ref w.1), some (.int x1), some (.int y1), some (.int y2), some (.int y3), some (.int y4), none, none, none, none, none, none, none, none, none, none, none, none, none, none, none]) dX10_two_48 (Nat.le_of_ble_eq_true rfl) (by rw [ey4]; rfl) ?_
  refine x_aload_n dX10_two_50 rfl rfl rfl ?_
  refine x_aload_n dX10_two_51 rfl rfl rfl ?_
  refine m_geti (v := (s.1 108)) dX10_two_52 f_TallySlateModel_461 (by decide) rfl hW rfl ?_
  refine x_iconst (v := 2) dX10_two_55 rfl ?_
  refine x_isub dX10_two_56 ?_
  refine m_inv (vs := [.int ((s.1 108) - 2)]) dX10_two_57 oX10_kindAt q2728 q2726 qs106 rfl rfl (Nat.le_of_ble_eq_true rfl) rfl hW hF hT ?_
  rintro _ s5 ⟨v6, rfl, hT⟩ h hW hF
  refine x_istore (lo' := [some (.ref w.1), some (.int x1), some (.int y1), some (.int y2), some (.int y3), some (.int y4), some (.int v6), none, none, none, none, none, none, none, none, none, none, none, none, none, none]) dX10_two_60 (Nat.le_of_ble_eq_true rfl) rfl ?_
  refine x_aload_n dX10_two_62 rfl rfl rfl ?_
  refine x_aload_n dX10_two_63 rfl rfl rfl ?_
  refine m_geti (v := (s5.1 108)) dX10_two_64 f_TallySlateModel_461 (by decide) rfl hW rfl ?_
  refine x_iconst (v := 1) dX10_two_67 rfl ?_
  refine x_isub dX10_two_68 ?_
  refine m_inv (vs := [.int ((s5.1 108) - 1)]) dX10_two_69 oX10_kindAt q2728 q2726 qs106 rfl rfl (Nat.le_of_ble_eq_true rfl) rfl hW hF hT ?_
  rintro _ s7 ⟨v8, rfl, hT⟩ h hW hF
  refine x_istore (lo' := [some (.ref w.1), some (.int x1), some (.int y1), some (.int y2), some (.int y3), some (.int y4), some (.int v6), some (.int v8), none, none, none, none, none, none, none, none, none, none, none, none, none]) dX10_two_72 (Nat.le_of_ble_eq_true rfl) rfl ?_
  refine x_aload_n dX10_two_74 rfl rfl rfl ?_
  refine x_dup dX10_two_75 rfl ?_
  refine m_geti (v := (s7.1 108)) dX10_two_76 f_TallySlateModel_461 (by decide) rfl hW rfl ?_
  refine x_iconst (v := 2) dX10_two_79 rfl ?_
  refine x_isub dX10_two_80 ?_
  refine m_puti dX10_two_81 f_TallySlateModel_461 (by decide) rfl rfl rfl rfl hW hF ?_
  intro h hW hF
  refine x_aload_n dX10_two_84 rfl rfl rfl ?_
  refine m_geti (v := ((s7.1 108) - 2)) dX10_two_85 f_TallySlateModel_461 (by decide) rfl hW rfl ?_
  obtain ⟨y9, ey9⟩ : ∃ z : Int32, z = ((s7.1 108) - 2) := ⟨_, rfl⟩
  have hT := hT y9 ey9
  refine x_istore (lo' := [some (.ref w.1), some (.int x1), some (.int y1), some (.int y2), some (.int y3), some (.int y4), some (.int v6), some (.int v8), some (.int y9), none, none, none, none, none, none, none, none, none, none, none, none]) dX10_two_88 (Nat.le_of_ble_eq_true rfl) (by rw [ey9]; rfl) ?_
  refine x_iload_n dX10_two_90 rfl rfl ?_
  refine x_bipush (v := 47) dX10_two_91 rfl ?_
  refine x_icmp_eq (tgt := 102) dX10_two_93 rfl (fun c => ?_) (fun c => ?_)
  · have hT := hT.1 c
    refine x_iconst (v := 1) dX10_two_102 rfl ?_
    refine x_goto (tgt := 107) dX10_two_103 rfl ?_
    refine x_istore (lo' := [some (.ref w.1), some (.int x1), some (.int y1), some (.int y2), some (.int y3), some (.int y4), some (.int v6), some (.int v8), some (.int y9), some (.int 1), none, none, none, none, none, none, none, none, none, none, none]) dX10_two_107 (Nat.le_of_ble_eq_true rfl) rfl ?_
    refine x_iload dX10_two_109 rfl ?_
    refine x_iconst (v := 3) dX10_two_111 rfl ?_
    refine x_icmp_eq (tgt := 121) dX10_two_112 rfl (fun c => ?_) (fun c => ?_)
    · have hT := hT.1 c
      refine x_aload_n dX10_two_121 rfl rfl rfl ?_
      refine x_iconst (v := 3) dX10_two_122 rfl ?_
      refine x_aload_n dX10_two_123 rfl rfl rfl ?_
      refine m_geti (v := (s7.1 127)) dX10_two_124 f_TallySlateModel_507 (by decide) rfl hW rfl ?_
      refine m_inv (vs := [.int 3, .int (s7.1 127)]) dX10_two_127 oX10_trouble q2696 q2694 qs98 rfl rfl (Nat.le_of_ble_eq_true rfl) rfl hW hF hT ?_
      rintro _ s10 ⟨rfl, hT⟩ h hW hF
      exact x_vret dX10_two_130 rfl ⟨_, _, rfl, hW, hF, hT⟩
    · have hT := hT.2 c
      refine x_iload dX10_two_115 rfl ?_
      refine x_iconst (v := 3) dX10_two_117 rfl ?_
      refine x_icmp_ne (tgt := 131) dX10_two_118 rfl (fun c => ?_) (fun c => ?_)
      · have hT := hT.1 c
        refine x_iload dX10_two_131 rfl ?_
        refine x_if_ne (tgt := 177) dX10_two_133 rfl (fun c => ?_) (fun c => ?_)
        · have hT := hT.1 c
          refine x_iload dX10_two_177 rfl ?_
          refine x_iconst (v := 2) dX10_two_179 rfl ?_
          refine x_icmp_eq (tgt := 189) dX10_two_180 rfl (fun c => ?_) (fun c => ?_)
          · have hT := hT.1 c
            refine x_iconst (v := 1) dX10_two_189 rfl ?_
            refine x_goto (tgt := 194) dX10_two_190 rfl ?_
            exact hT h0 h hW hF
          · have hT := hT.2 c
            refine x_iload dX10_two_183 rfl ?_
            refine x_iconst (v := 2) dX10_two_185 rfl ?_
            refine x_icmp_ne (tgt := 193) dX10_two_186 rfl (fun c => ?_) (fun c => ?_)
            · have hT := hT.1 c
              refine x_iconst (v := 0) dX10_two_193 rfl ?_
              exact hT h0 h hW hF
            · have hT := hT.2 c
              refine x_iconst (v := 1) dX10_two_189 rfl ?_
              refine x_goto (tgt := 194) dX10_two_190 rfl ?_
              exact hT h0 h hW hF
        · have hT := hT.2 c
          refine x_iload dX10_two_136 rfl ?_
          refine x_if_ne (tgt := 177) dX10_two_138 rfl (fun c => ?_) (fun c => ?_)
          · have hT := hT.1 c
            refine x_iload dX10_two_177 rfl ?_
            refine x_iconst (v := 2) dX10_two_179 rfl ?_
            refine x_icmp_eq (tgt := 189) dX10_two_180 rfl (fun c => ?_) (fun c => ?_)
            · have hT := hT.1 c
              refine x_iconst (v := 1) dX10_two_189 rfl ?_
              refine x_goto (tgt := 194) dX10_two_190 rfl ?_
              exact hT h0 h hW hF
            · have hT := hT.2 c
              refine x_iload dX10_two_183 rfl ?_
              refine x_iconst (v := 2) dX10_two_185 rfl ?_
              refine x_icmp_ne (tgt := 193) dX10_two_186 rfl (fun c => ?_) (fun c => ?_)
              · have hT := hT.1 c
                refine x_iconst (v := 0) dX10_two_193 rfl ?_
                exact hT h0 h hW hF
              · have hT := hT.2 c
                refine x_iconst (v := 1) dX10_two_189 rfl ?_
                refine x_goto (tgt := 194) dX10_two_190 rfl ?_
                exact hT h0 h hW hF
          · have hT := hT.2 c
            refine x_iload dX10_two_141 rfl ?_
            refine x_if_eq (tgt := 164) dX10_two_143 rfl (fun c => absurd c (by decide)) (fun _ => ?_)
            refine x_iload dX10_two_146 rfl ?_
            refine x_if_ne (tgt := 164) dX10_two_148 rfl (fun c => ?_) (fun c => ?_)
            · have hT := hT.1 c
              refine x_aload_n dX10_two_164 rfl rfl rfl ?_
              refine x_iconst (v := 0) dX10_two_165 rfl ?_
              refine x_iload_n dX10_two_166 rfl rfl ?_
              refine x_iload_n dX10_two_167 rfl rfl ?_
              refine x_iload dX10_two_168 rfl ?_
              refine m_invS (vs := [.int x1, .int y2, .int y4]) dX10_two_170 oX10_act q2782 q2781 rfl rfl (Nat.le_of_ble_eq_true rfl) rfl hW hF hT ?_
              rintro _ s11 ⟨v12, rfl, hT⟩ h hW hF
              refine m_inv (vs := [.int 0, .int v12]) dX10_two_173 oX10_push q2708 q2706 qs101 rfl rfl (Nat.le_of_ble_eq_true rfl) rfl hW hF hT ?_
              rintro _ s13 ⟨rfl, hT⟩ h hW hF
              exact x_vret dX10_two_176 rfl ⟨_, _, rfl, hW, hF, hT⟩
            · have hT := hT.2 c
              refine x_aload_n dX10_two_151 rfl rfl rfl ?_
              refine x_bipush (v := 6) dX10_two_152 rfl ?_
              refine x_aload_n dX10_two_154 rfl rfl rfl ?_
              refine m_geti (v := (s7.1 127)) dX10_two_155 f_TallySlateModel_507 (by decide) rfl hW rfl ?_
              refine m_inv (vs := [.int 6, .int (s7.1 127)]) dX10_two_158 oX10_trouble q2696 q2694 qs98 rfl rfl (Nat.le_of_ble_eq_true rfl) rfl hW hF hT ?_
              rintro _ s14 ⟨rfl, hT⟩ h hW hF
              refine x_goto (tgt := 176) dX10_two_161 rfl ?_
              exact x_vret dX10_two_176 rfl ⟨_, _, rfl, hW, hF, hT⟩
      · have hT := hT.2 c
        refine x_aload_n dX10_two_121 rfl rfl rfl ?_
        refine x_iconst (v := 3) dX10_two_122 rfl ?_
        refine x_aload_n dX10_two_123 rfl rfl rfl ?_
        refine m_geti (v := (s7.1 127)) dX10_two_124 f_TallySlateModel_507 (by decide) rfl hW rfl ?_
        refine m_inv (vs := [.int 3, .int (s7.1 127)]) dX10_two_127 oX10_trouble q2696 q2694 qs98 rfl rfl (Nat.le_of_ble_eq_true rfl) rfl hW hF hT ?_
        rintro _ s15 ⟨rfl, hT⟩ h hW hF
        exact x_vret dX10_two_130 rfl ⟨_, _, rfl, hW, hF, hT⟩
  · have hT := hT.2 c
    refine x_iload_n dX10_two_96 rfl rfl ?_
    refine x_bipush (v := 37) dX10_two_97 rfl ?_
    refine x_icmp_ne (tgt := 106) dX10_two_99 rfl (fun c => ?_) (fun c => ?_)
    · have hT := hT.1 c
      refine x_iconst (v := 0) dX10_two_106 rfl ?_
      refine x_istore (lo' := [some (.ref w.1), some (.int x1), some (.int y1), some (.int y2), some (.int y3), some (.int y4), some (.int v6), some (.int v8), some (.int y9), some (.int 0), none, none, none, none, none, none, none, none, none, none, none]) dX10_two_107 (Nat.le_of_ble_eq_true rfl) rfl ?_
      refine x_iload dX10_two_109 rfl ?_
      refine x_iconst (v := 3) dX10_two_111 rfl ?_
      refine x_icmp_eq (tgt := 121) dX10_two_112 rfl (fun c => ?_) (fun c => ?_)
      · have hT := hT.1 c
        refine x_aload_n dX10_two_121 rfl rfl rfl ?_
        refine x_iconst (v := 3) dX10_two_122 rfl ?_
        refine x_aload_n dX10_two_123 rfl rfl rfl ?_
        refine m_geti (v := (s7.1 127)) dX10_two_124 f_TallySlateModel_507 (by decide) rfl hW rfl ?_
        refine m_inv (vs := [.int 3, .int (s7.1 127)]) dX10_two_127 oX10_trouble q2696 q2694 qs98 rfl rfl (Nat.le_of_ble_eq_true rfl) rfl hW hF hT ?_
        rintro _ s16 ⟨rfl, hT⟩ h hW hF
        exact x_vret dX10_two_130 rfl ⟨_, _, rfl, hW, hF, hT⟩
      · have hT := hT.2 c
        refine x_iload dX10_two_115 rfl ?_
        refine x_iconst (v := 3) dX10_two_117 rfl ?_
        refine x_icmp_ne (tgt := 131) dX10_two_118 rfl (fun c => ?_) (fun c => ?_)
        · have hT := hT.1 c
          refine x_iload dX10_two_131 rfl ?_
          refine x_if_ne (tgt := 177) dX10_two_133 rfl (fun c => ?_) (fun c => ?_)
          · have hT := hT.1 c
            refine x_iload dX10_two_177 rfl ?_
            refine x_iconst (v := 2) dX10_two_179 rfl ?_
            refine x_icmp_eq (tgt := 189) dX10_two_180 rfl (fun c => ?_) (fun c => ?_)
            · have hT := hT.1 c
              refine x_iconst (v := 1) dX10_two_189 rfl ?_
              refine x_goto (tgt := 194) dX10_two_190 rfl ?_
              exact hT h0 h hW hF
            · have hT := hT.2 c
              refine x_iload dX10_two_183 rfl ?_
              refine x_iconst (v := 2) dX10_two_185 rfl ?_
              refine x_icmp_ne (tgt := 193) dX10_two_186 rfl (fun c => ?_) (fun c => ?_)
              · have hT := hT.1 c
                refine x_iconst (v := 0) dX10_two_193 rfl ?_
                exact hT h0 h hW hF
              · have hT := hT.2 c
                refine x_iconst (v := 1) dX10_two_189 rfl ?_
                refine x_goto (tgt := 194) dX10_two_190 rfl ?_
                exact hT h0 h hW hF
          · have hT := hT.2 c
            refine x_iload dX10_two_136 rfl ?_
            refine x_if_ne (tgt := 177) dX10_two_138 rfl (fun c => ?_) (fun c => ?_)
            · have hT := hT.1 c
              refine x_iload dX10_two_177 rfl ?_
              refine x_iconst (v := 2) dX10_two_179 rfl ?_
              refine x_icmp_eq (tgt := 189) dX10_two_180 rfl (fun c => ?_) (fun c => ?_)
              · have hT := hT.1 c
                refine x_iconst (v := 1) dX10_two_189 rfl ?_
                refine x_goto (tgt := 194) dX10_two_190 rfl ?_
                exact hT h0 h hW hF
              · have hT := hT.2 c
                refine x_iload dX10_two_183 rfl ?_
                refine x_iconst (v := 2) dX10_two_185 rfl ?_
                refine x_icmp_ne (tgt := 193) dX10_two_186 rfl (fun c => ?_) (fun c => ?_)
                · have hT := hT.1 c
                  refine x_iconst (v := 0) dX10_two_193 rfl ?_
                  exact hT h0 h hW hF
                · have hT := hT.2 c
                  refine x_iconst (v := 1) dX10_two_189 rfl ?_
                  refine x_goto (tgt := 194) dX10_two_190 rfl ?_
                  exact hT h0 h hW hF
            · have hT := hT.2 c
              refine x_iload dX10_two_141 rfl ?_
              refine x_if_eq (tgt := 164) dX10_two_143 rfl (fun _ => ?_) (fun c => absurd c (by decide))
              refine x_aload_n dX10_two_164 rfl rfl rfl ?_
              refine x_iconst (v := 0) dX10_two_165 rfl ?_
              refine x_iload_n dX10_two_166 rfl rfl ?_
              refine x_iload_n dX10_two_167 rfl rfl ?_
              refine x_iload dX10_two_168 rfl ?_
              refine m_invS (vs := [.int x1, .int y2, .int y4]) dX10_two_170 oX10_act q2782 q2781 rfl rfl (Nat.le_of_ble_eq_true rfl) rfl hW hF hT ?_
              rintro _ s17 ⟨v18, rfl, hT⟩ h hW hF
              refine m_inv (vs := [.int 0, .int v18]) dX10_two_173 oX10_push q2708 q2706 qs101 rfl rfl (Nat.le_of_ble_eq_true rfl) rfl hW hF hT ?_
              rintro _ s19 ⟨rfl, hT⟩ h hW hF
              exact x_vret dX10_two_176 rfl ⟨_, _, rfl, hW, hF, hT⟩
        · have hT := hT.2 c
          refine x_aload_n dX10_two_121 rfl rfl rfl ?_
          refine x_iconst (v := 3) dX10_two_122 rfl ?_
          refine x_aload_n dX10_two_123 rfl rfl rfl ?_
          refine m_geti (v := (s7.1 127)) dX10_two_124 f_TallySlateModel_507 (by decide) rfl hW rfl ?_
          refine m_inv (vs := [.int 3, .int (s7.1 127)]) dX10_two_127 oX10_trouble q2696 q2694 qs98 rfl rfl (Nat.le_of_ble_eq_true rfl) rfl hW hF hT ?_
          rintro _ s20 ⟨rfl, hT⟩ h hW hF
          exact x_vret dX10_two_130 rfl ⟨_, _, rfl, hW, hF, hT⟩
    · have hT := hT.2 c
      refine x_iconst (v := 1) dX10_two_102 rfl ?_
      refine x_goto (tgt := 107) dX10_two_103 rfl ?_
      refine x_istore (lo' := [some (.ref w.1), some (.int x1), some (.int y1), some (.int y2), some (.int y3), some (.int y4), some (.int v6), some (.int v8), some (.int y9), some (.int 1), none, none, none, none, none, none, none, none, none, none, none]) dX10_two_107 (Nat.le_of_ble_eq_true rfl) rfl ?_
      refine x_iload dX10_two_109 rfl ?_
      refine x_iconst (v := 3) dX10_two_111 rfl ?_
      refine x_icmp_eq (tgt := 121) dX10_two_112 rfl (fun c => ?_) (fun c => ?_)
      · have hT := hT.1 c
        refine x_aload_n dX10_two_121 rfl rfl rfl ?_
        refine x_iconst (v := 3) dX10_two_122 rfl ?_
        refine x_aload_n dX10_two_123 rfl rfl rfl ?_
        refine m_geti (v := (s7.1 127)) dX10_two_124 f_TallySlateModel_507 (by decide) rfl hW rfl ?_
        refine m_inv (vs := [.int 3, .int (s7.1 127)]) dX10_two_127 oX10_trouble q2696 q2694 qs98 rfl rfl (Nat.le_of_ble_eq_true rfl) rfl hW hF hT ?_
        rintro _ s21 ⟨rfl, hT⟩ h hW hF
        exact x_vret dX10_two_130 rfl ⟨_, _, rfl, hW, hF, hT⟩
      · have hT := hT.2 c
        refine x_iload dX10_two_115 rfl ?_
        refine x_iconst (v := 3) dX10_two_117 rfl ?_
        refine x_icmp_ne (tgt := 131) dX10_two_118 rfl (fun c => ?_) (fun c => ?_)
        · have hT := hT.1 c
          refine x_iload dX10_two_131 rfl ?_
          refine x_if_ne (tgt := 177) dX10_two_133 rfl (fun c => ?_) (fun c => ?_)
          · have hT := hT.1 c
            refine x_iload dX10_two_177 rfl ?_
            refine x_iconst (v := 2) dX10_two_179 rfl ?_
            refine x_icmp_eq (tgt := 189) dX10_two_180 rfl (fun c => ?_) (fun c => ?_)
            · have hT := hT.1 c
              refine x_iconst (v := 1) dX10_two_189 rfl ?_
              refine x_goto (tgt := 194) dX10_two_190 rfl ?_
              exact hT h0 h hW hF
            · have hT := hT.2 c
              refine x_iload dX10_two_183 rfl ?_
              refine x_iconst (v := 2) dX10_two_185 rfl ?_
              refine x_icmp_ne (tgt := 193) dX10_two_186 rfl (fun c => ?_) (fun c => ?_)
              · have hT := hT.1 c
                refine x_iconst (v := 0) dX10_two_193 rfl ?_
                exact hT h0 h hW hF
              · have hT := hT.2 c
                refine x_iconst (v := 1) dX10_two_189 rfl ?_
                refine x_goto (tgt := 194) dX10_two_190 rfl ?_
                exact hT h0 h hW hF
          · have hT := hT.2 c
            refine x_iload dX10_two_136 rfl ?_
            refine x_if_ne (tgt := 177) dX10_two_138 rfl (fun c => ?_) (fun c => ?_)
            · have hT := hT.1 c
              refine x_iload dX10_two_177 rfl ?_
              refine x_iconst (v := 2) dX10_two_179 rfl ?_
              refine x_icmp_eq (tgt := 189) dX10_two_180 rfl (fun c => ?_) (fun c => ?_)
              · have hT := hT.1 c
                refine x_iconst (v := 1) dX10_two_189 rfl ?_
                refine x_goto (tgt := 194) dX10_two_190 rfl ?_
                exact hT h0 h hW hF
              · have hT := hT.2 c
                refine x_iload dX10_two_183 rfl ?_
                refine x_iconst (v := 2) dX10_two_185 rfl ?_
                refine x_icmp_ne (tgt := 193) dX10_two_186 rfl (fun c => ?_) (fun c => ?_)
                · have hT := hT.1 c
                  refine x_iconst (v := 0) dX10_two_193 rfl ?_
                  exact hT h0 h hW hF
                · have hT := hT.2 c
                  refine x_iconst (v := 1) dX10_two_189 rfl ?_
                  refine x_goto (tgt := 194) dX10_two_190 rfl ?_
                  exact hT h0 h hW hF
            · have hT := hT.2 c
              refine x_iload dX10_two_141 rfl ?_
              refine x_if_eq (tgt := 164) dX10_two_143 rfl (fun c => absurd c (by decide)) (fun _ => ?_)
              refine x_iload dX10_two_146 rfl ?_
              refine x_if_ne (tgt := 164) dX10_two_148 rfl (fun c => ?_) (fun c => ?_)
              · have hT := hT.1 c
                refine x_aload_n dX10_two_164 rfl rfl rfl ?_
                refine x_iconst (v := 0) dX10_two_165 rfl ?_
                refine x_iload_n dX10_two_166 rfl rfl ?_
                refine x_iload_n dX10_two_167 rfl rfl ?_
                refine x_iload dX10_two_168 rfl ?_
                refine m_invS (vs := [.int x1, .int y2, .int y4]) dX10_two_170 oX10_act q2782 q2781 rfl rfl (Nat.le_of_ble_eq_true rfl) rfl hW hF hT ?_
                rintro _ s22 ⟨v23, rfl, hT⟩ h hW hF
                refine m_inv (vs := [.int 0, .int v23]) dX10_two_173 oX10_push q2708 q2706 qs101 rfl rfl (Nat.le_of_ble_eq_true rfl) rfl hW hF hT ?_
                rintro _ s24 ⟨rfl, hT⟩ h hW hF
                exact x_vret dX10_two_176 rfl ⟨_, _, rfl, hW, hF, hT⟩
              · have hT := hT.2 c
                refine x_aload_n dX10_two_151 rfl rfl rfl ?_
                refine x_bipush (v := 6) dX10_two_152 rfl ?_
                refine x_aload_n dX10_two_154 rfl rfl rfl ?_
                refine m_geti (v := (s7.1 127)) dX10_two_155 f_TallySlateModel_507 (by decide) rfl hW rfl ?_
                refine m_inv (vs := [.int 6, .int (s7.1 127)]) dX10_two_158 oX10_trouble q2696 q2694 qs98 rfl rfl (Nat.le_of_ble_eq_true rfl) rfl hW hF hT ?_
                rintro _ s25 ⟨rfl, hT⟩ h hW hF
                refine x_goto (tgt := 176) dX10_two_161 rfl ?_
                exact x_vret dX10_two_176 rfl ⟨_, _, rfl, hW, hF, hT⟩
        · have hT := hT.2 c
          refine x_aload_n dX10_two_121 rfl rfl rfl ?_
          refine x_iconst (v := 3) dX10_two_122 rfl ?_
          refine x_aload_n dX10_two_123 rfl rfl rfl ?_
          refine m_geti (v := (s7.1 127)) dX10_two_124 f_TallySlateModel_507 (by decide) rfl hW rfl ?_
          refine m_inv (vs := [.int 3, .int (s7.1 127)]) dX10_two_127 oX10_trouble q2696 q2694 qs98 rfl rfl (Nat.le_of_ble_eq_true rfl) rfl hW hF hT ?_
          rintro _ s26 ⟨rfl, hT⟩ h hW hF
          exact x_vret dX10_two_130 rfl ⟨_, _, rfl, hW, hF, hT⟩
theorem eX10_two {l : Launch} {E : EN} {w : MO} {d : Nat} {s : MS} {Q : Option Value → MS → Prop} {x1 : Int32} (hst : l.stackTraces = false) (hT : (inB ((s.1 108) - 2) 9000 ∧ (∀ y1 : Int32, y1 = (s.2.2.1 106 ((s.1 108) - 2).toNatClampNeg) → (inB ((s.1 108) - 2) 9000 ∧ (∀ y2 : Int32, y2 = (s.2.2.1 107 ((s.1 108) - 2).toNatClampNeg) → (inB ((s.1 108) - 1) 9000 ∧ (∀ y3 : Int32, y3 = (s.2.2.1 106 ((s.1 108) - 1).toNatClampNeg) → (inB ((s.1 108) - 1) 9000 ∧ (∀ y4 : Int32, y4 = (s.2.2.1 107 ((s.1 108) - 1).toNatClampNeg) → (EvM l E w d MX10_kindAt [.ref w.1, .int ((s.1 108) - 2)] s (fun r s5 => ∃ v6 : Int32, r = some (.int v6) ∧ (EvM l E w d MX10_kindAt [.ref w.1, .int ((s5.1 108) - 1)] s5 (fun r s7 => ∃ v8 : Int32, r = some (.int v8) ∧ (∀ y9 : Int32, y9 = ((s7.1 108) - 2) → ((x1 = 47 → ((v6 = 3 → (EvM l E w d MX10_trouble [.ref w.1, .int 3, .int (s7.1 127)] (sI s7 108 ((s7.1 108) - 2)) (fun r s10 => r = none ∧ Q none s10))) ∧ (¬ v6 = 3 → ((¬ v8 = 3 → ((¬ v6 = 0 → ((v6 = 2 → ExM l E w (d + 1) MX10_two 194 [some (.ref w.1), some (.int x1), some (.int y1), some (.int y2), some (.int y3), some (.int y4), some (.int v6), some (.int v8), some (.int y9), some (.int 1), none, none, none, none, none, none, none, none, none, none, none] [.int 1] (sI s7 108 ((s7.1 108) - 2)) Q) ∧ (¬ v6 = 2 → ((¬ v8 = 2 → ExM l E w (d + 1) MX10_two 194 [some (.ref w.1), some (.int x1), some (.int y1), some (.int y2), some (.int y3), some (.int y4), some (.int v6), some (.int v8), some (.int y9), some (.int 1), none, none, none, none, none, none, none, none, none, none, none] [.int 0] (sI s7 108 ((s7.1 108) - 2)) Q) ∧ (v8 = 2 → ExM l E w (d + 1) MX10_two 194 [some (.ref w.1), some (.int x1), some (.int y1), some (.int y2), some (.int y3), some (.int y4), some (.int v6), some (.int v8), some (.int y9), some (.int 1), none, none, none, none, none, none, none, none, none, none, none] [.int 1] (sI s7 108 ((s7.1 108) - 2)) Q))))) ∧ (v6 = 0 → ((¬ v8 = 0 → ((v6 = 2 → ExM l E w (d + 1) MX10_two 194 [some (.ref w.1), some (.int x1), some (.int y1), some (.int y2), some (.int y3), some (.int y4), some (.int v6), some (.int v8), some (.int y9), some (.int 1), none, none, none, none, none, none, none, none, none, none, none] [.int 1] (sI s7 108 ((s7.1 108) - 2)) Q) ∧ (¬ v6 = 2 → ((¬ v8 = 2 → ExM l E w (d + 1) MX10_two 194 [some (.ref w.1), some (.int x1), some (.int y1), some (.int y2), some (.int y3), some (.int y4), some (.int v6), some (.int v8), some (.int y9), some (.int 1), none, none, none, none, none, none, none, none, none, none, none] [.int 0] (sI s7 108 ((s7.1 108) - 2)) Q) ∧ (v8 = 2 → ExM l E w (d + 1) MX10_two 194 [some (.ref w.1), some (.int x1), some (.int y1), some (.int y2), some (.int y3), some (.int y4), some (.int v6), some (.int v8), some (.int y9), some (.int 1), none, none, none, none, none, none, none, none, none, none, none] [.int 1] (sI s7 108 ((s7.1 108) - 2)) Q))))) ∧ (v8 = 0 → ((¬ y4 = 0 → (EvM l E w d MX10_act [.int x1, .int y2, .int y4] (sI s7 108 ((s7.1 108) - 2)) (fun r s11 => ∃ v12 : Int32, r = some (.int v12) ∧ (EvM l E w d MX10_push [.ref w.1, .int 0, .int v12] s11 (fun r s13 => r = none ∧ Q none s13))))) ∧ (y4 = 0 → (EvM l E w d MX10_trouble [.ref w.1, .int 6, .int (s7.1 127)] (sI s7 108 ((s7.1 108) - 2)) (fun r s14 => r = none ∧ Q none s14))))))))) ∧ (v8 = 3 → (EvM l E w d MX10_trouble [.ref w.1, .int 3, .int (s7.1 127)] (sI s7 108 ((s7.1 108) - 2)) (fun r s15 => r = none ∧ Q none s15))))))) ∧ (¬ x1 = 47 → ((¬ x1 = 37 → ((v6 = 3 → (EvM l E w d MX10_trouble [.ref w.1, .int 3, .int (s7.1 127)] (sI s7 108 ((s7.1 108) - 2)) (fun r s16 => r = none ∧ Q none s16))) ∧ (¬ v6 = 3 → ((¬ v8 = 3 → ((¬ v6 = 0 → ((v6 = 2 → ExM l E w (d + 1) MX10_two 194 [some (.ref w.1), some (.int x1), some (.int y1), some (.int y2), some (.int y3), some (.int y4), some (.int v6), some (.int v8), some (.int y9), some (.int 0), none, none, none, none, none, none, none, none, none, none, none] [.int 1] (sI s7 108 ((s7.1 108) - 2)) Q) ∧ (¬ v6 = 2 → ((¬ v8 = 2 → ExM l E w (d + 1) MX10_two 194 [some (.ref w.1), some (.int x1), some (.int y1), some (.int y2), some (.int y3), some (.int y4), some (.int v6), some (.int v8), some (.int y9), some (.int 0), none, none, none, none, none, none, none, none, none, none, none] [.int 0] (sI s7 108 ((s7.1 108) - 2)) Q) ∧ (v8 = 2 → ExM l E w (d + 1) MX10_two 194 [some (.ref w.1), some (.int x1), some (.int y1), some (.int y2), some (.int y3), some (.int y4), some (.int v6), some (.int v8), some (.int y9), some (.int 0), none, none, none, none, none, none, none, none, none, none, none] [.int 1] (sI s7 108 ((s7.1 108) - 2)) Q))))) ∧ (v6 = 0 → ((¬ v8 = 0 → ((v6 = 2 → ExM l E w (d + 1) MX10_two 194 [some (.ref w.1), some (.int x1), some (.int y1), some (.int y2), some (.int y3), some (.int y4), some (.int v6), some (.int v8), some (.int y9), some (.int 0), none, none, none, none, none, none, none, none, none, none, none] [.int 1] (sI s7 108 ((s7.1 108) - 2)) Q) ∧ (¬ v6 = 2 → ((¬ v8 = 2 → ExM l E w (d + 1) MX10_two 194 [some (.ref w.1), some (.int x1), some (.int y1), some (.int y2), some (.int y3), some (.int y4), some (.int v6), some (.int v8), some (.int y9), some (.int 0), none, none, none, none, none, none, none, none, none, none, none] [.int 0] (sI s7 108 ((s7.1 108) - 2)) Q) ∧ (v8 = 2 → ExM l E w (d + 1) MX10_two 194 [some (.ref w.1), some (.int x1), some (.int y1), some (.int y2), some (.int y3), some (.int y4), some (.int v6), some (.int v8), some (.int y9), some (.int 0), none, none, none, none, none, none, none, none, none, none, none] [.int 1] (sI s7 108 ((s7.1 108) - 2)) Q))))) ∧ (v8 = 0 → (EvM l E w d MX10_act [.int x1, .int y2, .int y4] (sI s7 108 ((s7.1 108) - 2)) (fun r s17 => ∃ v18 : Int32, r = some (.int v18) ∧ (EvM l E w d MX10_push [.ref w.1, .int 0, .int v18] s17 (fun r s19 => r = none ∧ Q none s19))))))))) ∧ (v8 = 3 → (EvM l E w d MX10_trouble [.ref w.1, .int 3, .int (s7.1 127)] (sI s7 108 ((s7.1 108) - 2)) (fun r s20 => r = none ∧ Q none s20))))))) ∧ (x1 = 37 → ((v6 = 3 → (EvM l E w d MX10_trouble [.ref w.1, .int 3, .int (s7.1 127)] (sI s7 108 ((s7.1 108) - 2)) (fun r s21 => r = none ∧ Q none s21))) ∧ (¬ v6 = 3 → ((¬ v8 = 3 → ((¬ v6 = 0 → ((v6 = 2 → ExM l E w (d + 1) MX10_two 194 [some (.ref w.1), some (.int x1), some (.int y1), some (.int y2), some (.int y3), some (.int y4), some (.int v6), some (.int v8), some (.int y9), some (.int 1), none, none, none, none, none, none, none, none, none, none, none] [.int 1] (sI s7 108 ((s7.1 108) - 2)) Q) ∧ (¬ v6 = 2 → ((¬ v8 = 2 → ExM l E w (d + 1) MX10_two 194 [some (.ref w.1), some (.int x1), some (.int y1), some (.int y2), some (.int y3), some (.int y4), some (.int v6), some (.int v8), some (.int y9), some (.int 1), none, none, none, none, none, none, none, none, none, none, none] [.int 0] (sI s7 108 ((s7.1 108) - 2)) Q) ∧ (v8 = 2 → ExM l E w (d + 1) MX10_two 194 [some (.ref w.1), some (.int x1), some (.int y1), some (.int y2), some (.int y3), some (.int y4), some (.int v6), some (.int v8), some (.int y9), some (.int 1), none, none, none, none, none, none, none, none, none, none, none] [.int 1] (sI s7 108 ((s7.1 108) - 2)) Q))))) ∧ (v6 = 0 → ((¬ v8 = 0 → ((v6 = 2 → ExM l E w (d + 1) MX10_two 194 [some (.ref w.1), some (.int x1), some (.int y1), some (.int y2), some (.int y3), some (.int y4), some (.int v6), some (.int v8), some (.int y9), some (.int 1), none, none, none, none, none, none, none, none, none, none, none] [.int 1] (sI s7 108 ((s7.1 108) - 2)) Q) ∧ (¬ v6 = 2 → ((¬ v8 = 2 → ExM l E w (d + 1) MX10_two 194 [some (.ref w.1), some (.int x1), some (.int y1), some (.int y2), some (.int y3), some (.int y4), some (.int v6), some (.int v8), some (.int y9), some (.int 1), none, none, none, none, none, none, none, none, none, none, none] [.int 0] (sI s7 108 ((s7.1 108) - 2)) Q) ∧ (v8 = 2 → ExM l E w (d + 1) MX10_two 194 [some (.ref w.1), some (.int x1), some (.int y1), some (.int y2), some (.int y3), some (.int y4), some (.int v6), some (.int v8), some (.int y9), some (.int 1), none, none, none, none, none, none, none, none, none, none, none] [.int 1] (sI s7 108 ((s7.1 108) - 2)) Q))))) ∧ (v8 = 0 → ((¬ y4 = 0 → (EvM l E w d MX10_act [.int x1, .int y2, .int y4] (sI s7 108 ((s7.1 108) - 2)) (fun r s22 => ∃ v23 : Int32, r = some (.int v23) ∧ (EvM l E w d MX10_push [.ref w.1, .int 0, .int v23] s22 (fun r s24 => r = none ∧ Q none s24))))) ∧ (y4 = 0 → (EvM l E w d MX10_trouble [.ref w.1, .int 6, .int (s7.1 127)] (sI s7 108 ((s7.1 108) - 2)) (fun r s25 => r = none ∧ Q none s25))))))))) ∧ (v8 = 3 → (EvM l E w d MX10_trouble [.ref w.1, .int 3, .int (s7.1 127)] (sI s7 108 ((s7.1 108) - 2)) (fun r s26 => r = none ∧ Q none s26)))))))))))))))))))))))) : EvM l E w (d + 1) MX10_two [.ref w.1, .int x1] s Q :=
  EvM.of hst (by decide) (Nat.le_of_ble_eq_true rfl) (vX10_two_0 hT)
set_option maxHeartbeats 16000000 in
theorem vX10_two_194 {l : Launch} {E : EN} {w : MO} {d : Nat} {s : MS} {Q : Option Value → MS → Prop} {a1 : Int32} {a2 : Int32} {a3 : Int32} {a4 : Int32} {a5 : Int32} {a6 : Int32} {a7 : Int32} {a8 : Int32} {a9 : Int32} {b0 : Int32} (hT : ((¬ a6 = 2 → ((¬ a7 = 2 → ((¬ a6 = 2 → ExM l E w (d + 1) MX10_two 264 [some (.ref w.1), some (.int a1), some (.int a2), some (.int a3), some (.int a4), some (.int a5), none, none, some (.int a8), some (.int a9), some (.int b0), some (.int 1), some (.int 0), some (.int 0), none, none, none, none, none, none, none] [] s Q) ∧ (a6 = 2 → ((¬ a7 = 2 → ExM l E w (d + 1) MX10_two 264 [some (.ref w.1), some (.int a1), some (.int a2), some (.int a3), some (.int a4), some (.int a5), none, none, some (.int a8), some (.int a9), some (.int b0), some (.int 1), some (.int 0), some (.int 0), none, none, none, none, none, none, none] [] s Q) ∧ (a7 = 2 → (EvM l E w d MX10_sizeAt [.ref w.1, .int a3] s (fun r s1 => ∃ v2 : Int32, r = some (.int v2) ∧ (EvM l E w d MX10_sizeAt [.ref w.1, .int a5] s1 (fun r s3 => ∃ v4 : Int32, r = some (.int v4) ∧ ((v2 = v4 → ExM l E w (d + 1) MX10_two 264 [some (.ref w.1), some (.int a1), some (.int a2), some (.int a3), some (.int a4), some (.int a5), none, none, some (.int a8), some (.int a9), some (.int b0), some (.int 1), some (.int 0), some (.int 0), none, none, none, none, none, none, none] [] s3 Q) ∧ (¬ v2 = v4 → ExM l E w (d + 1) MX10_two 264 [some (.ref w.1), some (.int a1), some (.int a2), some (.int a3), some (.int a4), some (.int a5), none, none, some (.int a8), some (.int a9), some (.int b0), some (.int 1), some (.int 1), some (.int 0), none, none, none, none, none, none, none] [] s3 Q))))))))))) ∧ (a7 = 2 → (EvM l E w d MX10_sizeAt [.ref w.1, .int a5] s (fun r s5 => ∃ v6 : Int32, r = some (.int v6) ∧ ((¬ a6 = 2 → ExM l E w (d + 1) MX10_two 264 [some (.ref w.1), some (.int a1), some (.int a2), some (.int a3), some (.int a4), some (.int a5), none, none, some (.int a8), some (.int a9), some (.int b0), some (.int v6), some (.int 0), some (.int 0), none, none, none, none, none, none, none] [] s5 Q) ∧ (a6 = 2 → ((¬ a7 = 2 → ExM l E w (d + 1) MX10_two 264 [some (.ref w.1), some (.int a1), some (.int a2), some (.int a3), some (.int a4), some (.int a5), none, none, some (.int a8), some (.int a9), some (.int b0), some (.int v6), some (.int 0), some (.int 0), none, none, none, none, none, none, none] [] s5 Q) ∧ (a7 = 2 → (EvM l E w d MX10_sizeAt [.ref w.1, .int a3] s5 (fun r s7 => ∃ v8 : Int32, r = some (.int v8) ∧ (EvM l E w d MX10_sizeAt [.ref w.1, .int a5] s7 (fun r s9 => ∃ v10 : Int32, r = some (.int v10) ∧ ((v8 = v10 → ExM l E w (d + 1) MX10_two 264 [some (.ref w.1), some (.int a1), some (.int a2), some (.int a3), some (.int a4), some (.int a5), none, none, some (.int a8), some (.int a9), some (.int b0), some (.int v6), some (.int 0), some (.int 0), none, none, none, none, none, none, none] [] s9 Q) ∧ (¬ v8 = v10 → ExM l E w (d + 1) MX10_two 264 [some (.ref w.1), some (.int a1), some (.int a2), some (.int a3), some (.int a4), some (.int a5), none, none, some (.int a8), some (.int a9), some (.int b0), some (.int v6), some (.int 1), some (.int 0), none, none, none, none, none, none, none] [] s9 Q))))))))))))))) ∧ (a6 = 2 → (EvM l E w d MX10_sizeAt [.ref w.1, .int a3] s (fun r s11 => ∃ v12 : Int32, r = some (.int v12) ∧ ((¬ a6 = 2 → ExM l E w (d + 1) MX10_two 264 [some (.ref w.1), some (.int a1), some (.int a2), some (.int a3), some (.int a4), some (.int a5), none, none, some (.int a8), some (.int a9), some (.int b0), some (.int v12), some (.int 0), some (.int 0), none, none, none, none, none, none, none] [] s11 Q) ∧ (a6 = 2 → ((¬ a7 = 2 → ExM l E w (d + 1) MX10_two 264 [some (.ref w.1), some (.int a1), some (.int a2), some (.int a3), some (.int a4), some (.int a5), none, none, some (.int a8), some (.int a9), some (.int b0), some (.int v12), some (.int 0), some (.int 0), none, none, none, none, none, none, none] [] s11 Q) ∧ (a7 = 2 → (EvM l E w d MX10_sizeAt [.ref w.1, .int a3] s11 (fun r s13 => ∃ v14 : Int32, r = some (.int v14) ∧ (EvM l E w d MX10_sizeAt [.ref w.1, .int a5] s13 (fun r s15 => ∃ v16 : Int32, r = some (.int v16) ∧ ((v14 = v16 → ExM l E w (d + 1) MX10_two 264 [some (.ref w.1), some (.int a1), some (.int a2), some (.int a3), some (.int a4), some (.int a5), none, none, some (.int a8), some (.int a9), some (.int b0), some (.int v12), some (.int 0), some (.int 0), none, none, none, none, none, none, none] [] s15 Q) ∧ (¬ v14 = v16 → ExM l E w (d + 1) MX10_two 264 [some (.ref w.1), some (.int a1), some (.int a2), some (.int a3), some (.int a4), some (.int a5), none, none, some (.int a8), some (.int a9), some (.int b0), some (.int v12), some (.int 1), some (.int 0), none, none, none, none, none, none, none] [] s15 Q))))))))))))))) : ExM l E w (d + 1) MX10_two 194 [some (.ref w.1), some (.int a1), some (.int a2), some (.int a3), some (.int a4), some (.int a5), some (.int a6), some (.int a7), some (.int a8), some (.int a9), none, none, none, none, none, none, none, none, none, none, none] [.int b0] s Q := by
  intro h0 h hW hF
  refine x_istore (lo' := [some (.ref w.1), some (.int a1), some (.int a2), some (.int a3), some (.int a4), some (.int a5), some (.int a6), some (.int a7), some (.int a8), some (.int a9), some (.int b0), none, none, none, none, none, none, none, none, none, none]) dX10_two_194 (Nat.le_of_ble_eq_true rfl) rfl ?_
  refine x_iload dX10_two_196 rfl ?_
  refine x_iconst (v := 2) dX10_two_198 rfl ?_
  refine x_icmp_ne (tgt := 210) dX10_two_199 rfl (fun c => ?_) (fun c => ?_)
  · have hT := hT.1 c
    refine x_iload dX10_two_210 rfl ?_
    refine x_iconst (v := 2) dX10_two_212 rfl ?_
    refine x_icmp_ne (tgt := 225) dX10_two_213 rfl (fun c => ?_) (fun c => ?_)
    · have hT := hT.1 c
      refine x_iconst (v := 1) dX10_two_225 rfl ?_
      refine x_istore (lo' := [some (.ref w.1), some (.int a1), some (.int a2), some (.int a3), some (.int a4), some (.int a5), some (.int a6), some (.int a7), some (.int a8), some (.int a9), some (.int b0), some (.int 1), none, none, none, none, none, none, none, none, none]) dX10_two_226 (Nat.le_of_ble_eq_true rfl) rfl ?_
      refine x_iload dX10_two_228 rfl ?_
      refine x_iconst (v := 2) dX10_two_230 rfl ?_
      refine x_icmp_ne (tgt := 258) dX10_two_231 rfl (fun c => ?_) (fun c => ?_)
      · have hT := hT.1 c
        refine x_iconst (v := 0) dX10_two_258 rfl ?_
        refine x_istore (lo' := [some (.ref w.1), some (.int a1), some (.int a2), some (.int a3), some (.int a4), some (.int a5), some (.int a6), some (.int a7), some (.int a8), some (.int a9), some (.int b0), some (.int 1), some (.int 0), none, none, none, none, none, none, none, none]) dX10_two_259 (Nat.le_of_ble_eq_true rfl) rfl ?_
        refine x_iconst (v := 0) dX10_two_261 rfl ?_
        refine x_istore (lo' := [some (.ref w.1), some (.int a1), some (.int a2), some (.int a3), some (.int a4), some (.int a5), some (.int a6), some (.int a7), some (.int a8), some (.int a9), some (.int b0), some (.int 1), some (.int 0), some (.int 0), none, none, none, none, none, none, none]) dX10_two_262 (Nat.le_of_ble_eq_true rfl) rfl ?_
        refine Ex.wkl (lo' := [some (.ref w.1), some (.int a1), some (.int a2), some (.int a3), some (.int a4), some (.int a5), none, none, some (.int a8), some (.int a9), some (.int b0), some (.int 1), some (.int 0), some (.int 0), none, none, none, none, none, none, none]) ⟨rfl, rfl, rfl, rfl, rfl, rfl, rfl, rfl, rfl, rfl, rfl, rfl, trivial⟩ ?_
        exact hT h0 h hW hF
      · have hT := hT.2 c
        refine x_iload dX10_two_234 rfl ?_
        refine x_iconst (v := 2) dX10_two_236 rfl ?_
        refine x_icmp_ne (tgt := 258) dX10_two_237 rfl (fun c => ?_) (fun c => ?_)
        · have hT := hT.1 c
          refine x_iconst (v := 0) dX10_two_258 rfl ?_
          refine x_istore (lo' := [some (.ref w.1), some (.int a1), some (.int a2), some (.int a3), some (.int a4), some (.int a5), some (.int a6), some (.int a7), some (.int a8), some (.int a9), some (.int b0), some (.int 1), some (.int 0), none, none, none, none, none, none, none, none]) dX10_two_259 (Nat.le_of_ble_eq_true rfl) rfl ?_
          refine x_iconst (v := 0) dX10_two_261 rfl ?_
          refine x_istore (lo' := [some (.ref w.1), some (.int a1), some (.int a2), some (.int a3), some (.int a4), some (.int a5), some (.int a6), some (.int a7), some (.int a8), some (.int a9), some (.int b0), some (.int 1), some (.int 0), some (.int 0), none, none, none, none, none, none, none]) dX10_two_262 (Nat.le_of_ble_eq_true rfl) rfl ?_
          refine Ex.wkl (lo' := [some (.ref w.1), some (.int a1), some (.int a2), some (.int a3), some (.int a4), some (.int a5), none, none, some (.int a8), some (.int a9), some (.int b0), some (.int 1), some (.int 0), some (.int 0), none, none, none, none, none, none, none]) ⟨rfl, rfl, rfl, rfl, rfl, rfl, rfl, rfl, rfl, rfl, rfl, rfl, trivial⟩ ?_
          exact hT h0 h hW hF
        · have hT := hT.2 c
          refine x_aload_n dX10_two_240 rfl rfl rfl ?_
          refine x_iload_n dX10_two_241 rfl rfl ?_
          refine m_inv (vs := [.int a3]) dX10_two_242 oX10_sizeAt q2735 q2733 qs107 rfl rfl (Nat.le_of_ble_eq_true rfl) rfl hW hF hT ?_
          rintro _ s1 ⟨v2, rfl, hT⟩ h hW hF
          refine x_aload_n dX10_two_245 rfl rfl rfl ?_
          refine x_iload dX10_two_246 rfl ?_
          refine m_inv (vs := [.int a5]) dX10_two_248 oX10_sizeAt q2735 q2733 qs107 rfl rfl (Nat.le_of_ble_eq_true rfl) rfl hW hF hT ?_
          rintro _ s3 ⟨v4, rfl, hT⟩ h hW hF
          refine x_icmp_eq (tgt := 258) dX10_two_251 rfl (fun c => ?_) (fun c => ?_)
          · have hT := hT.1 c
            refine x_iconst (v := 0) dX10_two_258 rfl ?_
            refine x_istore (lo' := [some (.ref w.1), some (.int a1), some (.int a2), some (.int a3), some (.int a4), some (.int a5), some (.int a6), some (.int a7), some (.int a8), some (.int a9), some (.int b0), some (.int 1), some (.int 0), none, none, none, none, none, none, none, none]) dX10_two_259 (Nat.le_of_ble_eq_true rfl) rfl ?_
            refine x_iconst (v := 0) dX10_two_261 rfl ?_
            refine x_istore (lo' := [some (.ref w.1), some (.int a1), some (.int a2), some (.int a3), some (.int a4), some (.int a5), some (.int a6), some (.int a7), some (.int a8), some (.int a9), some (.int b0), some (.int 1), some (.int 0), some (.int 0), none, none, none, none, none, none, none]) dX10_two_262 (Nat.le_of_ble_eq_true rfl) rfl ?_
            refine Ex.wkl (lo' := [some (.ref w.1), some (.int a1), some (.int a2), some (.int a3), some (.int a4), some (.int a5), none, none, some (.int a8), some (.int a9), some (.int b0), some (.int 1), some (.int 0), some (.int 0), none, none, none, none, none, none, none]) ⟨rfl, rfl, rfl, rfl, rfl, rfl, rfl, rfl, rfl, rfl, rfl, rfl, trivial⟩ ?_
            exact hT h0 h hW hF
          · have hT := hT.2 c
            refine x_iconst (v := 1) dX10_two_254 rfl ?_
            refine x_goto (tgt := 259) dX10_two_255 rfl ?_
            refine x_istore (lo' := [some (.ref w.1), some (.int a1), some (.int a2), some (.int a3), some (.int a4), some (.int a5), some (.int a6), some (.int a7), some (.int a8), some (.int a9), some (.int b0), some (.int 1), some (.int 1), none, none, none, none, none, none, none, none]) dX10_two_259 (Nat.le_of_ble_eq_true rfl) rfl ?_
            refine x_iconst (v := 0) dX10_two_261 rfl ?_
            refine x_istore (lo' := [some (.ref w.1), some (.int a1), some (.int a2), some (.int a3), some (.int a4), some (.int a5), some (.int a6), some (.int a7), some (.int a8), some (.int a9), some (.int b0), some (.int 1), some (.int 1), some (.int 0), none, none, none, none, none, none, none]) dX10_two_262 (Nat.le_of_ble_eq_true rfl) rfl ?_
            refine Ex.wkl (lo' := [some (.ref w.1), some (.int a1), some (.int a2), some (.int a3), some (.int a4), some (.int a5), none, none, some (.int a8), some (.int a9), some (.int b0), some (.int 1), some (.int 1), some (.int 0), none, none, none, none, none, none, none]) ⟨rfl, rfl, rfl, rfl, rfl, rfl, rfl, rfl, rfl, rfl, rfl, rfl, trivial⟩ ?_
            exact hT h0 h hW hF
    · have hT := hT.2 c
      refine x_aload_n dX10_two_216 rfl rfl rfl ?_
      refine x_iload dX10_two_217 rfl ?_
      refine m_inv (vs := [.int a5]) dX10_two_219 oX10_sizeAt q2735 q2733 qs107 rfl rfl (Nat.le_of_ble_eq_true rfl) rfl hW hF hT ?_
      rintro _ s5 ⟨v6, rfl, hT⟩ h hW hF
      refine x_goto (tgt := 226) dX10_two_222 rfl ?_
      refine x_istore (lo' := [some (.ref w.1), some (.int a1), some (.int a2), some (.int a3), some (.int a4), some (.int a5), some (.int a6), some (.int a7), some (.int a8), some (.int a9), some (.int b0), some (.int v6), none, none, none, none, none, none, none, none, none]) dX10_two_226 (Nat.le_of_ble_eq_true rfl) rfl ?_
      refine x_iload dX10_two_228 rfl ?_
      refine x_iconst (v := 2) dX10_two_230 rfl ?_
      refine x_icmp_ne (tgt := 258) dX10_two_231 rfl (fun c => ?_) (fun c => ?_)
      · have hT := hT.1 c
        refine x_iconst (v := 0) dX10_two_258 rfl ?_
        refine x_istore (lo' := [some (.ref w.1), some (.int a1), some (.int a2), some (.int a3), some (.int a4), some (.int a5), some (.int a6), some (.int a7), some (.int a8), some (.int a9), some (.int b0), some (.int v6), some (.int 0), none, none, none, none, none, none, none, none]) dX10_two_259 (Nat.le_of_ble_eq_true rfl) rfl ?_
        refine x_iconst (v := 0) dX10_two_261 rfl ?_
        refine x_istore (lo' := [some (.ref w.1), some (.int a1), some (.int a2), some (.int a3), some (.int a4), some (.int a5), some (.int a6), some (.int a7), some (.int a8), some (.int a9), some (.int b0), some (.int v6), some (.int 0), some (.int 0), none, none, none, none, none, none, none]) dX10_two_262 (Nat.le_of_ble_eq_true rfl) rfl ?_
        refine Ex.wkl (lo' := [some (.ref w.1), some (.int a1), some (.int a2), some (.int a3), some (.int a4), some (.int a5), none, none, some (.int a8), some (.int a9), some (.int b0), some (.int v6), some (.int 0), some (.int 0), none, none, none, none, none, none, none]) ⟨rfl, rfl, rfl, rfl, rfl, rfl, rfl, rfl, rfl, rfl, rfl, rfl, trivial⟩ ?_
        exact hT h0 h hW hF
      · have hT := hT.2 c
        refine x_iload dX10_two_234 rfl ?_
        refine x_iconst (v := 2) dX10_two_236 rfl ?_
        refine x_icmp_ne (tgt := 258) dX10_two_237 rfl (fun c => ?_) (fun c => ?_)
        · have hT := hT.1 c
          refine x_iconst (v := 0) dX10_two_258 rfl ?_
          refine x_istore (lo' := [some (.ref w.1), some (.int a1), some (.int a2), some (.int a3), some (.int a4), some (.int a5), some (.int a6), some (.int a7), some (.int a8), some (.int a9), some (.int b0), some (.int v6), some (.int 0), none, none, none, none, none, none, none, none]) dX10_two_259 (Nat.le_of_ble_eq_true rfl) rfl ?_
          refine x_iconst (v := 0) dX10_two_261 rfl ?_
          refine x_istore (lo' := [some (.ref w.1), some (.int a1), some (.int a2), some (.int a3), some (.int a4), some (.int a5), some (.int a6), some (.int a7), some (.int a8), some (.int a9), some (.int b0), some (.int v6), some (.int 0), some (.int 0), none, none, none, none, none, none, none]) dX10_two_262 (Nat.le_of_ble_eq_true rfl) rfl ?_
          refine Ex.wkl (lo' := [some (.ref w.1), some (.int a1), some (.int a2), some (.int a3), some (.int a4), some (.int a5), none, none, some (.int a8), some (.int a9), some (.int b0), some (.int v6), some (.int 0), some (.int 0), none, none, none, none, none, none, none]) ⟨rfl, rfl, rfl, rfl, rfl, rfl, rfl, rfl, rfl, rfl, rfl, rfl, trivial⟩ ?_
          exact hT h0 h hW hF
        · have hT := hT.2 c
          refine x_aload_n dX10_two_240 rfl rfl rfl ?_
          refine x_iload_n dX10_two_241 rfl rfl ?_
          refine m_inv (vs := [.int a3]) dX10_two_242 oX10_sizeAt q2735 q2733 qs107 rfl rfl (Nat.le_of_ble_eq_true rfl) rfl hW hF hT ?_
          rintro _ s7 ⟨v8, rfl, hT⟩ h hW hF
          refine x_aload_n dX10_two_245 rfl rfl rfl ?_
          refine x_iload dX10_two_246 rfl ?_
          refine m_inv (vs := [.int a5]) dX10_two_248 oX10_sizeAt q2735 q2733 qs107 rfl rfl (Nat.le_of_ble_eq_true rfl) rfl hW hF hT ?_
          rintro _ s9 ⟨v10, rfl, hT⟩ h hW hF
          refine x_icmp_eq (tgt := 258) dX10_two_251 rfl (fun c => ?_) (fun c => ?_)
          · have hT := hT.1 c
            refine x_iconst (v := 0) dX10_two_258 rfl ?_
            refine x_istore (lo' := [some (.ref w.1), some (.int a1), some (.int a2), some (.int a3), some (.int a4), some (.int a5), some (.int a6), some (.int a7), some (.int a8), some (.int a9), some (.int b0), some (.int v6), some (.int 0), none, none, none, none, none, none, none, none]) dX10_two_259 (Nat.le_of_ble_eq_true rfl) rfl ?_
            refine x_iconst (v := 0) dX10_two_261 rfl ?_
            refine x_istore (lo' := [some (.ref w.1), some (.int a1), some (.int a2), some (.int a3), some (.int a4), some (.int a5), some (.int a6), some (.int a7), some (.int a8), some (.int a9), some (.int b0), some (.int v6), some (.int 0), some (.int 0), none, none, none, none, none, none, none]) dX10_two_262 (Nat.le_of_ble_eq_true rfl) rfl ?_
            refine Ex.wkl (lo' := [some (.ref w.1), some (.int a1), some (.int a2), some (.int a3), some (.int a4), some (.int a5), none, none, some (.int a8), some (.int a9), some (.int b0), some (.int v6), some (.int 0), some (.int 0), none, none, none, none, none, none, none]) ⟨rfl, rfl, rfl, rfl, rfl, rfl, rfl, rfl, rfl, rfl, rfl, rfl, trivial⟩ ?_
            exact hT h0 h hW hF
          · have hT := hT.2 c
            refine x_iconst (v := 1) dX10_two_254 rfl ?_
            refine x_goto (tgt := 259) dX10_two_255 rfl ?_
            refine x_istore (lo' := [some (.ref w.1), some (.int a1), some (.int a2), some (.int a3), some (.int a4), some (.int a5), some (.int a6), some (.int a7), some (.int a8), some (.int a9), some (.int b0), some (.int v6), some (.int 1), none, none, none, none, none, none, none, none]) dX10_two_259 (Nat.le_of_ble_eq_true rfl) rfl ?_
            refine x_iconst (v := 0) dX10_two_261 rfl ?_
            refine x_istore (lo' := [some (.ref w.1), some (.int a1), some (.int a2), some (.int a3), some (.int a4), some (.int a5), some (.int a6), some (.int a7), some (.int a8), some (.int a9), some (.int b0), some (.int v6), some (.int 1), some (.int 0), none, none, none, none, none, none, none]) dX10_two_262 (Nat.le_of_ble_eq_true rfl) rfl ?_
            refine Ex.wkl (lo' := [some (.ref w.1), some (.int a1), some (.int a2), some (.int a3), some (.int a4), some (.int a5), none, none, some (.int a8), some (.int a9), some (.int b0), some (.int v6), some (.int 1), some (.int 0), none, none, none, none, none, none, none]) ⟨rfl, rfl, rfl, rfl, rfl, rfl, rfl, rfl, rfl, rfl, rfl, rfl, trivial⟩ ?_
            exact hT h0 h hW hF
  · have hT := hT.2 c
    refine x_aload_n dX10_two_202 rfl rfl rfl ?_
    refine x_iload_n dX10_two_203 rfl rfl ?_
    refine m_inv (vs := [.int a3]) dX10_two_204 oX10_sizeAt q2735 q2733 qs107 rfl rfl (Nat.le_of_ble_eq_true rfl) rfl hW hF hT ?_
    rintro _ s11 ⟨v12, rfl, hT⟩ h hW hF
    refine x_goto (tgt := 226) dX10_two_207 rfl ?_
    refine x_istore (lo' := [some (.ref w.1), some (.int a1), some (.int a2), some (.int a3), some (.int a4), some (.int a5), some (.int a6), some (.int a7), some (.int a8), some (.int a9), some (.int b0), some (.int v12), none, none, none, none, none, none, none, none, none]) dX10_two_226 (Nat.le_of_ble_eq_true rfl) rfl ?_
    refine x_iload dX10_two_228 rfl ?_
    refine x_iconst (v := 2) dX10_two_230 rfl ?_
    refine x_icmp_ne (tgt := 258) dX10_two_231 rfl (fun c => ?_) (fun c => ?_)
    · have hT := hT.1 c
      refine x_iconst (v := 0) dX10_two_258 rfl ?_
      refine x_istore (lo' := [some (.ref w.1), some (.int a1), some (.int a2), some (.int a3), some (.int a4), some (.int a5), some (.int a6), some (.int a7), some (.int a8), some (.int a9), some (.int b0), some (.int v12), some (.int 0), none, none, none, none, none, none, none, none]) dX10_two_259 (Nat.le_of_ble_eq_true rfl) rfl ?_
      refine x_iconst (v := 0) dX10_two_261 rfl ?_
      refine x_istore (lo' := [some (.ref w.1), some (.int a1), some (.int a2), some (.int a3), some (.int a4), some (.int a5), some (.int a6), some (.int a7), some (.int a8), some (.int a9), some (.int b0), some (.int v12), some (.int 0), some (.int 0), none, none, none, none, none, none, none]) dX10_two_262 (Nat.le_of_ble_eq_true rfl) rfl ?_
      refine Ex.wkl (lo' := [some (.ref w.1), some (.int a1), some (.int a2), some (.int a3), some (.int a4), some (.int a5), none, none, some (.int a8), some (.int a9), some (.int b0), some (.int v12), some (.int 0), some (.int 0), none, none, none, none, none, none, none]) ⟨rfl, rfl, rfl, rfl, rfl, rfl, rfl, rfl, rfl, rfl, rfl, rfl, trivial⟩ ?_
      exact hT h0 h hW hF
    · have hT := hT.2 c
      refine x_iload dX10_two_234 rfl ?_
      refine x_iconst (v := 2) dX10_two_236 rfl ?_
      refine x_icmp_ne (tgt := 258) dX10_two_237 rfl (fun c => ?_) (fun c => ?_)
      · have hT := hT.1 c
        refine x_iconst (v := 0) dX10_two_258 rfl ?_
        refine x_istore (lo' := [some (.ref w.1), some (.int a1), some (.int a2), some (.int a3), some (.int a4), some (.int a5), some (.int a6), some (.int a7), some (.int a8), some (.int a9), some (.int b0), some (.int v12), some (.int 0), none, none, none, none, none, none, none, none]) dX10_two_259 (Nat.le_of_ble_eq_true rfl) rfl ?_
        refine x_iconst (v := 0) dX10_two_261 rfl ?_
        refine x_istore (lo' := [some (.ref w.1), some (.int a1), some (.int a2), some (.int a3), some (.int a4), some (.int a5), some (.int a6), some (.int a7), some (.int a8), some (.int a9), some (.int b0), some (.int v12), some (.int 0), some (.int 0), none, none, none, none, none, none, none]) dX10_two_262 (Nat.le_of_ble_eq_true rfl) rfl ?_
        refine Ex.wkl (lo' := [some (.ref w.1), some (.int a1), some (.int a2), some (.int a3), some (.int a4), some (.int a5), none, none, some (.int a8), some (.int a9), some (.int b0), some (.int v12), some (.int 0), some (.int 0), none, none, none, none, none, none, none]) ⟨rfl, rfl, rfl, rfl, rfl, rfl, rfl, rfl, rfl, rfl, rfl, rfl, trivial⟩ ?_
        exact hT h0 h hW hF
      · have hT := hT.2 c
        refine x_aload_n dX10_two_240 rfl rfl rfl ?_
        refine x_iload_n dX10_two_241 rfl rfl ?_
        refine m_inv (vs := [.int a3]) dX10_two_242 oX10_sizeAt q2735 q2733 qs107 rfl rfl (Nat.le_of_ble_eq_true rfl) rfl hW hF hT ?_
        rintro _ s13 ⟨v14, rfl, hT⟩ h hW hF
        refine x_aload_n dX10_two_245 rfl rfl rfl ?_
        refine x_iload dX10_two_246 rfl ?_
        refine m_inv (vs := [.int a5]) dX10_two_248 oX10_sizeAt q2735 q2733 qs107 rfl rfl (Nat.le_of_ble_eq_true rfl) rfl hW hF hT ?_
        rintro _ s15 ⟨v16, rfl, hT⟩ h hW hF
        refine x_icmp_eq (tgt := 258) dX10_two_251 rfl (fun c => ?_) (fun c => ?_)
        · have hT := hT.1 c
          refine x_iconst (v := 0) dX10_two_258 rfl ?_
          refine x_istore (lo' := [some (.ref w.1), some (.int a1), some (.int a2), some (.int a3), some (.int a4), some (.int a5), some (.int a6), some (.int a7), some (.int a8), some (.int a9), some (.int b0), some (.int v12), some (.int 0), none, none, none, none, none, none, none, none]) dX10_two_259 (Nat.le_of_ble_eq_true rfl) rfl ?_
          refine x_iconst (v := 0) dX10_two_261 rfl ?_
          refine x_istore (lo' := [some (.ref w.1), some (.int a1), some (.int a2), some (.int a3), some (.int a4), some (.int a5), some (.int a6), some (.int a7), some (.int a8), some (.int a9), some (.int b0), some (.int v12), some (.int 0), some (.int 0), none, none, none, none, none, none, none]) dX10_two_262 (Nat.le_of_ble_eq_true rfl) rfl ?_
          refine Ex.wkl (lo' := [some (.ref w.1), some (.int a1), some (.int a2), some (.int a3), some (.int a4), some (.int a5), none, none, some (.int a8), some (.int a9), some (.int b0), some (.int v12), some (.int 0), some (.int 0), none, none, none, none, none, none, none]) ⟨rfl, rfl, rfl, rfl, rfl, rfl, rfl, rfl, rfl, rfl, rfl, rfl, trivial⟩ ?_
          exact hT h0 h hW hF
        · have hT := hT.2 c
          refine x_iconst (v := 1) dX10_two_254 rfl ?_
          refine x_goto (tgt := 259) dX10_two_255 rfl ?_
          refine x_istore (lo' := [some (.ref w.1), some (.int a1), some (.int a2), some (.int a3), some (.int a4), some (.int a5), some (.int a6), some (.int a7), some (.int a8), some (.int a9), some (.int b0), some (.int v12), some (.int 1), none, none, none, none, none, none, none, none]) dX10_two_259 (Nat.le_of_ble_eq_true rfl) rfl ?_
          refine x_iconst (v := 0) dX10_two_261 rfl ?_
          refine x_istore (lo' := [some (.ref w.1), some (.int a1), some (.int a2), some (.int a3), some (.int a4), some (.int a5), some (.int a6), some (.int a7), some (.int a8), some (.int a9), some (.int b0), some (.int v12), some (.int 1), some (.int 0), none, none, none, none, none, none, none]) dX10_two_262 (Nat.le_of_ble_eq_true rfl) rfl ?_
          refine Ex.wkl (lo' := [some (.ref w.1), some (.int a1), some (.int a2), some (.int a3), some (.int a4), some (.int a5), none, none, some (.int a8), some (.int a9), some (.int b0), some (.int v12), some (.int 1), some (.int 0), none, none, none, none, none, none, none]) ⟨rfl, rfl, rfl, rfl, rfl, rfl, rfl, rfl, rfl, rfl, rfl, rfl, trivial⟩ ?_
          exact hT h0 h hW hF
set_option maxHeartbeats 16000000 in
theorem vX10_two_264 {l : Launch} {E : EN} {w : MO} {d : Nat} {s : MS} {Q : Option Value → MS → Prop} {a1 : Int32} {a2 : Int32} {a3 : Int32} {a4 : Int32} {a5 : Int32} {a8 : Int32} {a9 : Int32} {a10 : Int32} {a11 : Int32} {a12 : Int32} {a13 : Int32} (hT : ((a11 ≤ a13 → ((a12 = 0 → ExM l E w (d + 1) MX10_two 354 [some (.ref w.1), some (.int a1), some (.int a2), some (.int a3), some (.int a4), some (.int a5), none, none, some (.int a8), some (.int a9), some (.int a10), some (.int a11), none, some (.int 0), none, none, none, none, none, none, none] [] s Q) ∧ (¬ a12 = 0 → (EvM l E w d MX10_trouble [.ref w.1, .int 4, .int (s.1 127)] s (fun r s1 => r = none ∧ Q none s1))))) ∧ (¬ a11 ≤ a13 → ((¬ a12 = 0 → ((a12 = 0 → ExM l E w (d + 1) MX10_two 354 [some (.ref w.1), some (.int a1), some (.int a2), some (.int a3), some (.int a4), some (.int a5), none, none, some (.int a8), some (.int a9), some (.int a10), some (.int a11), none, some (.int 0), none, none, none, none, none, none, none] [] s Q) ∧ (¬ a12 = 0 → (EvM l E w d MX10_trouble [.ref w.1, .int 4, .int (s.1 127)] s (fun r s2 => r = none ∧ Q none s2))))) ∧ (a12 = 0 → (EvM l E w d MX10_beside [.ref w.1, .int a2, .int a3, .int a13] s (fun r s3 => ∃ v4 : Int32, r = some (.int v4) ∧ (EvM l E w d MX10_beside [.ref w.1, .int a4, .int a5, .int a13] s3 (fun r s5 => ∃ v6 : Int32, r = some (.int v6) ∧ ((v4 < 0 → ExM l E w (d + 1) MX10_two 264 [some (.ref w.1), some (.int a1), some (.int a2), some (.int a3), some (.int a4), some (.int a5), none, none, some (.int a8), some (.int a9), some (.int a10), some (.int a11), some (.int 0), some (.int (a13 + 1)), none, none, none, none, none, none, none] [] s5 Q) ∧ (¬ v4 < 0 → ((v6 < 0 → ExM l E w (d + 1) MX10_two 264 [some (.ref w.1), some (.int a1), some (.int a2), some (.int a3), some (.int a4), some (.int a5), none, none, some (.int a8), some (.int a9), some (.int a10), some (.int a11), some (.int 0), some (.int (a13 + 1)), none, none, none, none, none, none, none] [] s5 Q) ∧ (¬ v6 < 0 → (EvM l E w d MX10_sizeAt [.ref w.1, .int v4] s5 (fun r s7 => ∃ v8 : Int32, r = some (.int v8) ∧ (EvM l E w d MX10_sizeAt [.ref w.1, .int v6] s7 (fun r s9 => ∃ v10 : Int32, r = some (.int v10) ∧ ((v8 = v10 → ExM l E w (d + 1) MX10_two 264 [some (.ref w.1), some (.int a1), some (.int a2), some (.int a3), some (.int a4), some (.int a5), none, none, some (.int a8), some (.int a9), some (.int a10), some (.int a11), some (.int 0), some (.int (a13 + 1)), none, none, none, none, none, none, none] [] s9 Q) ∧ (¬ v8 = v10 → ExM l E w (d + 1) MX10_two 264 [some (.ref w.1), some (.int a1), some (.int a2), some (.int a3), some (.int a4), some (.int a5), none, none, some (.int a8), some (.int a9), some (.int a10), some (.int a11), some (.int 1), some (.int (a13 + 1)), none, none, none, none, none, none, none] [] s9 Q))))))))))))))))))) : ExM l E w (d + 1) MX10_two 264 [some (.ref w.1), some (.int a1), some (.int a2), some (.int a3), some (.int a4), some (.int a5), none, none, some (.int a8), some (.int a9), some (.int a10), some (.int a11), some (.int a12), some (.int a13), none, none, none, none, none, none, none] [] s Q := by
  intro h0 h hW hF
  refine x_iload dX10_two_264 rfl ?_
  refine x_iload dX10_two_266 rfl ?_
  refine x_icmp_ge (tgt := 336) dX10_two_268 rfl (fun c => ?_) (fun c => ?_)
  · have hT := hT.1 c
    refine x_iload dX10_two_336 rfl ?_
    refine x_if_eq (tgt := 351) dX10_two_338 rfl (fun c => ?_) (fun c => ?_)
    · have hT := hT.1 c
      refine x_iconst (v := 0) dX10_two_351 rfl ?_
      refine x_istore (lo' := [some (.ref w.1), some (.int a1), some (.int a2), some (.int a3), some (.int a4), some (.int a5), none, none, some (.int a8), some (.int a9), some (.int a10), some (.int a11), some (.int a12), some (.int 0), none, none, none, none, none, none, none]) dX10_two_352 (Nat.le_of_ble_eq_true rfl) rfl ?_
      refine Ex.wkl (lo' := [some (.ref w.1), some (.int a1), some (.int a2), some (.int a3), some (.int a4), some (.int a5), none, none, some (.int a8), some (.int a9), some (.int a10), some (.int a11), none, some (.int 0), none, none, none, none, none, none, none]) ⟨rfl, rfl, rfl, rfl, rfl, rfl, rfl, rfl, rfl, rfl, rfl, trivial⟩ ?_
      exact hT h0 h hW hF
    · have hT := hT.2 c
      refine x_aload_n dX10_two_341 rfl rfl rfl ?_
      refine x_iconst (v := 4) dX10_two_342 rfl ?_
      refine x_aload_n dX10_two_343 rfl rfl rfl ?_
      refine m_geti (v := (s.1 127)) dX10_two_344 f_TallySlateModel_507 (by decide) rfl hW rfl ?_
      refine m_inv (vs := [.int 4, .int (s.1 127)]) dX10_two_347 oX10_trouble q2696 q2694 qs98 rfl rfl (Nat.le_of_ble_eq_true rfl) rfl hW hF hT ?_
      rintro _ s1 ⟨rfl, hT⟩ h hW hF
      exact x_vret dX10_two_350 rfl ⟨_, _, rfl, hW, hF, hT⟩
  · have hT := hT.2 c
    refine x_iload dX10_two_271 rfl ?_
    refine x_if_ne (tgt := 336) dX10_two_273 rfl (fun c => ?_) (fun c => ?_)
    · have hT := hT.1 c
      refine x_iload dX10_two_336 rfl ?_
      refine x_if_eq (tgt := 351) dX10_two_338 rfl (fun c => ?_) (fun c => ?_)
      · have hT := hT.1 c
        refine x_iconst (v := 0) dX10_two_351 rfl ?_
        refine x_istore (lo' := [some (.ref w.1), some (.int a1), some (.int a2), some (.int a3), some (.int a4), some (.int a5), none, none, some (.int a8), some (.int a9), some (.int a10), some (.int a11), some (.int a12), some (.int 0), none, none, none, none, none, none, none]) dX10_two_352 (Nat.le_of_ble_eq_true rfl) rfl ?_
        refine Ex.wkl (lo' := [some (.ref w.1), some (.int a1), some (.int a2), some (.int a3), some (.int a4), some (.int a5), none, none, some (.int a8), some (.int a9), some (.int a10), some (.int a11), none, some (.int 0), none, none, none, none, none, none, none]) ⟨rfl, rfl, rfl, rfl, rfl, rfl, rfl, rfl, rfl, rfl, rfl, trivial⟩ ?_
        exact hT h0 h hW hF
      · have hT := hT.2 c
        refine x_aload_n dX10_two_341 rfl rfl rfl ?_
        refine x_iconst (v := 4) dX10_two_342 rfl ?_
        refine x_aload_n dX10_two_343 rfl rfl rfl ?_
        refine m_geti (v := (s.1 127)) dX10_two_344 f_TallySlateModel_507 (by decide) rfl hW rfl ?_
        refine m_inv (vs := [.int 4, .int (s.1 127)]) dX10_two_347 oX10_trouble q2696 q2694 qs98 rfl rfl (Nat.le_of_ble_eq_true rfl) rfl hW hF hT ?_
        rintro _ s2 ⟨rfl, hT⟩ h hW hF
        exact x_vret dX10_two_350 rfl ⟨_, _, rfl, hW, hF, hT⟩
    · have hT := hT.2 c
      refine x_aload_n dX10_two_276 rfl rfl rfl ?_
      refine x_iload_n dX10_two_277 rfl rfl ?_
      refine x_iload_n dX10_two_278 rfl rfl ?_
      refine x_iload dX10_two_279 rfl ?_
      refine m_inv (vs := [.int a2, .int a3, .int a13]) dX10_two_281 oX10_beside q2786 q2784 qs119 rfl rfl (Nat.le_of_ble_eq_true rfl) rfl hW hF hT ?_
      rintro _ s3 ⟨v4, rfl, hT⟩ h hW hF
      refine x_istore (lo' := [some (.ref w.1), some (.int a1), some (.int a2), some (.int a3), some (.int a4), some (.int a5), none, none, some (.int a8), some (.int a9), some (.int a10), some (.int a11), some (.int a12), some (.int a13), some (.int v4), none, none, none, none, none, none]) dX10_two_284 (Nat.le_of_ble_eq_true rfl) rfl ?_
      refine x_aload_n dX10_two_286 rfl rfl rfl ?_
      refine x_iload dX10_two_287 rfl ?_
      refine x_iload dX10_two_289 rfl ?_
      refine x_iload dX10_two_291 rfl ?_
      refine m_inv (vs := [.int a4, .int a5, .int a13]) dX10_two_293 oX10_beside q2786 q2784 qs119 rfl rfl (Nat.le_of_ble_eq_true rfl) rfl hW hF hT ?_
      rintro _ s5 ⟨v6, rfl, hT⟩ h hW hF
      refine x_istore (lo' := [some (.ref w.1), some (.int a1), some (.int a2), some (.int a3), some (.int a4), some (.int a5), none, none, some (.int a8), some (.int a9), some (.int a10), some (.int a11), some (.int a12), some (.int a13), some (.int v4), some (.int v6), none, none, none, none, none]) dX10_two_296 (Nat.le_of_ble_eq_true rfl) rfl ?_
      refine x_iload dX10_two_298 rfl ?_
      refine x_if_lt (tgt := 327) dX10_two_300 rfl (fun c => ?_) (fun c => ?_)
      · have hT := hT.1 c
        refine x_iconst (v := 0) dX10_two_327 rfl ?_
        refine x_istore (lo' := [some (.ref w.1), some (.int a1), some (.int a2), some (.int a3), some (.int a4), some (.int a5), none, none, some (.int a8), some (.int a9), some (.int a10), some (.int a11), some (.int 0), some (.int a13), some (.int v4), some (.int v6), none, none, none, none, none]) dX10_two_328 (Nat.le_of_ble_eq_true rfl) rfl ?_
        refine x_iinc (lo' := [some (.ref w.1), some (.int a1), some (.int a2), some (.int a3), some (.int a4), some (.int a5), none, none, some (.int a8), some (.int a9), some (.int a10), some (.int a11), some (.int 0), some (.int (a13 + 1)), some (.int v4), some (.int v6), none, none, none, none, none]) dX10_two_330 rfl (show _ = (a13 + 1) from rfl) rfl ?_
        refine x_goto (tgt := 264) dX10_two_333 rfl ?_
        refine Ex.wkl (lo' := [some (.ref w.1), some (.int a1), some (.int a2), some (.int a3), some (.int a4), some (.int a5), none, none, some (.int a8), some (.int a9), some (.int a10), some (.int a11), some (.int 0), some (.int (a13 + 1)), none, none, none, none, none, none, none]) ⟨rfl, rfl, rfl, rfl, rfl, rfl, rfl, rfl, rfl, rfl, rfl, rfl, trivial⟩ ?_
        exact hT h0 h hW hF
      · have hT := hT.2 c
        refine x_iload dX10_two_303 rfl ?_
        refine x_if_lt (tgt := 327) dX10_two_305 rfl (fun c => ?_) (fun c => ?_)
        · have hT := hT.1 c
          refine x_iconst (v := 0) dX10_two_327 rfl ?_
          refine x_istore (lo' := [some (.ref w.1), some (.int a1), some (.int a2), some (.int a3), some (.int a4), some (.int a5), none, none, some (.int a8), some (.int a9), some (.int a10), some (.int a11), some (.int 0), some (.int a13), some (.int v4), some (.int v6), none, none, none, none, none]) dX10_two_328 (Nat.le_of_ble_eq_true rfl) rfl ?_
          refine x_iinc (lo' := [some (.ref w.1), some (.int a1), some (.int a2), some (.int a3), some (.int a4), some (.int a5), none, none, some (.int a8), some (.int a9), some (.int a10), some (.int a11), some (.int 0), some (.int (a13 + 1)), some (.int v4), some (.int v6), none, none, none, none, none]) dX10_two_330 rfl (show _ = (a13 + 1) from rfl) rfl ?_
          refine x_goto (tgt := 264) dX10_two_333 rfl ?_
          refine Ex.wkl (lo' := [some (.ref w.1), some (.int a1), some (.int a2), some (.int a3), some (.int a4), some (.int a5), none, none, some (.int a8), some (.int a9), some (.int a10), some (.int a11), some (.int 0), some (.int (a13 + 1)), none, none, none, none, none, none, none]) ⟨rfl, rfl, rfl, rfl, rfl, rfl, rfl, rfl, rfl, rfl, rfl, rfl, trivial⟩ ?_
          exact hT h0 h hW hF
        · have hT := hT.2 c
          refine x_aload_n dX10_two_308 rfl rfl rfl ?_
          refine x_iload dX10_two_309 rfl ?_
          refine m_inv (vs := [.int v4]) dX10_two_311 oX10_sizeAt q2735 q2733 qs107 rfl rfl (Nat.le_of_ble_eq_true rfl) rfl hW hF hT ?_
          rintro _ s7 ⟨v8, rfl, hT⟩ h hW hF
          refine x_aload_n dX10_two_314 rfl rfl rfl ?_
          refine x_iload dX10_two_315 rfl ?_
          refine m_inv (vs := [.int v6]) dX10_two_317 oX10_sizeAt q2735 q2733 qs107 rfl rfl (Nat.le_of_ble_eq_true rfl) rfl hW hF hT ?_
          rintro _ s9 ⟨v10, rfl, hT⟩ h hW hF
          refine x_icmp_eq (tgt := 327) dX10_two_320 rfl (fun c => ?_) (fun c => ?_)
          · have hT := hT.1 c
            refine x_iconst (v := 0) dX10_two_327 rfl ?_
            refine x_istore (lo' := [some (.ref w.1), some (.int a1), some (.int a2), some (.int a3), some (.int a4), some (.int a5), none, none, some (.int a8), some (.int a9), some (.int a10), some (.int a11), some (.int 0), some (.int a13), some (.int v4), some (.int v6), none, none, none, none, none]) dX10_two_328 (Nat.le_of_ble_eq_true rfl) rfl ?_
            refine x_iinc (lo' := [some (.ref w.1), some (.int a1), some (.int a2), some (.int a3), some (.int a4), some (.int a5), none, none, some (.int a8), some (.int a9), some (.int a10), some (.int a11), some (.int 0), some (.int (a13 + 1)), some (.int v4), some (.int v6), none, none, none, none, none]) dX10_two_330 rfl (show _ = (a13 + 1) from rfl) rfl ?_
            refine x_goto (tgt := 264) dX10_two_333 rfl ?_
            refine Ex.wkl (lo' := [some (.ref w.1), some (.int a1), some (.int a2), some (.int a3), some (.int a4), some (.int a5), none, none, some (.int a8), some (.int a9), some (.int a10), some (.int a11), some (.int 0), some (.int (a13 + 1)), none, none, none, none, none, none, none]) ⟨rfl, rfl, rfl, rfl, rfl, rfl, rfl, rfl, rfl, rfl, rfl, rfl, trivial⟩ ?_
            exact hT h0 h hW hF
          · have hT := hT.2 c
            refine x_iconst (v := 1) dX10_two_323 rfl ?_
            refine x_goto (tgt := 328) dX10_two_324 rfl ?_
            refine x_istore (lo' := [some (.ref w.1), some (.int a1), some (.int a2), some (.int a3), some (.int a4), some (.int a5), none, none, some (.int a8), some (.int a9), some (.int a10), some (.int a11), some (.int 1), some (.int a13), some (.int v4), some (.int v6), none, none, none, none, none]) dX10_two_328 (Nat.le_of_ble_eq_true rfl) rfl ?_
            refine x_iinc (lo' := [some (.ref w.1), some (.int a1), some (.int a2), some (.int a3), some (.int a4), some (.int a5), none, none, some (.int a8), some (.int a9), some (.int a10), some (.int a11), some (.int 1), some (.int (a13 + 1)), some (.int v4), some (.int v6), none, none, none, none, none]) dX10_two_330 rfl (show _ = (a13 + 1) from rfl) rfl ?_
            refine x_goto (tgt := 264) dX10_two_333 rfl ?_
            refine Ex.wkl (lo' := [some (.ref w.1), some (.int a1), some (.int a2), some (.int a3), some (.int a4), some (.int a5), none, none, some (.int a8), some (.int a9), some (.int a10), some (.int a11), some (.int 1), some (.int (a13 + 1)), none, none, none, none, none, none, none]) ⟨rfl, rfl, rfl, rfl, rfl, rfl, rfl, rfl, rfl, rfl, rfl, rfl, trivial⟩ ?_
            exact hT h0 h hW hF
set_option maxHeartbeats 16000000 in
theorem vX10_two_354 {l : Launch} {E : EN} {w : MO} {d : Nat} {s : MS} {Q : Option Value → MS → Prop} {a1 : Int32} {a2 : Int32} {a3 : Int32} {a4 : Int32} {a5 : Int32} {a8 : Int32} {a9 : Int32} {a10 : Int32} {a11 : Int32} {a13 : Int32} (hT : ((a11 ≤ a13 → ((a10 = 0 → (EvM l E w d MX10_builds [.ref w.1, .int 1, .int a8] s (fun r s1 => r = none ∧ Q none s1))) ∧ (¬ a10 = 0 → (EvM l E w d MX10_builds [.ref w.1, .int 2, .int a8] s (fun r s2 => r = none ∧ Q none s2))))) ∧ (¬ a11 ≤ a13 → (EvM l E w d MX10_beside [.ref w.1, .int a2, .int a3, .int a13] s (fun r s3 => ∃ v4 : Int32, r = some (.int v4) ∧ (EvM l E w d MX10_beside [.ref w.1, .int a4, .int a5, .int a13] s3 (fun r s5 => ∃ v6 : Int32, r = some (.int v6) ∧ ((v4 < 0 → (EvM l E w d MX10_sizeAt [.ref w.1, .int v6] s5 (fun r s7 => ∃ v8 : Int32, r = some (.int v8) ∧ (∀ y9 : Int32, y9 = (s7.1 108) → ExM l E w (d + 1) MX10_two 414 [some (.ref w.1), some (.int a1), some (.int a2), some (.int a3), some (.int a4), some (.int a5), none, none, some (.int a8), some (.int a9), some (.int a10), some (.int a11), none, some (.int a13), some (.int v4), some (.int v6), some (.int v8), some (.int y9), some (.int 0), none, none] [] s7 Q)))) ∧ (¬ v4 < 0 → (EvM l E w d MX10_sizeAt [.ref w.1, .int v4] s5 (fun r s10 => ∃ v11 : Int32, r = some (.int v11) ∧ (∀ y12 : Int32, y12 = (s10.1 108) → ExM l E w (d + 1) MX10_two 414 [some (.ref w.1), some (.int a1), some (.int a2), some (.int a3), some (.int a4), some (.int a5), none, none, some (.int a8), some (.int a9), some (.int a10), some (.int a11), none, some (.int a13), some (.int v4), some (.int v6), some (.int v11), some (.int y12), some (.int 0), none, none] [] s10 Q)))))))))))) : ExM l E w (d + 1) MX10_two 354 [some (.ref w.1), some (.int a1), some (.int a2), some (.int a3), some (.int a4), some (.int a5), none, none, some (.int a8), some (.int a9), some (.int a10), some (.int a11), none, some (.int a13), none, none, none, none, none, none, none] [] s Q := by
  intro h0 h hW hF
  refine x_iload dX10_two_354 rfl ?_
  refine x_iload dX10_two_356 rfl ?_
  refine x_icmp_ge (tgt := 525) dX10_two_358 rfl (fun c => ?_) (fun c => ?_)
  · have hT := hT.1 c
    refine x_aload_n dX10_two_525 rfl rfl rfl ?_
    refine x_iload dX10_two_526 rfl ?_
    refine x_if_eq (tgt := 535) dX10_two_528 rfl (fun c => ?_) (fun c => ?_)
    · have hT := hT.1 c
      refine x_iconst (v := 1) dX10_two_535 rfl ?_
      refine x_iload dX10_two_536 rfl ?_
      refine m_inv (vs := [.int 1, .int a8]) dX10_two_538 oX10_builds q2739 q2737 qs108 rfl rfl (Nat.le_of_ble_eq_true rfl) rfl hW hF hT ?_
      rintro _ s1 ⟨rfl, hT⟩ h hW hF
      exact x_vret dX10_two_541 rfl ⟨_, _, rfl, hW, hF, hT⟩
    · have hT := hT.2 c
      refine x_iconst (v := 2) dX10_two_531 rfl ?_
      refine x_goto (tgt := 536) dX10_two_532 rfl ?_
      refine x_iload dX10_two_536 rfl ?_
      refine m_inv (vs := [.int 2, .int a8]) dX10_two_538 oX10_builds q2739 q2737 qs108 rfl rfl (Nat.le_of_ble_eq_true rfl) rfl hW hF hT ?_
      rintro _ s2 ⟨rfl, hT⟩ h hW hF
      exact x_vret dX10_two_541 rfl ⟨_, _, rfl, hW, hF, hT⟩
  · have hT := hT.2 c
    refine x_aload_n dX10_two_361 rfl rfl rfl ?_
    refine x_iload_n dX10_two_362 rfl rfl ?_
    refine x_iload_n dX10_two_363 rfl rfl ?_
    refine x_iload dX10_two_364 rfl ?_
    refine m_inv (vs := [.int a2, .int a3, .int a13]) dX10_two_366 oX10_beside q2786 q2784 qs119 rfl rfl (Nat.le_of_ble_eq_true rfl) rfl hW hF hT ?_
    rintro _ s3 ⟨v4, rfl, hT⟩ h hW hF
    refine x_istore (lo' := [some (.ref w.1), some (.int a1), some (.int a2), some (.int a3), some (.int a4), some (.int a5), none, none, some (.int a8), some (.int a9), some (.int a10), some (.int a11), none, some (.int a13), some (.int v4), none, none, none, none, none, none]) dX10_two_369 (Nat.le_of_ble_eq_true rfl) rfl ?_
    refine x_aload_n dX10_two_371 rfl rfl rfl ?_
    refine x_iload dX10_two_372 rfl ?_
    refine x_iload dX10_two_374 rfl ?_
    refine x_iload dX10_two_376 rfl ?_
    refine m_inv (vs := [.int a4, .int a5, .int a13]) dX10_two_378 oX10_beside q2786 q2784 qs119 rfl rfl (Nat.le_of_ble_eq_true rfl) rfl hW hF hT ?_
    rintro _ s5 ⟨v6, rfl, hT⟩ h hW hF
    refine x_istore (lo' := [some (.ref w.1), some (.int a1), some (.int a2), some (.int a3), some (.int a4), some (.int a5), none, none, some (.int a8), some (.int a9), some (.int a10), some (.int a11), none, some (.int a13), some (.int v4), some (.int v6), none, none, none, none, none]) dX10_two_381 (Nat.le_of_ble_eq_true rfl) rfl ?_
    refine x_iload dX10_two_383 rfl ?_
    refine x_if_lt (tgt := 397) dX10_two_385 rfl (fun c => ?_) (fun c => ?_)
    · have hT := hT.1 c
      refine x_aload_n dX10_two_397 rfl rfl rfl ?_
      refine x_iload dX10_two_398 rfl ?_
      refine m_inv (vs := [.int v6]) dX10_two_400 oX10_sizeAt q2735 q2733 qs107 rfl rfl (Nat.le_of_ble_eq_true rfl) rfl hW hF hT ?_
      rintro _ s7 ⟨v8, rfl, hT⟩ h hW hF
      refine x_istore (lo' := [some (.ref w.1), some (.int a1), some (.int a2), some (.int a3), some (.int a4), some (.int a5), none, none, some (.int a8), some (.int a9), some (.int a10), some (.int a11), none, some (.int a13), some (.int v4), some (.int v6), some (.int v8), none, none, none, none]) dX10_two_403 (Nat.le_of_ble_eq_true rfl) rfl ?_
      refine x_aload_n dX10_two_405 rfl rfl rfl ?_
      refine m_geti (v := (s7.1 108)) dX10_two_406 f_TallySlateModel_461 (by decide) rfl hW rfl ?_
      obtain ⟨y9, ey9⟩ : ∃ z : Int32, z = (s7.1 108) := ⟨_, rfl⟩
      have hT := hT y9 ey9
      refine x_istore (lo' := [some (.ref w.1), some (.int a1), some (.int a2), some (.int a3), some (.int a4), some (.int a5), none, none, some (.int a8), some (.int a9), some (.int a10), some (.int a11), none, some (.int a13), some (.int v4), some (.int v6), some (.int v8), some (.int y9), none, none, none]) dX10_two_409 (Nat.le_of_ble_eq_true rfl) (by rw [ey9]; rfl) ?_
      refine x_iconst (v := 0) dX10_two_411 rfl ?_
      refine x_istore (lo' := [some (.ref w.1), some (.int a1), some (.int a2), some (.int a3), some (.int a4), some (.int a5), none, none, some (.int a8), some (.int a9), some (.int a10), some (.int a11), none, some (.int a13), some (.int v4), some (.int v6), some (.int v8), some (.int y9), some (.int 0), none, none]) dX10_two_412 (Nat.le_of_ble_eq_true rfl) rfl ?_
      exact hT h0 h hW hF
    · have hT := hT.2 c
      refine x_aload_n dX10_two_388 rfl rfl rfl ?_
      refine x_iload dX10_two_389 rfl ?_
      refine m_inv (vs := [.int v4]) dX10_two_391 oX10_sizeAt q2735 q2733 qs107 rfl rfl (Nat.le_of_ble_eq_true rfl) rfl hW hF hT ?_
      rintro _ s10 ⟨v11, rfl, hT⟩ h hW hF
      refine x_goto (tgt := 403) dX10_two_394 rfl ?_
      refine x_istore (lo' := [some (.ref w.1), some (.int a1), some (.int a2), some (.int a3), some (.int a4), some (.int a5), none, none, some (.int a8), some (.int a9), some (.int a10), some (.int a11), none, some (.int a13), some (.int v4), some (.int v6), some (.int v11), none, none, none, none]) dX10_two_403 (Nat.le_of_ble_eq_true rfl) rfl ?_
      refine x_aload_n dX10_two_405 rfl rfl rfl ?_
      refine m_geti (v := (s10.1 108)) dX10_two_406 f_TallySlateModel_461 (by decide) rfl hW rfl ?_
      obtain ⟨y12, ey12⟩ : ∃ z : Int32, z = (s10.1 108) := ⟨_, rfl⟩
      have hT := hT y12 ey12
      refine x_istore (lo' := [some (.ref w.1), some (.int a1), some (.int a2), some (.int a3), some (.int a4), some (.int a5), none, none, some (.int a8), some (.int a9), some (.int a10), some (.int a11), none, some (.int a13), some (.int v4), some (.int v6), some (.int v11), some (.int y12), none, none, none]) dX10_two_409 (Nat.le_of_ble_eq_true rfl) (by rw [ey12]; rfl) ?_
      refine x_iconst (v := 0) dX10_two_411 rfl ?_
      refine x_istore (lo' := [some (.ref w.1), some (.int a1), some (.int a2), some (.int a3), some (.int a4), some (.int a5), none, none, some (.int a8), some (.int a9), some (.int a10), some (.int a11), none, some (.int a13), some (.int v4), some (.int v6), some (.int v11), some (.int y12), some (.int 0), none, none]) dX10_two_412 (Nat.le_of_ble_eq_true rfl) rfl ?_
      exact hT h0 h hW hF
set_option maxHeartbeats 16000000 in
theorem vX10_two_414 {l : Launch} {E : EN} {w : MO} {d : Nat} {s : MS} {Q : Option Value → MS → Prop} {a1 : Int32} {a2 : Int32} {a3 : Int32} {a4 : Int32} {a5 : Int32} {a8 : Int32} {a9 : Int32} {a10 : Int32} {a11 : Int32} {a13 : Int32} {a14 : Int32} {a15 : Int32} {a16 : Int32} {a17 : Int32} {a18 : Int32} (hT : ((a16 ≤ a18 → ((a10 = 0 → ExM l E w (d + 1) MX10_two 354 [some (.ref w.1), some (.int a1), some (.int a2), some (.int a3), some (.int a4), some (.int a5), none, none, some (.int a8), some (.int a9), some (.int a10), some (.int a11), none, some (.int (a13 + 1)), none, none, none, none, none, none, none] [] s Q) ∧ (¬ a10 = 0 → (EvM l E w d MX10_rowOf [.ref w.1, .int a17] s (fun r s1 => r = none ∧ ExM l E w (d + 1) MX10_two 354 [some (.ref w.1), some (.int a1), some (.int a2), some (.int a3), some (.int a4), some (.int a5), none, none, some (.int a8), some (.int a9), some (.int a10), some (.int a11), none, some (.int (a13 + 1)), none, none, none, none, none, none, none] [] s1 Q))))) ∧ (¬ a16 ≤ a18 → ((a14 < 0 → ((a15 < 0 → ((a9 = 0 → (EvM l E w d MX10_act [.int a1, .int a3, .int a5] s (fun r s2 => ∃ v3 : Int32, r = some (.int v3) ∧ (EvM l E w d MX10_push [.ref w.1, .int 0, .int v3] s2 (fun r s4 => r = none ∧ ExM l E w (d + 1) MX10_two 414 [some (.ref w.1), some (.int a1), some (.int a2), some (.int a3), some (.int a4), some (.int a5), none, none, some (.int a8), some (.int a9), some (.int a10), some (.int a11), none, some (.int a13), some (.int a14), some (.int a15), some (.int a16), some (.int a17), some (.int (a18 + 1)), none, none] [] s4 Q))))) ∧ (¬ a9 = 0 → ((¬ a5 = 0 → (EvM l E w d MX10_act [.int a1, .int a3, .int a5] s (fun r s5 => ∃ v6 : Int32, r = some (.int v6) ∧ (EvM l E w d MX10_push [.ref w.1, .int 0, .int v6] s5 (fun r s7 => r = none ∧ ExM l E w (d + 1) MX10_two 414 [some (.ref w.1), some (.int a1), some (.int a2), some (.int a3), some (.int a4), some (.int a5), none, none, some (.int a8), some (.int a9), some (.int a10), some (.int a11), none, some (.int a13), some (.int a14), some (.int a15), some (.int a16), some (.int a17), some (.int (a18 + 1)), none, none] [] s7 Q))))) ∧ (a5 = 0 → (EvM l E w d MX10_trouble [.ref w.1, .int 6, .int (s.1 127)] s (fun r s8 => r = none ∧ Q none s8))))))) ∧ (¬ a15 < 0 → (inB ((a15 + 2) + a18) 166300 ∧ (∀ y9 : Int32, y9 = (s.2.2.1 104 ((a15 + 2) + a18).toNatClampNeg) → ((a9 = 0 → (EvM l E w d MX10_act [.int a1, .int a3, .int y9] s (fun r s10 => ∃ v11 : Int32, r = some (.int v11) ∧ (EvM l E w d MX10_push [.ref w.1, .int 0, .int v11] s10 (fun r s12 => r = none ∧ ExM l E w (d + 1) MX10_two 414 [some (.ref w.1), some (.int a1), some (.int a2), some (.int a3), some (.int a4), some (.int a5), none, none, some (.int a8), some (.int a9), some (.int a10), some (.int a11), none, some (.int a13), some (.int a14), some (.int a15), some (.int a16), some (.int a17), some (.int (a18 + 1)), none, none] [] s12 Q))))) ∧ (¬ a9 = 0 → ((¬ y9 = 0 → (EvM l E w d MX10_act [.int a1, .int a3, .int y9] s (fun r s13 => ∃ v14 : Int32, r = some (.int v14) ∧ (EvM l E w d MX10_push [.ref w.1, .int 0, .int v14] s13 (fun r s15 => r = none ∧ ExM l E w (d + 1) MX10_two 414 [some (.ref w.1), some (.int a1), some (.int a2), some (.int a3), some (.int a4), some (.int a5), none, none, some (.int a8), some (.int a9), some (.int a10), some (.int a11), none, some (.int a13), some (.int a14), some (.int a15), some (.int a16), some (.int a17), some (.int (a18 + 1)), none, none] [] s15 Q))))) ∧ (y9 = 0 → (EvM l E w d MX10_trouble [.ref w.1, .int 6, .int (s.1 127)] s (fun r s16 => r = none ∧ Q none s16))))))))))) ∧ (¬ a14 < 0 → (inB ((a14 + 2) + a18) 166300 ∧ (∀ y17 : Int32, y17 = (s.2.2.1 104 ((a14 + 2) + a18).toNatClampNeg) → ((a15 < 0 → ((a9 = 0 → (EvM l E w d MX10_act [.int a1, .int y17, .int a5] s (fun r s18 => ∃ v19 : Int32, r = some (.int v19) ∧ (EvM l E w d MX10_push [.ref w.1, .int 0, .int v19] s18 (fun r s20 => r = none ∧ ExM l E w (d + 1) MX10_two 414 [some (.ref w.1), some (.int a1), some (.int a2), some (.int a3), some (.int a4), some (.int a5), none, none, some (.int a8), some (.int a9), some (.int a10), some (.int a11), none, some (.int a13), some (.int a14), some (.int a15), some (.int a16), some (.int a17), some (.int (a18 + 1)), none, none] [] s20 Q))))) ∧ (¬ a9 = 0 → ((¬ a5 = 0 → (EvM l E w d MX10_act [.int a1, .int y17, .int a5] s (fun r s21 => ∃ v22 : Int32, r = some (.int v22) ∧ (EvM l E w d MX10_push [.ref w.1, .int 0, .int v22] s21 (fun r s23 => r = none ∧ ExM l E w (d + 1) MX10_two 414 [some (.ref w.1), some (.int a1), some (.int a2), some (.int a3), some (.int a4), some (.int a5), none, none, some (.int a8), some (.int a9), some (.int a10), some (.int a11), none, some (.int a13), some (.int a14), some (.int a15), some (.int a16), some (.int a17), some (.int (a18 + 1)), none, none] [] s23 Q))))) ∧ (a5 = 0 → (EvM l E w d MX10_trouble [.ref w.1, .int 6, .int (s.1 127)] s (fun r s24 => r = none ∧ Q none s24))))))) ∧ (¬ a15 < 0 → (inB ((a15 + 2) + a18) 166300 ∧ (∀ y25 : Int32, y25 = (s.2.2.1 104 ((a15 + 2) + a18).toNatClampNeg) → ((a9 = 0 → (EvM l E w d MX10_act [.int a1, .int y17, .int y25] s (fun r s26 => ∃ v27 : Int32, r = some (.int v27) ∧ (EvM l E w d MX10_push [.ref w.1, .int 0, .int v27] s26 (fun r s28 => r = none ∧ ExM l E w (d + 1) MX10_two 414 [some (.ref w.1), some (.int a1), some (.int a2), some (.int a3), some (.int a4), some (.int a5), none, none, some (.int a8), some (.int a9), some (.int a10), some (.int a11), none, some (.int a13), some (.int a14), some (.int a15), some (.int a16), some (.int a17), some (.int (a18 + 1)), none, none] [] s28 Q))))) ∧ (¬ a9 = 0 → ((¬ y25 = 0 → (EvM l E w d MX10_act [.int a1, .int y17, .int y25] s (fun r s29 => ∃ v30 : Int32, r = some (.int v30) ∧ (EvM l E w d MX10_push [.ref w.1, .int 0, .int v30] s29 (fun r s31 => r = none ∧ ExM l E w (d + 1) MX10_two 414 [some (.ref w.1), some (.int a1), some (.int a2), some (.int a3), some (.int a4), some (.int a5), none, none, some (.int a8), some (.int a9), some (.int a10), some (.int a11), none, some (.int a13), some (.int a14), some (.int a15), some (.int a16), some (.int a17), some (.int (a18 + 1)), none, none] [] s31 Q))))) ∧ (y25 = 0 → (EvM l E w d MX10_trouble [.ref w.1, .int 6, .int (s.1 127)] s (fun r s32 => r = none ∧ Q none s32))))))))))))))))) : ExM l E w (d + 1) MX10_two 414 [some (.ref w.1), some (.int a1), some (.int a2), some (.int a3), some (.int a4), some (.int a5), none, none, some (.int a8), some (.int a9), some (.int a10), some (.int a11), none, some (.int a13), some (.int a14), some (.int a15), some (.int a16), some (.int a17), some (.int a18), none, none] [] s Q := by
  intro h0 h hW hF
  refine x_iload dX10_two_414 rfl ?_
  refine x_iload dX10_two_416 rfl ?_
  refine x_icmp_ge (tgt := 508) dX10_two_418 rfl (fun c => ?_) (fun c => ?_)
  · have hT := hT.1 c
    refine x_iload dX10_two_508 rfl ?_
    refine x_if_eq (tgt := 519) dX10_two_510 rfl (fun c => ?_) (fun c => ?_)
    · have hT := hT.1 c
      refine x_iinc (lo' := [some (.ref w.1), some (.int a1), some (.int a2), some (.int a3), some (.int a4), some (.int a5), none, none, some (.int a8), some (.int a9), some (.int a10), some (.int a11), none, some (.int (a13 + 1)), some (.int a14), some (.int a15), some (.int a16), some (.int a17), some (.int a18), none, none]) dX10_two_519 rfl (show _ = (a13 + 1) from rfl) rfl ?_
      refine x_goto (tgt := 354) dX10_two_522 rfl ?_
      refine Ex.wkl (lo' := [some (.ref w.1), some (.int a1), some (.int a2), some (.int a3), some (.int a4), some (.int a5), none, none, some (.int a8), some (.int a9), some (.int a10), some (.int a11), none, some (.int (a13 + 1)), none, none, none, none, none, none, none]) ⟨rfl, rfl, rfl, rfl, rfl, rfl, rfl, rfl, rfl, rfl, rfl, trivial⟩ ?_
      exact hT h0 h hW hF
    · have hT := hT.2 c
      refine x_aload_n dX10_two_513 rfl rfl rfl ?_
      refine x_iload dX10_two_514 rfl ?_
      refine m_inv (vs := [.int a17]) dX10_two_516 oX10_rowOf q2775 q2773 qs117 rfl rfl (Nat.le_of_ble_eq_true rfl) rfl hW hF hT ?_
      rintro _ s1 ⟨rfl, hT⟩ h hW hF
      refine x_iinc (lo' := [some (.ref w.1), some (.int a1), some (.int a2), some (.int a3), some (.int a4), some (.int a5), none, none, some (.int a8), some (.int a9), some (.int a10), some (.int a11), none, some (.int (a13 + 1)), some (.int a14), some (.int a15), some (.int a16), some (.int a17), some (.int a18), none, none]) dX10_two_519 rfl (show _ = (a13 + 1) from rfl) rfl ?_
      refine x_goto (tgt := 354) dX10_two_522 rfl ?_
      refine Ex.wkl (lo' := [some (.ref w.1), some (.int a1), some (.int a2), some (.int a3), some (.int a4), some (.int a5), none, none, some (.int a8), some (.int a9), some (.int a10), some (.int a11), none, some (.int (a13 + 1)), none, none, none, none, none, none, none]) ⟨rfl, rfl, rfl, rfl, rfl, rfl, rfl, rfl, rfl, rfl, rfl, trivial⟩ ?_
      exact hT h0 h hW hF
  · have hT := hT.2 c
    refine x_iload dX10_two_421 rfl ?_
    refine x_if_lt (tgt := 441) dX10_two_423 rfl (fun c => ?_) (fun c => ?_)
    · have hT := hT.1 c
      refine x_iload_n dX10_two_441 rfl rfl ?_
      refine x_istore (lo' := [some (.ref w.1), some (.int a1), some (.int a2), some (.int a3), some (.int a4), some (.int a5), none, none, some (.int a8), some (.int a9), some (.int a10), some (.int a11), none, some (.int a13), some (.int a14), some (.int a15), some (.int a16), some (.int a17), some (.int a18), some (.int a3), none]) dX10_two_442 (Nat.le_of_ble_eq_true rfl) rfl ?_
      refine x_iload dX10_two_444 rfl ?_
      refine x_if_lt (tgt := 464) dX10_two_446 rfl (fun c => ?_) (fun c => ?_)
      · have hT := hT.1 c
        refine x_iload dX10_two_464 rfl ?_
        refine x_istore (lo' := [some (.ref w.1), some (.int a1), some (.int a2), some (.int a3), some (.int a4), some (.int a5), none, none, some (.int a8), some (.int a9), some (.int a10), some (.int a11), none, some (.int a13), some (.int a14), some (.int a15), some (.int a16), some (.int a17), some (.int a18), some (.int a3), some (.int a5)]) dX10_two_466 (Nat.le_of_ble_eq_true rfl) rfl ?_
        refine x_iload dX10_two_468 rfl ?_
        refine x_if_eq (tgt := 489) dX10_two_470 rfl (fun c => ?_) (fun c => ?_)
        · have hT := hT.1 c
          refine x_aload_n dX10_two_489 rfl rfl rfl ?_
          refine x_iconst (v := 0) dX10_two_490 rfl ?_
          refine x_iload_n dX10_two_491 rfl rfl ?_
          refine x_iload dX10_two_492 rfl ?_
          refine x_iload dX10_two_494 rfl ?_
          refine m_invS (vs := [.int a1, .int a3, .int a5]) dX10_two_496 oX10_act q2782 q2781 rfl rfl (Nat.le_of_ble_eq_true rfl) rfl hW hF hT ?_
          rintro _ s2 ⟨v3, rfl, hT⟩ h hW hF
          refine m_inv (vs := [.int 0, .int v3]) dX10_two_499 oX10_push q2708 q2706 qs101 rfl rfl (Nat.le_of_ble_eq_true rfl) rfl hW hF hT ?_
          rintro _ s4 ⟨rfl, hT⟩ h hW hF
          refine x_iinc (lo' := [some (.ref w.1), some (.int a1), some (.int a2), some (.int a3), some (.int a4), some (.int a5), none, none, some (.int a8), some (.int a9), some (.int a10), some (.int a11), none, some (.int a13), some (.int a14), some (.int a15), some (.int a16), some (.int a17), some (.int (a18 + 1)), some (.int a3), some (.int a5)]) dX10_two_502 rfl (show _ = (a18 + 1) from rfl) rfl ?_
          refine x_goto (tgt := 414) dX10_two_505 rfl ?_
          refine Ex.wkl (lo' := [some (.ref w.1), some (.int a1), some (.int a2), some (.int a3), some (.int a4), some (.int a5), none, none, some (.int a8), some (.int a9), some (.int a10), some (.int a11), none, some (.int a13), some (.int a14), some (.int a15), some (.int a16), some (.int a17), some (.int (a18 + 1)), none, none]) ⟨rfl, rfl, rfl, rfl, rfl, rfl, rfl, rfl, rfl, rfl, rfl, rfl, rfl, rfl, rfl, rfl, trivial⟩ ?_
          exact hT h0 h hW hF
        · have hT := hT.2 c
          refine x_iload dX10_two_473 rfl ?_
          refine x_if_ne (tgt := 489) dX10_two_475 rfl (fun c => ?_) (fun c => ?_)
          · have hT := hT.1 c
            refine x_aload_n dX10_two_489 rfl rfl rfl ?_
            refine x_iconst (v := 0) dX10_two_490 rfl ?_
            refine x_iload_n dX10_two_491 rfl rfl ?_
            refine x_iload dX10_two_492 rfl ?_
            refine x_iload dX10_two_494 rfl ?_
            refine m_invS (vs := [.int a1, .int a3, .int a5]) dX10_two_496 oX10_act q2782 q2781 rfl rfl (Nat.le_of_ble_eq_true rfl) rfl hW hF hT ?_
            rintro _ s5 ⟨v6, rfl, hT⟩ h hW hF
            refine m_inv (vs := [.int 0, .int v6]) dX10_two_499 oX10_push q2708 q2706 qs101 rfl rfl (Nat.le_of_ble_eq_true rfl) rfl hW hF hT ?_
            rintro _ s7 ⟨rfl, hT⟩ h hW hF
            refine x_iinc (lo' := [some (.ref w.1), some (.int a1), some (.int a2), some (.int a3), some (.int a4), some (.int a5), none, none, some (.int a8), some (.int a9), some (.int a10), some (.int a11), none, some (.int a13), some (.int a14), some (.int a15), some (.int a16), some (.int a17), some (.int (a18 + 1)), some (.int a3), some (.int a5)]) dX10_two_502 rfl (show _ = (a18 + 1) from rfl) rfl ?_
            refine x_goto (tgt := 414) dX10_two_505 rfl ?_
            refine Ex.wkl (lo' := [some (.ref w.1), some (.int a1), some (.int a2), some (.int a3), some (.int a4), some (.int a5), none, none, some (.int a8), some (.int a9), some (.int a10), some (.int a11), none, some (.int a13), some (.int a14), some (.int a15), some (.int a16), some (.int a17), some (.int (a18 + 1)), none, none]) ⟨rfl, rfl, rfl, rfl, rfl, rfl, rfl, rfl, rfl, rfl, rfl, rfl, rfl, rfl, rfl, rfl, trivial⟩ ?_
            exact hT h0 h hW hF
          · have hT := hT.2 c
            refine x_aload_n dX10_two_478 rfl rfl rfl ?_
            refine x_bipush (v := 6) dX10_two_479 rfl ?_
            refine x_aload_n dX10_two_481 rfl rfl rfl ?_
            refine m_geti (v := (s.1 127)) dX10_two_482 f_TallySlateModel_507 (by decide) rfl hW rfl ?_
            refine m_inv (vs := [.int 6, .int (s.1 127)]) dX10_two_485 oX10_trouble q2696 q2694 qs98 rfl rfl (Nat.le_of_ble_eq_true rfl) rfl hW hF hT ?_
            rintro _ s8 ⟨rfl, hT⟩ h hW hF
            exact x_vret dX10_two_488 rfl ⟨_, _, rfl, hW, hF, hT⟩
      · have hT := hT.2 c
        refine x_aload_n dX10_two_449 rfl rfl rfl ?_
        refine m_geta dX10_two_450 f_TallySlateModel_183 (by decide) rfl hW ?_
        refine x_iload dX10_two_453 rfl ?_
        refine x_iconst (v := 2) dX10_two_455 rfl ?_
        refine x_iadd dX10_two_456 ?_
        refine x_iload dX10_two_457 rfl ?_
        refine x_iadd dX10_two_459 ?_
        obtain ⟨hb, hT⟩ := hT
        refine m_iald (v := (s.2.2.1 104 ((a15 + 2) + a18).toNatClampNeg)) dX10_two_460 rfl hb hW rfl ?_
        refine x_goto (tgt := 466) dX10_two_461 rfl ?_
        obtain ⟨y9, ey9⟩ : ∃ z : Int32, z = (s.2.2.1 104 ((a15 + 2) + a18).toNatClampNeg) := ⟨_, rfl⟩
        have hT := hT y9 ey9
        refine x_istore (lo' := [some (.ref w.1), some (.int a1), some (.int a2), some (.int a3), some (.int a4), some (.int a5), none, none, some (.int a8), some (.int a9), some (.int a10), some (.int a11), none, some (.int a13), some (.int a14), some (.int a15), some (.int a16), some (.int a17), some (.int a18), some (.int a3), some (.int y9)]) dX10_two_466 (Nat.le_of_ble_eq_true rfl) (by rw [ey9]; rfl) ?_
        refine x_iload dX10_two_468 rfl ?_
        refine x_if_eq (tgt := 489) dX10_two_470 rfl (fun c => ?_) (fun c => ?_)
        · have hT := hT.1 c
          refine x_aload_n dX10_two_489 rfl rfl rfl ?_
          refine x_iconst (v := 0) dX10_two_490 rfl ?_
          refine x_iload_n dX10_two_491 rfl rfl ?_
          refine x_iload dX10_two_492 rfl ?_
          refine x_iload dX10_two_494 rfl ?_
          refine m_invS (vs := [.int a1, .int a3, .int y9]) dX10_two_496 oX10_act q2782 q2781 rfl rfl (Nat.le_of_ble_eq_true rfl) rfl hW hF hT ?_
          rintro _ s10 ⟨v11, rfl, hT⟩ h hW hF
          refine m_inv (vs := [.int 0, .int v11]) dX10_two_499 oX10_push q2708 q2706 qs101 rfl rfl (Nat.le_of_ble_eq_true rfl) rfl hW hF hT ?_
          rintro _ s12 ⟨rfl, hT⟩ h hW hF
          refine x_iinc (lo' := [some (.ref w.1), some (.int a1), some (.int a2), some (.int a3), some (.int a4), some (.int a5), none, none, some (.int a8), some (.int a9), some (.int a10), some (.int a11), none, some (.int a13), some (.int a14), some (.int a15), some (.int a16), some (.int a17), some (.int (a18 + 1)), some (.int a3), some (.int y9)]) dX10_two_502 rfl (show _ = (a18 + 1) from rfl) rfl ?_
          refine x_goto (tgt := 414) dX10_two_505 rfl ?_
          refine Ex.wkl (lo' := [some (.ref w.1), some (.int a1), some (.int a2), some (.int a3), some (.int a4), some (.int a5), none, none, some (.int a8), some (.int a9), some (.int a10), some (.int a11), none, some (.int a13), some (.int a14), some (.int a15), some (.int a16), some (.int a17), some (.int (a18 + 1)), none, none]) ⟨rfl, rfl, rfl, rfl, rfl, rfl, rfl, rfl, rfl, rfl, rfl, rfl, rfl, rfl, rfl, rfl, trivial⟩ ?_
          exact hT h0 h hW hF
        · have hT := hT.2 c
          refine x_iload dX10_two_473 rfl ?_
          refine x_if_ne (tgt := 489) dX10_two_475 rfl (fun c => ?_) (fun c => ?_)
          · have hT := hT.1 c
            refine x_aload_n dX10_two_489 rfl rfl rfl ?_
            refine x_iconst (v := 0) dX10_two_490 rfl ?_
            refine x_iload_n dX10_two_491 rfl rfl ?_
            refine x_iload dX10_two_492 rfl ?_
            refine x_iload dX10_two_494 rfl ?_
            refine m_invS (vs := [.int a1, .int a3, .int y9]) dX10_two_496 oX10_act q2782 q2781 rfl rfl (Nat.le_of_ble_eq_true rfl) rfl hW hF hT ?_
            rintro _ s13 ⟨v14, rfl, hT⟩ h hW hF
            refine m_inv (vs := [.int 0, .int v14]) dX10_two_499 oX10_push q2708 q2706 qs101 rfl rfl (Nat.le_of_ble_eq_true rfl) rfl hW hF hT ?_
            rintro _ s15 ⟨rfl, hT⟩ h hW hF
            refine x_iinc (lo' := [some (.ref w.1), some (.int a1), some (.int a2), some (.int a3), some (.int a4), some (.int a5), none, none, some (.int a8), some (.int a9), some (.int a10), some (.int a11), none, some (.int a13), some (.int a14), some (.int a15), some (.int a16), some (.int a17), some (.int (a18 + 1)), some (.int a3), some (.int y9)]) dX10_two_502 rfl (show _ = (a18 + 1) from rfl) rfl ?_
            refine x_goto (tgt := 414) dX10_two_505 rfl ?_
            refine Ex.wkl (lo' := [some (.ref w.1), some (.int a1), some (.int a2), some (.int a3), some (.int a4), some (.int a5), none, none, some (.int a8), some (.int a9), some (.int a10), some (.int a11), none, some (.int a13), some (.int a14), some (.int a15), some (.int a16), some (.int a17), some (.int (a18 + 1)), none, none]) ⟨rfl, rfl, rfl, rfl, rfl, rfl, rfl, rfl, rfl, rfl, rfl, rfl, rfl, rfl, rfl, rfl, trivial⟩ ?_
            exact hT h0 h hW hF
          · have hT := hT.2 c
            refine x_aload_n dX10_two_478 rfl rfl rfl ?_
            refine x_bipush (v := 6) dX10_two_479 rfl ?_
            refine x_aload_n dX10_two_481 rfl rfl rfl ?_
            refine m_geti (v := (s.1 127)) dX10_two_482 f_TallySlateModel_507 (by decide) rfl hW rfl ?_
            refine m_inv (vs := [.int 6, .int (s.1 127)]) dX10_two_485 oX10_trouble q2696 q2694 qs98 rfl rfl (Nat.le_of_ble_eq_true rfl) rfl hW hF hT ?_
            rintro _ s16 ⟨rfl, hT⟩ h hW hF
            exact x_vret dX10_two_488 rfl ⟨_, _, rfl, hW, hF, hT⟩
    · have hT := hT.2 c
      refine x_aload_n dX10_two_426 rfl rfl rfl ?_
      refine m_geta dX10_two_427 f_TallySlateModel_183 (by decide) rfl hW ?_
      refine x_iload dX10_two_430 rfl ?_
      refine x_iconst (v := 2) dX10_two_432 rfl ?_
      refine x_iadd dX10_two_433 ?_
      refine x_iload dX10_two_434 rfl ?_
      refine x_iadd dX10_two_436 ?_
      obtain ⟨hb, hT⟩ := hT
      refine m_iald (v := (s.2.2.1 104 ((a14 + 2) + a18).toNatClampNeg)) dX10_two_437 rfl hb hW rfl ?_
      refine x_goto (tgt := 442) dX10_two_438 rfl ?_
      obtain ⟨y17, ey17⟩ : ∃ z : Int32, z = (s.2.2.1 104 ((a14 + 2) + a18).toNatClampNeg) := ⟨_, rfl⟩
      have hT := hT y17 ey17
      refine x_istore (lo' := [some (.ref w.1), some (.int a1), some (.int a2), some (.int a3), some (.int a4), some (.int a5), none, none, some (.int a8), some (.int a9), some (.int a10), some (.int a11), none, some (.int a13), some (.int a14), some (.int a15), some (.int a16), some (.int a17), some (.int a18), some (.int y17), none]) dX10_two_442 (Nat.le_of_ble_eq_true rfl) (by rw [ey17]; rfl) ?_
      refine x_iload dX10_two_444 rfl ?_
      refine x_if_lt (tgt := 464) dX10_two_446 rfl (fun c => ?_) (fun c => ?_)
      · have hT := hT.1 c
        refine x_iload dX10_two_464 rfl ?_
        refine x_istore (lo' := [some (.ref w.1), some (.int a1), some (.int a2), some (.int a3), some (.int a4), some (.int a5), none, none, some (.int a8), some (.int a9), some (.int a10), some (.int a11), none, some (.int a13), some (.int a14), some (.int a15), some (.int a16), some (.int a17), some (.int a18), some (.int y17), some (.int a5)]) dX10_two_466 (Nat.le_of_ble_eq_true rfl) rfl ?_
        refine x_iload dX10_two_468 rfl ?_
        refine x_if_eq (tgt := 489) dX10_two_470 rfl (fun c => ?_) (fun c => ?_)
        · have hT := hT.1 c
          refine x_aload_n dX10_two_489 rfl rfl rfl ?_
          refine x_iconst (v := 0) dX10_two_490 rfl ?_
          refine x_iload_n dX10_two_491 rfl rfl ?_
          refine x_iload dX10_two_492 rfl ?_
          refine x_iload dX10_two_494 rfl ?_
          refine m_invS (vs := [.int a1, .int y17, .int a5]) dX10_two_496 oX10_act q2782 q2781 rfl rfl (Nat.le_of_ble_eq_true rfl) rfl hW hF hT ?_
          rintro _ s18 ⟨v19, rfl, hT⟩ h hW hF
          refine m_inv (vs := [.int 0, .int v19]) dX10_two_499 oX10_push q2708 q2706 qs101 rfl rfl (Nat.le_of_ble_eq_true rfl) rfl hW hF hT ?_
          rintro _ s20 ⟨rfl, hT⟩ h hW hF
          refine x_iinc (lo' := [some (.ref w.1), some (.int a1), some (.int a2), some (.int a3), some (.int a4), some (.int a5), none, none, some (.int a8), some (.int a9), some (.int a10), some (.int a11), none, some (.int a13), some (.int a14), some (.int a15), some (.int a16), some (.int a17), some (.int (a18 + 1)), some (.int y17), some (.int a5)]) dX10_two_502 rfl (show _ = (a18 + 1) from rfl) rfl ?_
          refine x_goto (tgt := 414) dX10_two_505 rfl ?_
          refine Ex.wkl (lo' := [some (.ref w.1), some (.int a1), some (.int a2), some (.int a3), some (.int a4), some (.int a5), none, none, some (.int a8), some (.int a9), some (.int a10), some (.int a11), none, some (.int a13), some (.int a14), some (.int a15), some (.int a16), some (.int a17), some (.int (a18 + 1)), none, none]) ⟨rfl, rfl, rfl, rfl, rfl, rfl, rfl, rfl, rfl, rfl, rfl, rfl, rfl, rfl, rfl, rfl, trivial⟩ ?_
          exact hT h0 h hW hF
        · have hT := hT.2 c
          refine x_iload dX10_two_473 rfl ?_
          refine x_if_ne (tgt := 489) dX10_two_475 rfl (fun c => ?_) (fun c => ?_)
          · have hT := hT.1 c
            refine x_aload_n dX10_two_489 rfl rfl rfl ?_
            refine x_iconst (v := 0) dX10_two_490 rfl ?_
            refine x_iload_n dX10_two_491 rfl rfl ?_
            refine x_iload dX10_two_492 rfl ?_
            refine x_iload dX10_two_494 rfl ?_
            refine m_invS (vs := [.int a1, .int y17, .int a5]) dX10_two_496 oX10_act q2782 q2781 rfl rfl (Nat.le_of_ble_eq_true rfl) rfl hW hF hT ?_
            rintro _ s21 ⟨v22, rfl, hT⟩ h hW hF
            refine m_inv (vs := [.int 0, .int v22]) dX10_two_499 oX10_push q2708 q2706 qs101 rfl rfl (Nat.le_of_ble_eq_true rfl) rfl hW hF hT ?_
            rintro _ s23 ⟨rfl, hT⟩ h hW hF
            refine x_iinc (lo' := [some (.ref w.1), some (.int a1), some (.int a2), some (.int a3), some (.int a4), some (.int a5), none, none, some (.int a8), some (.int a9), some (.int a10), some (.int a11), none, some (.int a13), some (.int a14), some (.int a15), some (.int a16), some (.int a17), some (.int (a18 + 1)), some (.int y17), some (.int a5)]) dX10_two_502 rfl (show _ = (a18 + 1) from rfl) rfl ?_
            refine x_goto (tgt := 414) dX10_two_505 rfl ?_
            refine Ex.wkl (lo' := [some (.ref w.1), some (.int a1), some (.int a2), some (.int a3), some (.int a4), some (.int a5), none, none, some (.int a8), some (.int a9), some (.int a10), some (.int a11), none, some (.int a13), some (.int a14), some (.int a15), some (.int a16), some (.int a17), some (.int (a18 + 1)), none, none]) ⟨rfl, rfl, rfl, rfl, rfl, rfl, rfl, rfl, rfl, rfl, rfl, rfl, rfl, rfl, rfl, rfl, trivial⟩ ?_
            exact hT h0 h hW hF
          · have hT := hT.2 c
            refine x_aload_n dX10_two_478 rfl rfl rfl ?_
            refine x_bipush (v := 6) dX10_two_479 rfl ?_
            refine x_aload_n dX10_two_481 rfl rfl rfl ?_
            refine m_geti (v := (s.1 127)) dX10_two_482 f_TallySlateModel_507 (by decide) rfl hW rfl ?_
            refine m_inv (vs := [.int 6, .int (s.1 127)]) dX10_two_485 oX10_trouble q2696 q2694 qs98 rfl rfl (Nat.le_of_ble_eq_true rfl) rfl hW hF hT ?_
            rintro _ s24 ⟨rfl, hT⟩ h hW hF
            exact x_vret dX10_two_488 rfl ⟨_, _, rfl, hW, hF, hT⟩
      · have hT := hT.2 c
        refine x_aload_n dX10_two_449 rfl rfl rfl ?_
        refine m_geta dX10_two_450 f_TallySlateModel_183 (by decide) rfl hW ?_
        refine x_iload dX10_two_453 rfl ?_
        refine x_iconst (v := 2) dX10_two_455 rfl ?_
        refine x_iadd dX10_two_456 ?_
        refine x_iload dX10_two_457 rfl ?_
        refine x_iadd dX10_two_459 ?_
        obtain ⟨hb, hT⟩ := hT
        refine m_iald (v := (s.2.2.1 104 ((a15 + 2) + a18).toNatClampNeg)) dX10_two_460 rfl hb hW rfl ?_
        refine x_goto (tgt := 466) dX10_two_461 rfl ?_
        obtain ⟨y25, ey25⟩ : ∃ z : Int32, z = (s.2.2.1 104 ((a15 + 2) + a18).toNatClampNeg) := ⟨_, rfl⟩
        have hT := hT y25 ey25
        refine x_istore (lo' := [some (.ref w.1), some (.int a1), some (.int a2), some (.int a3), some (.int a4), some (.int a5), none, none, some (.int a8), some (.int a9), some (.int a10), some (.int a11), none, some (.int a13), some (.int a14), some (.int a15), some (.int a16), some (.int a17), some (.int a18), some (.int y17), some (.int y25)]) dX10_two_466 (Nat.le_of_ble_eq_true rfl) (by rw [ey25]; rfl) ?_
        refine x_iload dX10_two_468 rfl ?_
        refine x_if_eq (tgt := 489) dX10_two_470 rfl (fun c => ?_) (fun c => ?_)
        · have hT := hT.1 c
          refine x_aload_n dX10_two_489 rfl rfl rfl ?_
          refine x_iconst (v := 0) dX10_two_490 rfl ?_
          refine x_iload_n dX10_two_491 rfl rfl ?_
          refine x_iload dX10_two_492 rfl ?_
          refine x_iload dX10_two_494 rfl ?_
          refine m_invS (vs := [.int a1, .int y17, .int y25]) dX10_two_496 oX10_act q2782 q2781 rfl rfl (Nat.le_of_ble_eq_true rfl) rfl hW hF hT ?_
          rintro _ s26 ⟨v27, rfl, hT⟩ h hW hF
          refine m_inv (vs := [.int 0, .int v27]) dX10_two_499 oX10_push q2708 q2706 qs101 rfl rfl (Nat.le_of_ble_eq_true rfl) rfl hW hF hT ?_
          rintro _ s28 ⟨rfl, hT⟩ h hW hF
          refine x_iinc (lo' := [some (.ref w.1), some (.int a1), some (.int a2), some (.int a3), some (.int a4), some (.int a5), none, none, some (.int a8), some (.int a9), some (.int a10), some (.int a11), none, some (.int a13), some (.int a14), some (.int a15), some (.int a16), some (.int a17), some (.int (a18 + 1)), some (.int y17), some (.int y25)]) dX10_two_502 rfl (show _ = (a18 + 1) from rfl) rfl ?_
          refine x_goto (tgt := 414) dX10_two_505 rfl ?_
          refine Ex.wkl (lo' := [some (.ref w.1), some (.int a1), some (.int a2), some (.int a3), some (.int a4), some (.int a5), none, none, some (.int a8), some (.int a9), some (.int a10), some (.int a11), none, some (.int a13), some (.int a14), some (.int a15), some (.int a16), some (.int a17), some (.int (a18 + 1)), none, none]) ⟨rfl, rfl, rfl, rfl, rfl, rfl, rfl, rfl, rfl, rfl, rfl, rfl, rfl, rfl, rfl, rfl, trivial⟩ ?_
          exact hT h0 h hW hF
        · have hT := hT.2 c
          refine x_iload dX10_two_473 rfl ?_
          refine x_if_ne (tgt := 489) dX10_two_475 rfl (fun c => ?_) (fun c => ?_)
          · have hT := hT.1 c
            refine x_aload_n dX10_two_489 rfl rfl rfl ?_
            refine x_iconst (v := 0) dX10_two_490 rfl ?_
            refine x_iload_n dX10_two_491 rfl rfl ?_
            refine x_iload dX10_two_492 rfl ?_
            refine x_iload dX10_two_494 rfl ?_
            refine m_invS (vs := [.int a1, .int y17, .int y25]) dX10_two_496 oX10_act q2782 q2781 rfl rfl (Nat.le_of_ble_eq_true rfl) rfl hW hF hT ?_
            rintro _ s29 ⟨v30, rfl, hT⟩ h hW hF
            refine m_inv (vs := [.int 0, .int v30]) dX10_two_499 oX10_push q2708 q2706 qs101 rfl rfl (Nat.le_of_ble_eq_true rfl) rfl hW hF hT ?_
            rintro _ s31 ⟨rfl, hT⟩ h hW hF
            refine x_iinc (lo' := [some (.ref w.1), some (.int a1), some (.int a2), some (.int a3), some (.int a4), some (.int a5), none, none, some (.int a8), some (.int a9), some (.int a10), some (.int a11), none, some (.int a13), some (.int a14), some (.int a15), some (.int a16), some (.int a17), some (.int (a18 + 1)), some (.int y17), some (.int y25)]) dX10_two_502 rfl (show _ = (a18 + 1) from rfl) rfl ?_
            refine x_goto (tgt := 414) dX10_two_505 rfl ?_
            refine Ex.wkl (lo' := [some (.ref w.1), some (.int a1), some (.int a2), some (.int a3), some (.int a4), some (.int a5), none, none, some (.int a8), some (.int a9), some (.int a10), some (.int a11), none, some (.int a13), some (.int a14), some (.int a15), some (.int a16), some (.int a17), some (.int (a18 + 1)), none, none]) ⟨rfl, rfl, rfl, rfl, rfl, rfl, rfl, rfl, rfl, rfl, rfl, rfl, rfl, rfl, rfl, rfl, trivial⟩ ?_
            exact hT h0 h hW hF
          · have hT := hT.2 c
            refine x_aload_n dX10_two_478 rfl rfl rfl ?_
            refine x_bipush (v := 6) dX10_two_479 rfl ?_
            refine x_aload_n dX10_two_481 rfl rfl rfl ?_
            refine m_geti (v := (s.1 127)) dX10_two_482 f_TallySlateModel_507 (by decide) rfl hW rfl ?_
            refine m_inv (vs := [.int 6, .int (s.1 127)]) dX10_two_485 oX10_trouble q2696 q2694 qs98 rfl rfl (Nat.le_of_ble_eq_true rfl) rfl hW hF hT ?_
            rintro _ s32 ⟨rfl, hT⟩ h hW hF
            exact x_vret dX10_two_488 rfl ⟨_, _, rfl, hW, hF, hT⟩
