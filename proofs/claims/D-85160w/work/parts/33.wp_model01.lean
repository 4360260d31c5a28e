/-! weakest preconditions of methods of the model: printed by wp.py -/
set_option maxRecDepth 100000
theorem vX10_feed_0 {l : Launch} {E : EN} {w : MO} {d : Nat} {s : MS} {Q : Option Value → MS → Prop} {x1 : Int32} {x2 : Int32} {x3 : Int32} {x4 : Int32} {x5 : Int32} (hT : (((s.1 60) ≤ 1600 → (EvM l E w d MX10_four [.ref w.1, .int x1] s (fun r s1 => r = none ∧ (EvM l E w d MX10_four [.ref w.1, .int x2] s1 (fun r s2 => r = none ∧ (EvM l E w d MX10_four [.ref w.1, .int x3] s2 (fun r s3 => r = none ∧ (EvM l E w d MX10_four [.ref w.1, .int x4] s3 (fun r s4 => r = none ∧ (EvM l E w d MX10_four [.ref w.1, .int x5] s4 (fun r s5 => r = none ∧ Q (some (.int (s5.1 60))) s5))))))))))) ∧ (¬ (s.1 60) ≤ 1600 → Q (some (.int (-1))) s))) : ExM l E w (d + 1) MX10_feed 0 [some (.ref w.1), some (.int x1), some (.int x2), some (.int x3), some (.int x4), some (.int x5)] [] s Q := by
  intro h0 h hW hF
  refine x_aload_n dX10_feed_0 rfl rfl rfl ?_
  refine m_geti (v := (s.1 60)) dX10_feed_1 f_TallySlateModel_252 (by decide) rfl hW rfl ?_
  refine x_sipush (v := 1600) dX10_feed_4 rfl ?_
  refine x_icmp_le (tgt := 12) dX10_feed_7 rfl (fun c => ?_) (fun c => ?_)
  · have hT := hT.1 c
    refine x_aload_n dX10_feed_12 rfl rfl rfl ?_
    refine x_iload_n dX10_feed_13 rfl rfl ?_
    refine m_inv (vs := [.int x1]) dX10_feed_14 oX10_four q2504 q2502 qs60 rfl rfl (Nat.le_of_ble_eq_true rfl) rfl hW hF hT ?_
    rintro _ s1 ⟨rfl, hT⟩ h hW hF
    refine x_aload_n dX10_feed_17 rfl rfl rfl ?_
    refine x_iload_n dX10_feed_18 rfl rfl ?_
    refine m_inv (vs := [.int x2]) dX10_feed_19 oX10_four q2504 q2502 qs60 rfl rfl (Nat.le_of_ble_eq_true rfl) rfl hW hF hT ?_
    rintro _ s2 ⟨rfl, hT⟩ h hW hF
    refine x_aload_n dX10_feed_22 rfl rfl rfl ?_
    refine x_iload_n dX10_feed_23 rfl rfl ?_
    refine m_inv (vs := [.int x3]) dX10_feed_24 oX10_four q2504 q2502 qs60 rfl rfl (Nat.le_of_ble_eq_true rfl) rfl hW hF hT ?_
    rintro _ s3 ⟨rfl, hT⟩ h hW hF
    refine x_aload_n dX10_feed_27 rfl rfl rfl ?_
    refine x_iload dX10_feed_28 rfl ?_
    refine m_inv (vs := [.int x4]) dX10_feed_30 oX10_four q2504 q2502 qs60 rfl rfl (Nat.le_of_ble_eq_true rfl) rfl hW hF hT ?_
    rintro _ s4 ⟨rfl, hT⟩ h hW hF
    refine x_aload_n dX10_feed_33 rfl rfl rfl ?_
    refine x_iload dX10_feed_34 rfl ?_
    refine m_inv (vs := [.int x5]) dX10_feed_36 oX10_four q2504 q2502 qs60 rfl rfl (Nat.le_of_ble_eq_true rfl) rfl hW hF hT ?_
    rintro _ s5 ⟨rfl, hT⟩ h hW hF
    refine x_aload_n dX10_feed_39 rfl rfl rfl ?_
    refine m_geti (v := (s5.1 60)) dX10_feed_40 f_TallySlateModel_252 (by decide) rfl hW rfl ?_
    exact x_iret dX10_feed_43 rfl rfl ⟨_, _, rfl, hW, hF, hT⟩
  · have hT := hT.2 c
    refine x_iconst (v := (-1)) dX10_feed_10 rfl ?_
    exact x_iret dX10_feed_11 rfl rfl ⟨_, _, rfl, hW, hF, hT⟩
theorem eX10_feed {l : Launch} {E : EN} {w : MO} {d : Nat} {s : MS} {Q : Option Value → MS → Prop} {x1 : Int32} {x2 : Int32} {x3 : Int32} {x4 : Int32} {x5 : Int32} (hst : l.stackTraces = false) (hT : (((s.1 60) ≤ 1600 → (EvM l E w d MX10_four [.ref w.1, .int x1] s (fun r s1 => r = none ∧ (EvM l E w d MX10_four [.ref w.1, .int x2] s1 (fun r s2 => r = none ∧ (EvM l E w d MX10_four [.ref w.1, .int x3] s2 (fun r s3 => r = none ∧ (EvM l E w d MX10_four [.ref w.1, .int x4] s3 (fun r s4 => r = none ∧ (EvM l E w d MX10_four [.ref w.1, .int x5] s4 (fun r s5 => r = none ∧ Q (some (.int (s5.1 60))) s5))))))))))) ∧ (¬ (s.1 60) ≤ 1600 → Q (some (.int (-1))) s))) : EvM l E w (d + 1) MX10_feed [.ref w.1, .int x1, .int x2, .int x3, .int x4, .int x5] s Q :=
  EvM.of hst (by decide) (Nat.le_of_ble_eq_true rfl) (vX10_feed_0 hT)
theorem vX10_four_0 {l : Launch} {E : EN} {w : MO} {d : Nat} {s : MS} {Q : Option Value → MS → Prop} {x1 : Int32} (hT : ExM l E w d MX10_four 3 [some (.ref w.1), some (.int x1), some (.int 24)] [] s Q) : ExM l E w d MX10_four 0 [some (.ref w.1), some (.int x1), none] [] s Q := by
  intro h0 h hW hF
  refine x_bipush (v := 24) dX10_four_0 rfl ?_
  refine x_istore_n (lo' := [some (.ref w.1), some (.int x1), some (.int 24)]) dX10_four_2 rfl (Nat.le_of_ble_eq_true rfl) rfl ?_
  exact hT h0 h hW hF
theorem eX10_four {l : Launch} {E : EN} {w : MO} {d : Nat} {s : MS} {Q : Option Value → MS → Prop} {x1 : Int32} (hst : l.stackTraces = false) (hT : ExM l E w d MX10_four 3 [some (.ref w.1), some (.int x1), some (.int 24)] [] s Q) : EvM l E w d MX10_four [.ref w.1, .int x1] s Q :=
  EvM.of hst (by decide) (Nat.le_of_ble_eq_true rfl) (vX10_four_0 hT)
theorem vX10_four_3 {l : Launch} {E : EN} {w : MO} {d : Nat} {s : MS} {Q : Option Value → MS → Prop} {a1 : Int32} {a2 : Int32} (hT : ((a2 < 0 → Q none s) ∧ (¬ a2 < 0 → (inB (s.1 60) 1620 ∧ ExM l E w d MX10_four 3 [some (.ref w.1), some (.int a1), some (.int (a2 + (-8)))] [] (sI (sA s 59 (s.1 60).toNatClampNeg (a1 >>> (a2 &&& 31)).toInt8.toInt32.toInt8.toInt32) 60 ((s.1 60) + 1)) Q)))) : ExM l E w d MX10_four 3 [some (.ref w.1), some (.int a1), some (.int a2)] [] s Q := by
  intro h0 h hW hF
  refine x_iload_n dX10_four_3 rfl rfl ?_
  refine x_if_lt (tgt := 36) dX10_four_4 rfl (fun c => ?_) (fun c => ?_)
  · have hT := hT.1 c
    exact x_vret dX10_four_36 rfl ⟨_, _, rfl, hW, hF, hT⟩
  · have hT := hT.2 c
    refine x_aload_n dX10_four_7 rfl rfl rfl ?_
    refine m_geta dX10_four_8 f_TallySlateModel_99 (by decide) rfl hW ?_
    refine x_aload_n dX10_four_11 rfl rfl rfl ?_
    refine m_geti (v := (s.1 60)) dX10_four_12 f_TallySlateModel_252 (by decide) rfl hW rfl ?_
    refine x_iload_n dX10_four_15 rfl rfl ?_
    refine x_iload_n dX10_four_16 rfl rfl ?_
    refine x_ishr dX10_four_17 ?_
    refine x_i2b dX10_four_18 ?_
    obtain ⟨hb, hT⟩ := hT
    refine m_bast dX10_four_19 rfl hb hW hF ?_
    intro h hW hF
    refine x_aload_n dX10_four_20 rfl rfl rfl ?_
    refine x_dup dX10_four_21 rfl ?_
    refine m_geti (v := (s.1 60)) dX10_four_22 f_TallySlateModel_252 (by decide) rfl hW rfl ?_
    refine x_iconst (v := 1) dX10_four_25 rfl ?_
    refine x_iadd dX10_four_26 ?_
    refine m_puti dX10_four_27 f_TallySlateModel_252 (by decide) rfl rfl rfl rfl hW hF ?_
    intro h hW hF
    refine x_iinc (lo' := [some (.ref w.1), some (.int a1), some (.int (a2 + (-8)))]) dX10_four_30 rfl (show _ = (a2 + (-8)) from rfl) rfl ?_
    refine x_goto (tgt := 3) dX10_four_33 rfl ?_
    exact hT h0 h hW hF
set_option maxHeartbeats 16000000 in
theorem vX10_load_0 {l : Launch} {E : EN} {w : MO} {d : Nat} {s : MS} {Q : Option Value → MS → Prop} {x1 : Int32} (hT : ((x1 < 0 → Q (some (.int (-2))) s) ∧ (¬ x1 < 0 → ((x1 ≤ (s.1 60) → ((x1 ≤ 1600 → (EvM l E w d MX10_token [.ref w.1, .int 0] (sI (sI (sI (sI (sI (sI (sI (sI s 60 0) 61 x1) 66 0) 67 (-1)) 68 0) 72 0) 85 0) 86 0) (fun r s1 => r = none ∧ (EvM l E w d MX10_textOf [.ref w.1] s1 (fun r s2 => r = none ∧ ((¬ (s2.1 66) = 0 → ((¬ (s2.1 66) = 0 → (((s2.1 66) ≤ 0 → Q (some (.int (s2.1 72))) (sI (sI (sI (sI (sI s2 102 (s2.1 66)) 103 (s2.1 67)) 69 (1 - (s2.1 69))) 71 (s2.1 72)) 70 1)) ∧ (¬ (s2.1 66) ≤ 0 → Q (some (.int (-1))) (sI (sI s2 102 (s2.1 66)) 103 (s2.1 67))))) ∧ ((s2.1 66) = 0 → (((s2.1 66) ≤ 0 → Q (some (.int (s2.1 72))) (sI (sI (sI (sI (sI s2 102 (s2.1 66)) 103 (-1)) 69 (1 - (s2.1 69))) 71 (s2.1 72)) 70 1)) ∧ (¬ (s2.1 66) ≤ 0 → Q (some (.int (-1))) (sI (sI s2 102 (s2.1 66)) 103 (-1))))))) ∧ ((s2.1 66) = 0 → (EvM l E w d MX10_resolve [.ref w.1] s2 (fun r s3 => r = none ∧ ((¬ (s3.1 66) = 0 → (((s3.1 66) ≤ 0 → Q (some (.int (s3.1 72))) (sI (sI (sI (sI (sI s3 102 (s3.1 66)) 103 (s3.1 67)) 69 (1 - (s3.1 69))) 71 (s3.1 72)) 70 1)) ∧ (¬ (s3.1 66) ≤ 0 → Q (some (.int (-1))) (sI (sI s3 102 (s3.1 66)) 103 (s3.1 67))))) ∧ ((s3.1 66) = 0 → (((s3.1 66) ≤ 0 → Q (some (.int (s3.1 72))) (sI (sI (sI (sI (sI s3 102 (s3.1 66)) 103 (-1)) 69 (1 - (s3.1 69))) 71 (s3.1 72)) 70 1)) ∧ (¬ (s3.1 66) ≤ 0 → Q (some (.int (-1))) (sI (sI s3 102 (s3.1 66)) 103 (-1))))))))))))))) ∧ (¬ x1 ≤ 1600 → (EvM l E w d MX10_breaks [.ref w.1, .int 1, .int 1600] (sI (sI (sI (sI (sI (sI (sI (sI s 60 0) 61 x1) 66 0) 67 (-1)) 68 0) 72 0) 85 0) 86 0) (fun r s4 => r = none ∧ ((¬ (s4.1 66) = 0 → (((s4.1 66) ≤ 0 → Q (some (.int (s4.1 72))) (sI (sI (sI (sI (sI s4 102 (s4.1 66)) 103 (s4.1 67)) 69 (1 - (s4.1 69))) 71 (s4.1 72)) 70 1)) ∧ (¬ (s4.1 66) ≤ 0 → Q (some (.int (-1))) (sI (sI s4 102 (s4.1 66)) 103 (s4.1 67))))) ∧ ((s4.1 66) = 0 → (((s4.1 66) ≤ 0 → Q (some (.int (s4.1 72))) (sI (sI (sI (sI (sI s4 102 (s4.1 66)) 103 (-1)) 69 (1 - (s4.1 69))) 71 (s4.1 72)) 70 1)) ∧ (¬ (s4.1 66) ≤ 0 → Q (some (.int (-1))) (sI (sI s4 102 (s4.1 66)) 103 (-1))))))))))) ∧ (¬ x1 ≤ (s.1 60) → Q (some (.int (-2))) s))))) : ExM l E w (d + 1) MX10_load 0 [some (.ref w.1), some (.int x1)] [] s Q := by
  intro h0 h hW hF
  refine x_iload_n dX10_load_0 rfl rfl ?_
  refine x_if_lt (tgt := 12) dX10_load_1 rfl (fun c => ?_) (fun c => ?_)
  · have hT := hT.1 c
    refine x_bipush (v := (-2)) dX10_load_12 rfl ?_
    exact x_iret dX10_load_14 rfl rfl ⟨_, _, rfl, hW, hF, hT⟩
  · have hT := hT.2 c
    refine x_iload_n dX10_load_4 rfl rfl ?_
    refine x_aload_n dX10_load_5 rfl rfl rfl ?_
    refine m_geti (v := (s.1 60)) dX10_load_6 f_TallySlateModel_252 (by decide) rfl hW rfl ?_
    refine x_icmp_le (tgt := 15) dX10_load_9 rfl (fun c => ?_) (fun c => ?_)
    · have hT := hT.1 c
      refine x_aload_n dX10_load_15 rfl rfl rfl ?_
      refine x_iconst (v := 0) dX10_load_16 rfl ?_
      refine m_puti dX10_load_17 f_TallySlateModel_252 (by decide) rfl rfl rfl rfl hW hF ?_
      intro h hW hF
      refine x_aload_n dX10_load_20 rfl rfl rfl ?_
      refine x_iload_n dX10_load_21 rfl rfl ?_
      refine m_puti dX10_load_22 f_TallySlateModel_259 (by decide) rfl rfl rfl rfl hW hF ?_
      intro h hW hF
      refine x_aload_n dX10_load_25 rfl rfl rfl ?_
      refine x_iconst (v := 0) dX10_load_26 rfl ?_
      refine m_puti dX10_load_27 f_TallySlateModel_311 (by decide) rfl rfl rfl rfl hW hF ?_
      intro h hW hF
      refine x_aload_n dX10_load_30 rfl rfl rfl ?_
      refine x_iconst (v := (-1)) dX10_load_31 rfl ?_
      refine m_puti dX10_load_32 f_TallySlateModel_314 (by decide) rfl rfl rfl rfl hW hF ?_
      intro h hW hF
      refine x_aload_n dX10_load_35 rfl rfl rfl ?_
      refine x_iconst (v := 0) dX10_load_36 rfl ?_
      refine m_puti dX10_load_37 f_TallySlateModel_328 (by decide) rfl rfl rfl rfl hW hF ?_
      intro h hW hF
      refine x_aload_n dX10_load_40 rfl rfl rfl ?_
      refine x_iconst (v := 0) dX10_load_41 rfl ?_
      refine m_puti dX10_load_42 f_TallySlateModel_380 (by decide) rfl rfl rfl rfl hW hF ?_
      intro h hW hF
      refine x_aload_n dX10_load_45 rfl rfl rfl ?_
      refine x_iconst (v := 0) dX10_load_46 rfl ?_
      refine m_puti dX10_load_47 f_TallySlateModel_343 (by decide) rfl rfl rfl rfl hW hF ?_
      intro h hW hF
      refine x_aload_n dX10_load_50 rfl rfl rfl ?_
      refine x_iconst (v := 0) dX10_load_51 rfl ?_
      refine m_puti dX10_load_52 f_TallySlateModel_346 (by decide) rfl rfl rfl rfl hW hF ?_
      intro h hW hF
      refine x_iload_n dX10_load_55 rfl rfl ?_
      refine x_sipush (v := 1600) dX10_load_56 rfl ?_
      refine x_icmp_le (tgt := 73) dX10_load_59 rfl (fun c => ?_) (fun c => ?_)
      · have hT := hT.1 c
        refine x_aload_n dX10_load_73 rfl rfl rfl ?_
        refine x_iconst (v := 0) dX10_load_74 rfl ?_
        refine m_inv (vs := [.int 0]) dX10_load_75 oX10_token q2516 q2514 qs62 rfl rfl (Nat.le_of_ble_eq_true rfl) rfl hW hF hT ?_
        rintro _ s1 ⟨rfl, hT⟩ h hW hF
        refine x_aload_n dX10_load_78 rfl rfl rfl ?_
        refine m_inv (vs := []) dX10_load_79 oX10_textOf q2546 q2544 qs66 rfl rfl (Nat.le_of_ble_eq_true rfl) rfl hW hF hT ?_
        rintro _ s2 ⟨rfl, hT⟩ h hW hF
        refine x_aload_n dX10_load_82 rfl rfl rfl ?_
        refine m_geti (v := (s2.1 66)) dX10_load_83 f_TallySlateModel_311 (by decide) rfl hW rfl ?_
        refine x_if_ne (tgt := 93) dX10_load_86 rfl (fun c => ?_) (fun c => ?_)
        · have hT := hT.1 c
          refine x_aload_n dX10_load_93 rfl rfl rfl ?_
          refine x_aload_n dX10_load_94 rfl rfl rfl ?_
          refine m_geti (v := (s2.1 66)) dX10_load_95 f_TallySlateModel_311 (by decide) rfl hW rfl ?_
          refine m_puti dX10_load_98 f_TallySlateModel_175 (by decide) rfl rfl rfl rfl hW hF ?_
          intro h hW hF
          refine x_aload_n dX10_load_101 rfl rfl rfl ?_
          refine x_aload_n dX10_load_102 rfl rfl rfl ?_
          refine m_geti (v := (s2.1 66)) dX10_load_103 f_TallySlateModel_311 (by decide) rfl hW rfl ?_
          refine x_if_ne (tgt := 113) dX10_load_106 rfl (fun c => ?_) (fun c => ?_)
          · have hT := hT.1 c
            refine x_aload_n dX10_load_113 rfl rfl rfl ?_
            refine m_geti (v := (s2.1 67)) dX10_load_114 f_TallySlateModel_314 (by decide) rfl hW rfl ?_
            refine m_puti dX10_load_117 f_TallySlateModel_179 (by decide) rfl rfl rfl rfl hW hF ?_
            intro h hW hF
            refine x_aload_n dX10_load_120 rfl rfl rfl ?_
            refine m_geti (v := (s2.1 66)) dX10_load_121 f_TallySlateModel_311 (by decide) rfl hW rfl ?_
            refine x_if_le (tgt := 129) dX10_load_124 rfl (fun c => ?_) (fun c => ?_)
            · have hT := hT.1 c
              refine x_aload_n dX10_load_129 rfl rfl rfl ?_
              refine x_iconst (v := 1) dX10_load_130 rfl ?_
              refine x_aload_n dX10_load_131 rfl rfl rfl ?_
              refine m_geti (v := (s2.1 69)) dX10_load_132 f_TallySlateModel_340 (by decide) rfl hW rfl ?_
              refine x_isub dX10_load_135 ?_
              refine m_puti dX10_load_136 f_TallySlateModel_340 (by decide) rfl rfl rfl rfl hW hF ?_
              intro h hW hF
              refine x_aload_n dX10_load_139 rfl rfl rfl ?_
              refine x_aload_n dX10_load_140 rfl rfl rfl ?_
              refine m_geti (v := (s2.1 72)) dX10_load_141 f_TallySlateModel_380 (by decide) rfl hW rfl ?_
              refine m_puti dX10_load_144 f_TallySlateModel_454 (by decide) rfl rfl rfl rfl hW hF ?_
              intro h hW hF
              refine x_aload_n dX10_load_147 rfl rfl rfl ?_
              refine x_iconst (v := 1) dX10_load_148 rfl ?_
              refine m_puti dX10_load_149 f_TallySlateModel_457 (by decide) rfl rfl rfl rfl hW hF ?_
              intro h hW hF
              refine x_aload_n dX10_load_152 rfl rfl rfl ?_
              refine m_geti (v := (s2.1 72)) dX10_load_153 f_TallySlateModel_380 (by decide) rfl hW rfl ?_
              exact x_iret dX10_load_156 rfl rfl ⟨_, _, rfl, hW, hF, hT⟩
            · have hT := hT.2 c
              refine x_iconst (v := (-1)) dX10_load_127 rfl ?_
              exact x_iret dX10_load_128 rfl rfl ⟨_, _, rfl, hW, hF, hT⟩
          · have hT := hT.2 c
            refine x_iconst (v := (-1)) dX10_load_109 rfl ?_
            refine x_goto (tgt := 117) dX10_load_110 rfl ?_
            refine m_puti dX10_load_117 f_TallySlateModel_179 (by decide) rfl rfl rfl rfl hW hF ?_
            intro h hW hF
            refine x_aload_n dX10_load_120 rfl rfl rfl ?_
            refine m_geti (v := (s2.1 66)) dX10_load_121 f_TallySlateModel_311 (by decide) rfl hW rfl ?_
            refine x_if_le (tgt := 129) dX10_load_124 rfl (fun c => ?_) (fun c => ?_)
            · have hT := hT.1 c
              refine x_aload_n dX10_load_129 rfl rfl rfl ?_
              refine x_iconst (v := 1) dX10_load_130 rfl ?_
              refine x_aload_n dX10_load_131 rfl rfl rfl ?_
              refine m_geti (v := (s2.1 69)) dX10_load_132 f_TallySlateModel_340 (by decide) rfl hW rfl ?_
              refine x_isub dX10_load_135 ?_
              refine m_puti dX10_load_136 f_TallySlateModel_340 (by decide) rfl rfl rfl rfl hW hF ?_
              intro h hW hF
              refine x_aload_n dX10_load_139 rfl rfl rfl ?_
              refine x_aload_n dX10_load_140 rfl rfl rfl ?_
              refine m_geti (v := (s2.1 72)) dX10_load_141 f_TallySlateModel_380 (by decide) rfl hW rfl ?_
              refine m_puti dX10_load_144 f_TallySlateModel_454 (by decide) rfl rfl rfl rfl hW hF ?_
              intro h hW hF
              refine x_aload_n dX10_load_147 rfl rfl rfl ?_
              refine x_iconst (v := 1) dX10_load_148 rfl ?_
              refine m_puti dX10_load_149 f_TallySlateModel_457 (by decide) rfl rfl rfl rfl hW hF ?_
              intro h hW hF
              refine x_aload_n dX10_load_152 rfl rfl rfl ?_
              refine m_geti (v := (s2.1 72)) dX10_load_153 f_TallySlateModel_380 (by decide) rfl hW rfl ?_
              exact x_iret dX10_load_156 rfl rfl ⟨_, _, rfl, hW, hF, hT⟩
            · have hT := hT.2 c
              refine x_iconst (v := (-1)) dX10_load_127 rfl ?_
              exact x_iret dX10_load_128 rfl rfl ⟨_, _, rfl, hW, hF, hT⟩
        · have hT := hT.2 c
          refine x_aload_n dX10_load_89 rfl rfl rfl ?_
          refine m_inv (vs := []) dX10_load_90 oX10_resolve q2673 q2671 qs96 rfl rfl (Nat.le_of_ble_eq_true rfl) rfl hW hF hT ?_
          rintro _ s3 ⟨rfl, hT⟩ h hW hF
          refine x_aload_n dX10_load_93 rfl rfl rfl ?_
          refine x_aload_n dX10_load_94 rfl rfl rfl ?_
          refine m_geti (v := (s3.1 66)) dX10_load_95 f_TallySlateModel_311 (by decide) rfl hW rfl ?_
          refine m_puti dX10_load_98 f_TallySlateModel_175 (by decide) rfl rfl rfl rfl hW hF ?_
          intro h hW hF
          refine x_aload_n dX10_load_101 rfl rfl rfl ?_
          refine x_aload_n dX10_load_102 rfl rfl rfl ?_
          refine m_geti (v := (s3.1 66)) dX10_load_103 f_TallySlateModel_311 (by decide) rfl hW rfl ?_
          refine x_if_ne (tgt := 113) dX10_load_106 rfl (fun c => ?_) (fun c => ?_)
          · have hT := hT.1 c
            refine x_aload_n dX10_load_113 rfl rfl rfl ?_
            refine m_geti (v := (s3.1 67)) dX10_load_114 f_TallySlateModel_314 (by decide) rfl hW rfl ?_
            refine m_puti dX10_load_117 f_TallySlateModel_179 (by decide) rfl rfl rfl rfl hW hF ?_
            intro h hW hF
            refine x_aload_n dX10_load_120 rfl rfl rfl ?_
            refine m_geti (v := (s3.1 66)) dX10_load_121 f_TallySlateModel_311 (by decide) rfl hW rfl ?_
            refine x_if_le (tgt := 129) dX10_load_124 rfl (fun c => ?_) (fun c => ?_)
            · have hT := hT.1 c
              refine x_aload_n dX10_load_129 rfl rfl rfl ?_
              refine x_iconst (v := 1) dX10_load_130 rfl ?_
              refine x_aload_n dX10_load_131 rfl rfl rfl ?_
              refine m_geti (v := (s3.1 69)) dX10_load_132 f_TallySlateModel_340 (by decide) rfl hW rfl ?_
              refine x_isub dX10_load_135 ?_
              refine m_puti dX10_load_136 f_TallySlateModel_340 (by decide) rfl rfl rfl rfl hW hF ?_
              intro h hW hF
              refine x_aload_n dX10_load_139 rfl rfl rfl ?_
              refine x_aload_n dX10_load_140 rfl rfl rfl ?_
              refine m_geti (v := (s3.1 72)) dX10_load_141 f_TallySlateModel_380 (by decide) rfl hW rfl ?_
              refine m_puti dX10_load_144 f_TallySlateModel_454 (by decide) rfl rfl rfl rfl hW hF ?_
              intro h hW hF
              refine x_aload_n dX10_load_147 rfl rfl rfl ?_
              refine x_iconst (v := 1) dX10_load_148 rfl ?_
              refine m_puti dX10_load_149 f_TallySlateModel_457 (by decide) rfl rfl rfl rfl hW hF ?_
              intro h hW hF
              refine x_aload_n dX10_load_152 rfl rfl rfl ?_
              refine m_geti (v := (s3.1 72)) dX10_load_153 f_TallySlateModel_380 (by decide) rfl hW rfl ?_
              exact x_iret dX10_load_156 rfl rfl ⟨_, _, rfl, hW, hF, hT⟩
            · have hT := hT.2 c
              refine x_iconst (v := (-1)) dX10_load_127 rfl ?_
              exact x_iret dX10_load_128 rfl rfl ⟨_, _, rfl, hW, hF, hT⟩
          · have hT := hT.2 c
            refine x_iconst (v := (-1)) dX10_load_109 rfl ?_
            refine x_goto (tgt := 117) dX10_load_110 rfl ?_
            refine m_puti dX10_load_117 f_TallySlateModel_179 (by decide) rfl rfl rfl rfl hW hF ?_
            intro h hW hF
            refine x_aload_n dX10_load_120 rfl rfl rfl ?_
            refine m_geti (v := (s3.1 66)) dX10_load_121 f_TallySlateModel_311 (by decide) rfl hW rfl ?_
            refine x_if_le (tgt := 129) dX10_load_124 rfl (fun c => ?_) (fun c => ?_)
            · have hT := hT.1 c
              refine x_aload_n dX10_load_129 rfl rfl rfl ?_
              refine x_iconst (v := 1) dX10_load_130 rfl ?_
              refine x_aload_n dX10_load_131 rfl rfl rfl ?_
              refine m_geti (v := (s3.1 69)) dX10_load_132 f_TallySlateModel_340 (by decide) rfl hW rfl ?_
              refine x_isub dX10_load_135 ?_
              refine m_puti dX10_load_136 f_TallySlateModel_340 (by decide) rfl rfl rfl rfl hW hF ?_
              intro h hW hF
              refine x_aload_n dX10_load_139 rfl rfl rfl ?_
              refine x_aload_n dX10_load_140 rfl rfl rfl ?_
              refine m_geti (v := (s3.1 72)) dX10_load_141 f_TallySlateModel_380 (by decide) rfl hW rfl ?_
              refine m_puti dX10_load_144 f_TallySlateModel_454 (by decide) rfl rfl rfl rfl hW hF ?_
              intro h hW hF
              refine x_aload_n dX10_load_147 rfl rfl rfl ?_
              refine x_iconst (v := 1) dX10_load_148 rfl ?_
              refine m_puti dX10_load_149 f_TallySlateModel_457 (by decide) rfl rfl rfl rfl hW hF ?_
              intro h hW hF
              refine x_aload_n dX10_load_152 rfl rfl rfl ?_
              refine m_geti (v := (s3.1 72)) dX10_load_153 f_TallySlateModel_380 (by decide) rfl hW rfl ?_
              exact x_iret dX10_load_156 rfl rfl ⟨_, _, rfl, hW, hF, hT⟩
            · have hT := hT.2 c
              refine x_iconst (v := (-1)) dX10_load_127 rfl ?_
              exact x_iret dX10_load_128 rfl rfl ⟨_, _, rfl, hW, hF, hT⟩
      · have hT := hT.2 c
        refine x_aload_n dX10_load_62 rfl rfl rfl ?_
        refine x_iconst (v := 1) dX10_load_63 rfl ?_
        refine x_sipush (v := 1600) dX10_load_64 rfl ?_
        refine m_inv (vs := [.int 1, .int 1600]) dX10_load_67 oX10_breaks q2512 q2510 qs61 rfl rfl (Nat.le_of_ble_eq_true rfl) rfl hW hF hT ?_
        rintro _ s4 ⟨rfl, hT⟩ h hW hF
        refine x_goto (tgt := 93) dX10_load_70 rfl ?_
        refine x_aload_n dX10_load_93 rfl rfl rfl ?_
        refine x_aload_n dX10_load_94 rfl rfl rfl ?_
        refine m_geti (v := (s4.1 66)) dX10_load_95 f_TallySlateModel_311 (by decide) rfl hW rfl ?_
        refine m_puti dX10_load_98 f_TallySlateModel_175 (by decide) rfl rfl rfl rfl hW hF ?_
        intro h hW hF
        refine x_aload_n dX10_load_101 rfl rfl rfl ?_
        refine x_aload_n dX10_load_102 rfl rfl rfl ?_
        refine m_geti (v := (s4.1 66)) dX10_load_103 f_TallySlateModel_311 (by decide) rfl hW rfl ?_
        refine x_if_ne (tgt := 113) dX10_load_106 rfl (fun c => ?_) (fun c => ?_)
        · have hT := hT.1 c
          refine x_aload_n dX10_load_113 rfl rfl rfl ?_
          refine m_geti (v := (s4.1 67)) dX10_load_114 f_TallySlateModel_314 (by decide) rfl hW rfl ?_
          refine m_puti dX10_load_117 f_TallySlateModel_179 (by decide) rfl rfl rfl rfl hW hF ?_
          intro h hW hF
          refine x_aload_n dX10_load_120 rfl rfl rfl ?_
          refine m_geti (v := (s4.1 66)) dX10_load_121 f_TallySlateModel_311 (by decide) rfl hW rfl ?_
          refine x_if_le (tgt := 129) dX10_load_124 rfl (fun c => ?_) (fun c => ?_)
          · have hT := hT.1 c
            refine x_aload_n dX10_load_129 rfl rfl rfl ?_
            refine x_iconst (v := 1) dX10_load_130 rfl ?_
            refine x_aload_n dX10_load_131 rfl rfl rfl ?_
            refine m_geti (v := (s4.1 69)) dX10_load_132 f_TallySlateModel_340 (by decide) rfl hW rfl ?_
            refine x_isub dX10_load_135 ?_
            refine m_puti dX10_load_136 f_TallySlateModel_340 (by decide) rfl rfl rfl rfl hW hF ?_
            intro h hW hF
            refine x_aload_n dX10_load_139 rfl rfl rfl ?_
            refine x_aload_n dX10_load_140 rfl rfl rfl ?_
            refine m_geti (v := (s4.1 72)) dX10_load_141 f_TallySlateModel_380 (by decide) rfl hW rfl ?_
            refine m_puti dX10_load_144 f_TallySlateModel_454 (by decide) rfl rfl rfl rfl hW hF ?_
            intro h hW hF
            refine x_aload_n dX10_load_147 rfl rfl rfl ?_
            refine x_iconst (v := 1) dX10_load_148 rfl ?_
            refine m_puti dX10_load_149 f_TallySlateModel_457 (by decide) rfl rfl rfl rfl hW hF ?_
            intro h hW hF
            refine x_aload_n dX10_load_152 rfl rfl rfl ?_
            refine m_geti (v := (s4.1 72)) dX10_load_153 f_TallySlateModel_380 (by decide) rfl hW rfl ?_
            exact x_iret dX10_load_156 rfl rfl ⟨_, _, rfl, hW, hF, hT⟩
          · have hT := hT.2 c
            refine x_iconst (v := (-1)) dX10_load_127 rfl ?_
            exact x_iret dX10_load_128 rfl rfl ⟨_, _, rfl, hW, hF, hT⟩
        · have hT := hT.2 c
          refine x_iconst (v := (-1)) dX10_load_109 rfl ?_
          refine x_goto (tgt := 117) dX10_load_110 rfl ?_
          refine m_puti dX10_load_117 f_TallySlateModel_179 (by decide) rfl rfl rfl rfl hW hF ?_
          intro h hW hF
          refine x_aload_n dX10_load_120 rfl rfl rfl ?_
          refine m_geti (v := (s4.1 66)) dX10_load_121 f_TallySlateModel_311 (by decide) rfl hW rfl ?_
          refine x_if_le (tgt := 129) dX10_load_124 rfl (fun c => ?_) (fun c => ?_)
          · have hT := hT.1 c
            refine x_aload_n dX10_load_129 rfl rfl rfl ?_
            refine x_iconst (v := 1) dX10_load_130 rfl ?_
            refine x_aload_n dX10_load_131 rfl rfl rfl ?_
            refine m_geti (v := (s4.1 69)) dX10_load_132 f_TallySlateModel_340 (by decide) rfl hW rfl ?_
            refine x_isub dX10_load_135 ?_
            refine m_puti dX10_load_136 f_TallySlateModel_340 (by decide) rfl rfl rfl rfl hW hF ?_
            intro h hW hF
            refine x_aload_n dX10_load_139 rfl rfl rfl ?_
            refine x_aload_n dX10_load_140 rfl rfl rfl ?_
            refine m_geti (v := (s4.1 72)) dX10_load_141 f_TallySlateModel_380 (by decide) rfl hW rfl ?_
            refine m_puti dX10_load_144 f_TallySlateModel_454 (by decide) rfl rfl rfl rfl hW hF ?_
            intro h hW hF
            refine x_aload_n dX10_load_147 rfl rfl rfl ?_
            refine x_iconst (v := 1) dX10_load_148 rfl ?_
            refine m_puti dX10_load_149 f_TallySlateModel_457 (by decide) rfl rfl rfl rfl hW hF ?_
            intro h hW hF
            refine x_aload_n dX10_load_152 rfl rfl rfl ?_
            refine m_geti (v := (s4.1 72)) dX10_load_153 f_TallySlateModel_380 (by decide) rfl hW rfl ?_
            exact x_iret dX10_load_156 rfl rfl ⟨_, _, rfl, hW, hF, hT⟩
          · have hT := hT.2 c
            refine x_iconst (v := (-1)) dX10_load_127 rfl ?_
            exact x_iret dX10_load_128 rfl rfl ⟨_, _, rfl, hW, hF, hT⟩
    · have hT := hT.2 c
      refine x_bipush (v := (-2)) dX10_load_12 rfl ?_
      exact x_iret dX10_load_14 rfl rfl ⟨_, _, rfl, hW, hF, hT⟩
theorem eX10_load {l : Launch} {E : EN} {w : MO} {d : Nat} {s : MS} {Q : Option Value → MS → Prop} {x1 : Int32} (hst : l.stackTraces = false) (hT : ((x1 < 0 → Q (some (.int (-2))) s) ∧ (¬ x1 < 0 → ((x1 ≤ (s.1 60) → ((x1 ≤ 1600 → (EvM l E w d MX10_token [.ref w.1, .int 0] (sI (sI (sI (sI (sI (sI (sI (sI s 60 0) 61 x1) 66 0) 67 (-1)) 68 0) 72 0) 85 0) 86 0) (fun r s1 => r = none ∧ (EvM l E w d MX10_textOf [.ref w.1] s1 (fun r s2 => r = none ∧ ((¬ (s2.1 66) = 0 → ((¬ (s2.1 66) = 0 → (((s2.1 66) ≤ 0 → Q (some (.int (s2.1 72))) (sI (sI (sI (sI (sI s2 102 (s2.1 66)) 103 (s2.1 67)) 69 (1 - (s2.1 69))) 71 (s2.1 72)) 70 1)) ∧ (¬ (s2.1 66) ≤ 0 → Q (some (.int (-1))) (sI (sI s2 102 (s2.1 66)) 103 (s2.1 67))))) ∧ ((s2.1 66) = 0 → (((s2.1 66) ≤ 0 → Q (some (.int (s2.1 72))) (sI (sI (sI (sI (sI s2 102 (s2.1 66)) 103 (-1)) 69 (1 - (s2.1 69))) 71 (s2.1 72)) 70 1)) ∧ (¬ (s2.1 66) ≤ 0 → Q (some (.int (-1))) (sI (sI s2 102 (s2.1 66)) 103 (-1))))))) ∧ ((s2.1 66) = 0 → (EvM l E w d MX10_resolve [.ref w.1] s2 (fun r s3 => r = none ∧ ((¬ (s3.1 66) = 0 → (((s3.1 66) ≤ 0 → Q (some (.int (s3.1 72))) (sI (sI (sI (sI (sI s3 102 (s3.1 66)) 103 (s3.1 67)) 69 (1 - (s3.1 69))) 71 (s3.1 72)) 70 1)) ∧ (¬ (s3.1 66) ≤ 0 → Q (some (.int (-1))) (sI (sI s3 102 (s3.1 66)) 103 (s3.1 67))))) ∧ ((s3.1 66) = 0 → (((s3.1 66) ≤ 0 → Q (some (.int (s3.1 72))) (sI (sI (sI (sI (sI s3 102 (s3.1 66)) 103 (-1)) 69 (1 - (s3.1 69))) 71 (s3.1 72)) 70 1)) ∧ (¬ (s3.1 66) ≤ 0 → Q (some (.int (-1))) (sI (sI s3 102 (s3.1 66)) 103 (-1))))))))))))))) ∧ (¬ x1 ≤ 1600 → (EvM l E w d MX10_breaks [.ref w.1, .int 1, .int 1600] (sI (sI (sI (sI (sI (sI (sI (sI s 60 0) 61 x1) 66 0) 67 (-1)) 68 0) 72 0) 85 0) 86 0) (fun r s4 => r = none ∧ ((¬ (s4.1 66) = 0 → (((s4.1 66) ≤ 0 → Q (some (.int (s4.1 72))) (sI (sI (sI (sI (sI s4 102 (s4.1 66)) 103 (s4.1 67)) 69 (1 - (s4.1 69))) 71 (s4.1 72)) 70 1)) ∧ (¬ (s4.1 66) ≤ 0 → Q (some (.int (-1))) (sI (sI s4 102 (s4.1 66)) 103 (s4.1 67))))) ∧ ((s4.1 66) = 0 → (((s4.1 66) ≤ 0 → Q (some (.int (s4.1 72))) (sI (sI (sI (sI (sI s4 102 (s4.1 66)) 103 (-1)) 69 (1 - (s4.1 69))) 71 (s4.1 72)) 70 1)) ∧ (¬ (s4.1 66) ≤ 0 → Q (some (.int (-1))) (sI (sI s4 102 (s4.1 66)) 103 (-1))))))))))) ∧ (¬ x1 ≤ (s.1 60) → Q (some (.int (-2))) s))))) : EvM l E w (d + 1) MX10_load [.ref w.1, .int x1] s Q :=
  EvM.of hst (by decide) (Nat.le_of_ble_eq_true rfl) (vX10_load_0 hT)
theorem vX10_breaks_0 {l : Launch} {E : EN} {w : MO} {d : Nat} {s : MS} {Q : Option Value → MS → Prop} {x1 : Int32} {x2 : Int32} (hT : (((s.1 66) ≤ 0 → Q none (sI (sI s 66 x1) 67 x2)) ∧ (¬ (s.1 66) ≤ 0 → Q none s))) : ExM l E w d MX10_breaks 0 [some (.ref w.1), some (.int x1), some (.int x2)] [] s Q := by
  intro h0 h hW hF
  refine x_aload_n dX10_breaks_0 rfl rfl rfl ?_
  refine m_geti (v := (s.1 66)) dX10_breaks_1 f_TallySlateModel_311 (by decide) rfl hW rfl ?_
  refine x_if_le (tgt := 8) dX10_breaks_4 rfl (fun c => ?_) (fun c => ?_)
  · have hT := hT.1 c
    refine x_aload_n dX10_breaks_8 rfl rfl rfl ?_
    refine x_iload_n dX10_breaks_9 rfl rfl ?_
    refine m_puti dX10_breaks_10 f_TallySlateModel_311 (by decide) rfl rfl rfl rfl hW hF ?_
    intro h hW hF
    refine x_aload_n dX10_breaks_13 rfl rfl rfl ?_
    refine x_iload_n dX10_breaks_14 rfl rfl ?_
    refine m_puti dX10_breaks_15 f_TallySlateModel_314 (by decide) rfl rfl rfl rfl hW hF ?_
    intro h hW hF
    exact x_vret dX10_breaks_18 rfl ⟨_, _, rfl, hW, hF, hT⟩
  · have hT := hT.2 c
    exact x_vret dX10_breaks_7 rfl ⟨_, _, rfl, hW, hF, hT⟩
theorem eX10_breaks {l : Launch} {E : EN} {w : MO} {d : Nat} {s : MS} {Q : Option Value → MS → Prop} {x1 : Int32} {x2 : Int32} (hst : l.stackTraces = false) (hT : (((s.1 66) ≤ 0 → Q none (sI (sI s 66 x1) 67 x2)) ∧ (¬ (s.1 66) ≤ 0 → Q none s))) : EvM l E w d MX10_breaks [.ref w.1, .int x1, .int x2] s Q :=
  EvM.of hst (by decide) (Nat.le_of_ble_eq_true rfl) (vX10_breaks_0 hT)
set_option maxHeartbeats 16000000 in
theorem vX10_token_0 {l : Launch} {E : EN} {w : MO} {d : Nat} {s : MS} {Q : Option Value → MS → Prop} {x1 : Int32} (hT : (EvM l E w d MX10_begin [.ref w.1, .int x1] s (fun r s1 => ∃ v2 : Int32, r = some (.int v2) ∧ (EvM l E w d MX10_byteAt [.ref w.1, .int v2] (sL (sI s1 63 v2) 64 0) (fun r s3 => ∃ v4 : Int32, r = some (.int v4) ∧ (∀ y5 : Int32, y5 = (s3.1 63) → (((s3.1 63) < (s3.1 61) → (EvM l E w d MX10_isLetter [.int v4] s3 (fun r s6 => ∃ v7 : Int32, r = some (.int v7) ∧ ((v7 = 0 → (EvM l E w d MX10_isDigit [.int v4] s6 (fun r s8 => ∃ v9 : Int32, r = some (.int v9) ∧ ((v9 = 0 → (EvM l E w d MX10_signAt [.ref w.1, .int v4] s8 (fun r s10 => ∃ v11 : Int32, r = some (.int v11) ∧ Q none (sI s10 65 v11)))) ∧ (¬ v9 = 0 → ExM l E w (d + 1) MX10_token 135 [some (.ref w.1), none, none, some (.int y5)] [] s8 Q))))) ∧ (¬ v7 = 0 → ExM l E w (d + 1) MX10_token 54 [some (.ref w.1), none, none, some (.int y5)] [] s6 Q))))) ∧ (¬ (s3.1 63) < (s3.1 61) → Q none (sI (sI s3 62 0) 65 y5))))))))) : ExM l E w (d + 1) MX10_token 0 [some (.ref w.1), some (.int x1), none, none] [] s Q := by
  intro h0 h hW hF
  refine x_aload_n dX10_token_0 rfl rfl rfl ?_
  refine x_aload_n dX10_token_1 rfl rfl rfl ?_
  refine x_iload_n dX10_token_2 rfl rfl ?_
  refine m_inv (vs := [.int x1]) dX10_token_3 oX10_begin q2520 q2518 qs63 rfl rfl (Nat.le_of_ble_eq_true rfl) rfl hW hF hT ?_
  rintro _ s1 ⟨v2, rfl, hT⟩ h hW hF
  refine m_puti dX10_token_6 f_TallySlateModel_269 (by decide) rfl rfl rfl rfl hW hF ?_
  intro h hW hF
  refine x_aload_n dX10_token_9 rfl rfl rfl ?_
  refine x_lconst (v := 0) dX10_token_10 rfl ?_
  refine m_putl dX10_token_11 f_TallySlateModel_272 (by decide) rfl rfl rfl rfl hW hF ?_
  intro h hW hF
  refine x_aload_n dX10_token_14 rfl rfl rfl ?_
  refine x_aload_n dX10_token_15 rfl rfl rfl ?_
  refine m_geti (v := v2) dX10_token_16 f_TallySlateModel_269 (by decide) rfl hW rfl ?_
  refine m_inv (vs := [.int v2]) dX10_token_19 oX10_byteAt q2524 q2522 qs64 rfl rfl (Nat.le_of_ble_eq_true rfl) rfl hW hF hT ?_
  rintro _ s3 ⟨v4, rfl, hT⟩ h hW hF
  refine x_istore_n (lo' := [some (.ref w.1), some (.int x1), some (.int v4), none]) dX10_token_22 rfl (Nat.le_of_ble_eq_true rfl) rfl ?_
  refine x_aload_n dX10_token_23 rfl rfl rfl ?_
  refine m_geti (v := (s3.1 63)) dX10_token_24 f_TallySlateModel_269 (by decide) rfl hW rfl ?_
  obtain ⟨y5, ey5⟩ : ∃ z : Int32, z = (s3.1 63) := ⟨_, rfl⟩
  have hT := hT y5 ey5
  refine x_istore_n (lo' := [some (.ref w.1), some (.int x1), some (.int v4), some (.int y5)]) dX10_token_27 rfl (Nat.le_of_ble_eq_true rfl) (by rw [ey5]; rfl) ?_
  refine x_aload_n dX10_token_28 rfl rfl rfl ?_
  refine m_geti (v := (s3.1 63)) dX10_token_29 f_TallySlateModel_269 (by decide) rfl hW rfl ?_
  refine x_aload_n dX10_token_32 rfl rfl rfl ?_
  refine m_geti (v := (s3.1 61)) dX10_token_33 f_TallySlateModel_259 (by decide) rfl hW rfl ?_
  refine x_icmp_lt (tgt := 47) dX10_token_36 rfl (fun c => ?_) (fun c => ?_)
  · have hT := hT.1 c
    refine x_iload_n dX10_token_47 rfl rfl ?_
    refine m_invS (vs := [.int v4]) dX10_token_48 oX10_isLetter q2527 q2526 rfl rfl (Nat.le_of_ble_eq_true rfl) rfl hW hF hT ?_
    rintro _ s6 ⟨v7, rfl, hT⟩ h hW hF
    refine x_if_eq (tgt := 128) dX10_token_51 rfl (fun c => ?_) (fun c => ?_)
    · have hT := hT.1 c
      refine x_iload_n dX10_token_128 rfl rfl ?_
      refine m_invS (vs := [.int v4]) dX10_token_129 oX10_isDigit q2532 q2531 rfl rfl (Nat.le_of_ble_eq_true rfl) rfl hW hF hT ?_
      rintro _ s8 ⟨v9, rfl, hT⟩ h hW hF
      refine x_if_eq (tgt := 220) dX10_token_132 rfl (fun c => ?_) (fun c => ?_)
      · have hT := hT.1 c
        refine x_aload_n dX10_token_220 rfl rfl rfl ?_
        refine x_iload_n dX10_token_221 rfl rfl ?_
        refine m_inv (vs := [.int v4]) dX10_token_222 oX10_signAt q2539 q2537 qs65 rfl rfl (Nat.le_of_ble_eq_true rfl) rfl hW hF hT ?_
        rintro _ s10 ⟨v11, rfl, hT⟩ h hW hF
        refine x_istore_n (lo' := [some (.ref w.1), some (.int x1), some (.int v4), some (.int v11)]) dX10_token_225 rfl (Nat.le_of_ble_eq_true rfl) rfl ?_
        refine x_aload_n dX10_token_226 rfl rfl rfl ?_
        refine x_iload_n dX10_token_227 rfl rfl ?_
        refine m_puti dX10_token_228 f_TallySlateModel_299 (by decide) rfl rfl rfl rfl hW hF ?_
        intro h hW hF
        exact x_vret dX10_token_231 rfl ⟨_, _, rfl, hW, hF, hT⟩
      · have hT := hT.2 c
        refine Ex.wkl (lo' := [some (.ref w.1), none, none, some (.int y5)]) ⟨rfl, rfl, trivial⟩ ?_
        exact hT h0 h hW hF
    · have hT := hT.2 c
      refine Ex.wkl (lo' := [some (.ref w.1), none, none, some (.int y5)]) ⟨rfl, rfl, trivial⟩ ?_
      exact hT h0 h hW hF
  · have hT := hT.2 c
    refine x_aload_n dX10_token_39 rfl rfl rfl ?_
    refine x_iconst (v := 0) dX10_token_40 rfl ?_
    refine m_puti dX10_token_41 f_TallySlateModel_276 (by decide) rfl rfl rfl rfl hW hF ?_
    intro h hW hF
    refine x_goto (tgt := 226) dX10_token_44 rfl ?_
    refine x_aload_n dX10_token_226 rfl rfl rfl ?_
    refine x_iload_n dX10_token_227 rfl rfl ?_
    refine m_puti dX10_token_228 f_TallySlateModel_299 (by decide) rfl rfl rfl rfl hW hF ?_
    intro h hW hF
    exact x_vret dX10_token_231 rfl ⟨_, _, rfl, hW, hF, hT⟩
theorem eX10_token {l : Launch} {E : EN} {w : MO} {d : Nat} {s : MS} {Q : Option Value → MS → Prop} {x1 : Int32} (hst : l.stackTraces = false) (hT : (EvM l E w d MX10_begin [.ref w.1, .int x1] s (fun r s1 => ∃ v2 : Int32, r = some (.int v2) ∧ (EvM l E w d MX10_byteAt [.ref w.1, .int v2] (sL (sI s1 63 v2) 64 0) (fun r s3 => ∃ v4 : Int32, r = some (.int v4) ∧ (∀ y5 : Int32, y5 = (s3.1 63) → (((s3.1 63) < (s3.1 61) → (EvM l E w d MX10_isLetter [.int v4] s3 (fun r s6 => ∃ v7 : Int32, r = some (.int v7) ∧ ((v7 = 0 → (EvM l E w d MX10_isDigit [.int v4] s6 (fun r s8 => ∃ v9 : Int32, r = some (.int v9) ∧ ((v9 = 0 → (EvM l E w d MX10_signAt [.ref w.1, .int v4] s8 (fun r s10 => ∃ v11 : Int32, r = some (.int v11) ∧ Q none (sI s10 65 v11)))) ∧ (¬ v9 = 0 → ExM l E w (d + 1) MX10_token 135 [some (.ref w.1), none, none, some (.int y5)] [] s8 Q))))) ∧ (¬ v7 = 0 → ExM l E w (d + 1) MX10_token 54 [some (.ref w.1), none, none, some (.int y5)] [] s6 Q))))) ∧ (¬ (s3.1 63) < (s3.1 61) → Q none (sI (sI s3 62 0) 65 y5))))))))) : EvM l E w (d + 1) MX10_token [.ref w.1, .int x1] s Q :=
  EvM.of hst (by decide) (Nat.le_of_ble_eq_true rfl) (vX10_token_0 hT)
set_option maxHeartbeats 16000000 in
theorem vX10_token_135 {l : Launch} {E : EN} {w : MO} {d : Nat} {s : MS} {Q : Option Value → MS → Prop} {a3 : Int32} (hT : (EvM l E w d MX10_byteAt [.ref w.1, .int a3] s (fun r s1 => ∃ v2 : Int32, r = some (.int v2) ∧ (EvM l E w d MX10_isDigit [.int v2] s1 (fun r s3 => ∃ v4 : Int32, r = some (.int v4) ∧ ((v4 = 0 → ((10 < (a3 - (s3.1 63)) → Q none (sI (sI s3 62 4) 65 a3)) ∧ (¬ 10 < (a3 - (s3.1 63)) → (((lg_cmp (s3.2.1 64) 2147483647) ≤ 0 → Q none (sI (sI s3 62 2) 65 a3)) ∧ (¬ (lg_cmp (s3.2.1 64) 2147483647) ≤ 0 → Q none (sI (sI s3 62 4) 65 a3)))))) ∧ (¬ v4 = 0 → ((10 ≤ (a3 - (s3.1 63)) → ExM l E w (d + 1) MX10_token 135 [some (.ref w.1), none, none, some (.int (a3 + 1))] [] s3 Q) ∧ (¬ 10 ≤ (a3 - (s3.1 63)) → (EvM l E w d MX10_byteAt [.ref w.1, .int a3] s3 (fun r s5 => ∃ v6 : Int32, r = some (.int v6) ∧ ExM l E w (d + 1) MX10_token 135 [some (.ref w.1), none, none, some (.int (a3 + 1))] [] (sL s5 64 (((10 * (s3.2.1 64)) + v6.toInt64) - 48)) Q))))))))))) : ExM l E w (d + 1) MX10_token 135 [some (.ref w.1), none, none, some (.int a3)] [] s Q := by
  intro h0 h hW hF
  refine x_aload_n dX10_token_135 rfl rfl rfl ?_
  refine x_iload_n dX10_token_136 rfl rfl ?_
  refine m_inv (vs := [.int a3]) dX10_token_137 oX10_byteAt q2524 q2522 qs64 rfl rfl (Nat.le_of_ble_eq_true rfl) rfl hW hF hT ?_
  rintro _ s1 ⟨v2, rfl, hT⟩ h hW hF
  refine m_invS (vs := [.int v2]) dX10_token_140 oX10_isDigit q2532 q2531 rfl rfl (Nat.le_of_ble_eq_true rfl) rfl hW hF hT ?_
  rintro _ s3 ⟨v4, rfl, hT⟩ h hW hF
  refine x_if_eq (tgt := 186) dX10_token_143 rfl (fun c => ?_) (fun c => ?_)
  · have hT := hT.1 c
    refine x_aload_n dX10_token_186 rfl rfl rfl ?_
    refine x_iload_n dX10_token_187 rfl rfl ?_
    refine x_aload_n dX10_token_188 rfl rfl rfl ?_
    refine m_geti (v := (s3.1 63)) dX10_token_189 f_TallySlateModel_269 (by decide) rfl hW rfl ?_
    refine x_isub dX10_token_192 ?_
    refine x_bipush (v := 10) dX10_token_193 rfl ?_
    refine x_icmp_gt (tgt := 209) dX10_token_195 rfl (fun c => ?_) (fun c => ?_)
    · have hT := hT.1 c
      refine x_iconst (v := 4) dX10_token_209 rfl ?_
      refine x_goto (tgt := 214) dX10_token_210 rfl ?_
      refine m_puti dX10_token_214 f_TallySlateModel_276 (by decide) rfl rfl rfl rfl hW hF ?_
      intro h hW hF
      refine x_goto (tgt := 226) dX10_token_217 rfl ?_
      refine x_aload_n dX10_token_226 rfl rfl rfl ?_
      refine x_iload_n dX10_token_227 rfl rfl ?_
      refine m_puti dX10_token_228 f_TallySlateModel_299 (by decide) rfl rfl rfl rfl hW hF ?_
      intro h hW hF
      exact x_vret dX10_token_231 rfl ⟨_, _, rfl, hW, hF, hT⟩
    · have hT := hT.2 c
      refine x_aload_n dX10_token_198 rfl rfl rfl ?_
      refine m_getl (v := (s3.2.1 64)) dX10_token_199 f_TallySlateModel_272 (by decide) rfl hW rfl ?_
      refine x_ldc2 dX10_token_202 q2536 ?_
      refine x_lcmp dX10_token_205 ?_
      refine x_if_le (tgt := 213) dX10_token_206 rfl (fun c => ?_) (fun c => ?_)
      · have hT := hT.1 c
        refine x_iconst (v := 2) dX10_token_213 rfl ?_
        refine m_puti dX10_token_214 f_TallySlateModel_276 (by decide) rfl rfl rfl rfl hW hF ?_
        intro h hW hF
        refine x_goto (tgt := 226) dX10_token_217 rfl ?_
        refine x_aload_n dX10_token_226 rfl rfl rfl ?_
        refine x_iload_n dX10_token_227 rfl rfl ?_
        refine m_puti dX10_token_228 f_TallySlateModel_299 (by decide) rfl rfl rfl rfl hW hF ?_
        intro h hW hF
        exact x_vret dX10_token_231 rfl ⟨_, _, rfl, hW, hF, hT⟩
      · have hT := hT.2 c
        refine x_iconst (v := 4) dX10_token_209 rfl ?_
        refine x_goto (tgt := 214) dX10_token_210 rfl ?_
        refine m_puti dX10_token_214 f_TallySlateModel_276 (by decide) rfl rfl rfl rfl hW hF ?_
        intro h hW hF
        refine x_goto (tgt := 226) dX10_token_217 rfl ?_
        refine x_aload_n dX10_token_226 rfl rfl rfl ?_
        refine x_iload_n dX10_token_227 rfl rfl ?_
        refine m_puti dX10_token_228 f_TallySlateModel_299 (by decide) rfl rfl rfl rfl hW hF ?_
        intro h hW hF
        exact x_vret dX10_token_231 rfl ⟨_, _, rfl, hW, hF, hT⟩
  · have hT := hT.2 c
    refine x_iload_n dX10_token_146 rfl rfl ?_
    refine x_aload_n dX10_token_147 rfl rfl rfl ?_
    refine m_geti (v := (s3.1 63)) dX10_token_148 f_TallySlateModel_269 (by decide) rfl hW rfl ?_
    refine x_isub dX10_token_151 ?_
    refine x_bipush (v := 10) dX10_token_152 rfl ?_
    refine x_icmp_ge (tgt := 180) dX10_token_154 rfl (fun c => ?_) (fun c => ?_)
    · have hT := hT.1 c
      refine x_iinc (lo' := [some (.ref w.1), none, none, some (.int (a3 + 1))]) dX10_token_180 rfl (show _ = (a3 + 1) from rfl) rfl ?_
      refine x_goto (tgt := 135) dX10_token_183 rfl ?_
      exact hT h0 h hW hF
    · have hT := hT.2 c
      refine x_aload_n dX10_token_157 rfl rfl rfl ?_
      refine x_ldc2 dX10_token_158 q2534 ?_
      refine x_aload_n dX10_token_161 rfl rfl rfl ?_
      refine m_getl (v := (s3.2.1 64)) dX10_token_162 f_TallySlateModel_272 (by decide) rfl hW rfl ?_
      refine x_lmul dX10_token_165 ?_
      refine x_aload_n dX10_token_166 rfl rfl rfl ?_
      refine x_iload_n dX10_token_167 rfl rfl ?_
      refine m_inv (vs := [.int a3]) dX10_token_168 oX10_byteAt q2524 q2522 qs64 rfl rfl (Nat.le_of_ble_eq_true rfl) rfl hW hF hT ?_
      rintro _ s5 ⟨v6, rfl, hT⟩ h hW hF
      refine x_i2l dX10_token_171 ?_
      refine x_ladd dX10_token_172 ?_
      refine x_ldc2 dX10_token_173 q2535 ?_
      refine x_lsub dX10_token_176 ?_
      refine m_putl dX10_token_177 f_TallySlateModel_272 (by decide) rfl rfl rfl rfl hW hF ?_
      intro h hW hF
      refine x_iinc (lo' := [some (.ref w.1), none, none, some (.int (a3 + 1))]) dX10_token_180 rfl (show _ = (a3 + 1) from rfl) rfl ?_
      refine x_goto (tgt := 135) dX10_token_183 rfl ?_
      exact hT h0 h hW hF
set_option maxHeartbeats 16000000 in
theorem vX10_token_54 {l : Launch} {E : EN} {w : MO} {d : Nat} {s : MS} {Q : Option Value → MS → Prop} {a3 : Int32} (hT : (EvM l E w d MX10_byteAt [.ref w.1, .int a3] s (fun r s1 => ∃ v2 : Int32, r = some (.int v2) ∧ (EvM l E w d MX10_isLetter [.int v2] s1 (fun r s3 => ∃ v4 : Int32, r = some (.int v4) ∧ ((v4 = 0 → (((a3 - (s3.1 63)) ≤ 8 → Q none (sI (sI s3 62 1) 65 a3)) ∧ (¬ (a3 - (s3.1 63)) ≤ 8 → Q none (sI (sI s3 62 4) 65 a3)))) ∧ (¬ v4 = 0 → ((8 ≤ (a3 - (s3.1 63)) → ExM l E w (d + 1) MX10_token 54 [some (.ref w.1), none, none, some (.int (a3 + 1))] [] s3 Q) ∧ (¬ 8 ≤ (a3 - (s3.1 63)) → (EvM l E w d MX10_byteAt [.ref w.1, .int a3] s3 (fun r s5 => ∃ v6 : Int32, r = some (.int v6) ∧ ExM l E w (d + 1) MX10_token 54 [some (.ref w.1), none, none, some (.int (a3 + 1))] [] (sL s5 64 (((27 * (s3.2.1 64)) + v6.toInt64) - 96)) Q))))))))))) : ExM l E w (d + 1) MX10_token 54 [some (.ref w.1), none, none, some (.int a3)] [] s Q := by
  intro h0 h hW hF
  refine x_aload_n dX10_token_54 rfl rfl rfl ?_
  refine x_iload_n dX10_token_55 rfl rfl ?_
  refine m_inv (vs := [.int a3]) dX10_token_56 oX10_byteAt q2524 q2522 qs64 rfl rfl (Nat.le_of_ble_eq_true rfl) rfl hW hF hT ?_
  rintro _ s1 ⟨v2, rfl, hT⟩ h hW hF
  refine m_invS (vs := [.int v2]) dX10_token_59 oX10_isLetter q2527 q2526 rfl rfl (Nat.le_of_ble_eq_true rfl) rfl hW hF hT ?_
  rintro _ s3 ⟨v4, rfl, hT⟩ h hW hF
  refine x_if_eq (tgt := 105) dX10_token_62 rfl (fun c => ?_) (fun c => ?_)
  · have hT := hT.1 c
    refine x_aload_n dX10_token_105 rfl rfl rfl ?_
    refine x_iload_n dX10_token_106 rfl rfl ?_
    refine x_aload_n dX10_token_107 rfl rfl rfl ?_
    refine m_geti (v := (s3.1 63)) dX10_token_108 f_TallySlateModel_269 (by decide) rfl hW rfl ?_
    refine x_isub dX10_token_111 ?_
    refine x_bipush (v := 8) dX10_token_112 rfl ?_
    refine x_icmp_le (tgt := 121) dX10_token_114 rfl (fun c => ?_) (fun c => ?_)
    · have hT := hT.1 c
      refine x_iconst (v := 1) dX10_token_121 rfl ?_
      refine m_puti dX10_token_122 f_TallySlateModel_276 (by decide) rfl rfl rfl rfl hW hF ?_
      intro h hW hF
      refine x_goto (tgt := 226) dX10_token_125 rfl ?_
      refine x_aload_n dX10_token_226 rfl rfl rfl ?_
      refine x_iload_n dX10_token_227 rfl rfl ?_
      refine m_puti dX10_token_228 f_TallySlateModel_299 (by decide) rfl rfl rfl rfl hW hF ?_
      intro h hW hF
      exact x_vret dX10_token_231 rfl ⟨_, _, rfl, hW, hF, hT⟩
    · have hT := hT.2 c
      refine x_iconst (v := 4) dX10_token_117 rfl ?_
      refine x_goto (tgt := 122) dX10_token_118 rfl ?_
      refine m_puti dX10_token_122 f_TallySlateModel_276 (by decide) rfl rfl rfl rfl hW hF ?_
      intro h hW hF
      refine x_goto (tgt := 226) dX10_token_125 rfl ?_
      refine x_aload_n dX10_token_226 rfl rfl rfl ?_
      refine x_iload_n dX10_token_227 rfl rfl ?_
      refine m_puti dX10_token_228 f_TallySlateModel_299 (by decide) rfl rfl rfl rfl hW hF ?_
      intro h hW hF
      exact x_vret dX10_token_231 rfl ⟨_, _, rfl, hW, hF, hT⟩
  · have hT := hT.2 c
    refine x_iload_n dX10_token_65 rfl rfl ?_
    refine x_aload_n dX10_token_66 rfl rfl rfl ?_
    refine m_geti (v := (s3.1 63)) dX10_token_67 f_TallySlateModel_269 (by decide) rfl hW rfl ?_
    refine x_isub dX10_token_70 ?_
    refine x_bipush (v := 8) dX10_token_71 rfl ?_
    refine x_icmp_ge (tgt := 99) dX10_token_73 rfl (fun c => ?_) (fun c => ?_)
    · have hT := hT.1 c
      refine x_iinc (lo' := [some (.ref w.1), none, none, some (.int (a3 + 1))]) dX10_token_99 rfl (show _ = (a3 + 1) from rfl) rfl ?_
      refine x_goto (tgt := 54) dX10_token_102 rfl ?_
      exact hT h0 h hW hF
    · have hT := hT.2 c
      refine x_aload_n dX10_token_76 rfl rfl rfl ?_
      refine x_ldc2 dX10_token_77 q2529 ?_
      refine x_aload_n dX10_token_80 rfl rfl rfl ?_
      refine m_getl (v := (s3.2.1 64)) dX10_token_81 f_TallySlateModel_272 (by decide) rfl hW rfl ?_
      refine x_lmul dX10_token_84 ?_
      refine x_aload_n dX10_token_85 rfl rfl rfl ?_
      refine x_iload_n dX10_token_86 rfl rfl ?_
      refine m_inv (vs := [.int a3]) dX10_token_87 oX10_byteAt q2524 q2522 qs64 rfl rfl (Nat.le_of_ble_eq_true rfl) rfl hW hF hT ?_
      rintro _ s5 ⟨v6, rfl, hT⟩ h hW hF
      refine x_i2l dX10_token_90 ?_
      refine x_ladd dX10_token_91 ?_
      refine x_ldc2 dX10_token_92 q2530 ?_
      refine x_lsub dX10_token_95 ?_
      refine m_putl dX10_token_96 f_TallySlateModel_272 (by decide) rfl rfl rfl rfl hW hF ?_
      intro h hW hF
      refine x_iinc (lo' := [some (.ref w.1), none, none, some (.int (a3 + 1))]) dX10_token_99 rfl (show _ = (a3 + 1) from rfl) rfl ?_
      refine x_goto (tgt := 54) dX10_token_102 rfl ?_
      exact hT h0 h hW hF
theorem vX10_begin_0 {l : Launch} {E : EN} {w : MO} {d : Nat} {s : MS} {Q : Option Value → MS → Prop} {x1 : Int32} (hT : ExM l E w (d + 1) MX10_begin 4 [some (.ref w.1), none, some (.int x1), some (.int 1), none] [] s Q) : ExM l E w (d + 1) MX10_begin 0 [some (.ref w.1), some (.int x1), none, none, none] [] s Q := by
  intro h0 h hW hF
  refine x_iload_n dX10_begin_0 rfl rfl ?_
  refine x_istore_n (lo' := [some (.ref w.1), some (.int x1), some (.int x1), none, none]) dX10_begin_1 rfl (Nat.le_of_ble_eq_true rfl) rfl ?_
  refine x_iconst (v := 1) dX10_begin_2 rfl ?_
  refine x_istore_n (lo' := [some (.ref w.1), some (.int x1), some (.int x1), some (.int 1), none]) dX10_begin_3 rfl (Nat.le_of_ble_eq_true rfl) rfl ?_
  refine Ex.wkl (lo' := [some (.ref w.1), none, some (.int x1), some (.int 1), none]) ⟨rfl, rfl, rfl, trivial⟩ ?_
  exact hT h0 h hW hF
theorem eX10_begin {l : Launch} {E : EN} {w : MO} {d : Nat} {s : MS} {Q : Option Value → MS → Prop} {x1 : Int32} (hst : l.stackTraces = false) (hT : ExM l E w (d + 1) MX10_begin 4 [some (.ref w.1), none, some (.int x1), some (.int 1), none] [] s Q) : EvM l E w (d + 1) MX10_begin [.ref w.1, .int x1] s Q :=
  EvM.of hst (by decide) (Nat.le_of_ble_eq_true rfl) (vX10_begin_0 hT)
theorem vX10_begin_4 {l : Launch} {E : EN} {w : MO} {d : Nat} {s : MS} {Q : Option Value → MS → Prop} {a2 : Int32} {a3 : Int32} (hT : ((a3 = 0 → Q (some (.int a2)) s) ∧ (¬ a3 = 0 → (((s.1 61) ≤ a2 → Q (some (.int a2)) s) ∧ (¬ (s.1 61) ≤ a2 → (EvM l E w d MX10_byteAt [.ref w.1, .int a2] s (fun r s1 => ∃ v2 : Int32, r = some (.int v2) ∧ ((¬ v2 = 35 → ((v2 = 32 → ExM l E w (d + 1) MX10_begin 4 [some (.ref w.1), none, some (.int (a2 + 1)), some (.int a3), none] [] s1 Q) ∧ (¬ v2 = 32 → ((¬ v2 = 10 → ExM l E w (d + 1) MX10_begin 4 [some (.ref w.1), none, some (.int a2), some (.int 0), none] [] s1 Q) ∧ (v2 = 10 → ExM l E w (d + 1) MX10_begin 4 [some (.ref w.1), none, some (.int (a2 + 1)), some (.int a3), none] [] s1 Q))))) ∧ (v2 = 35 → ExM l E w (d + 1) MX10_begin 30 [some (.ref w.1), none, some (.int a2), some (.int a3), none] [] s1 Q))))))))) : ExM l E w (d + 1) MX10_begin 4 [some (.ref w.1), none, some (.int a2), some (.int a3), none] [] s Q := by
  intro h0 h hW hF
  refine x_iload_n dX10_begin_4 rfl rfl ?_
  refine x_if_eq (tgt := 79) dX10_begin_5 rfl (fun c => ?_) (fun c => ?_)
  · have hT := hT.1 c
    refine x_iload_n dX10_begin_79 rfl rfl ?_
    exact x_iret dX10_begin_80 rfl rfl ⟨_, _, rfl, hW, hF, hT⟩
  · have hT := hT.2 c
    refine x_iload_n dX10_begin_8 rfl rfl ?_
    refine x_aload_n dX10_begin_9 rfl rfl rfl ?_
    refine m_geti (v := (s.1 61)) dX10_begin_10 f_TallySlateModel_259 (by decide) rfl hW rfl ?_
    refine x_icmp_ge (tgt := 79) dX10_begin_13 rfl (fun c => ?_) (fun c => ?_)
    · have hT := hT.1 c
      refine x_iload_n dX10_begin_79 rfl rfl ?_
      exact x_iret dX10_begin_80 rfl rfl ⟨_, _, rfl, hW, hF, hT⟩
    · have hT := hT.2 c
      refine x_aload_n dX10_begin_16 rfl rfl rfl ?_
      refine x_iload_n dX10_begin_17 rfl rfl ?_
      refine m_inv (vs := [.int a2]) dX10_begin_18 oX10_byteAt q2524 q2522 qs64 rfl rfl (Nat.le_of_ble_eq_true rfl) rfl hW hF hT ?_
      rintro _ s1 ⟨v2, rfl, hT⟩ h hW hF
      refine x_istore (lo' := [some (.ref w.1), none, some (.int a2), some (.int a3), some (.int v2)]) dX10_begin_21 (Nat.le_of_ble_eq_true rfl) rfl ?_
      refine x_iload dX10_begin_23 rfl ?_
      refine x_bipush (v := 35) dX10_begin_25 rfl ?_
      refine x_icmp_ne (tgt := 54) dX10_begin_27 rfl (fun c => ?_) (fun c => ?_)
      · have hT := hT.1 c
        refine x_iload dX10_begin_54 rfl ?_
        refine x_bipush (v := 32) dX10_begin_56 rfl ?_
        refine x_icmp_eq (tgt := 68) dX10_begin_58 rfl (fun c => ?_) (fun c => ?_)
        · have hT := hT.1 c
          refine x_iinc (lo' := [some (.ref w.1), none, some (.int (a2 + 1)), some (.int a3), some (.int v2)]) dX10_begin_68 rfl (show _ = (a2 + 1) from rfl) rfl ?_
          refine x_goto (tgt := 76) dX10_begin_71 rfl ?_
          refine x_goto (tgt := 4) dX10_begin_76 rfl ?_
          refine Ex.wkl (lo' := [some (.ref w.1), none, some (.int (a2 + 1)), some (.int a3), none]) ⟨rfl, rfl, rfl, trivial⟩ ?_
          exact hT h0 h hW hF
        · have hT := hT.2 c
          refine x_iload dX10_begin_61 rfl ?_
          refine x_bipush (v := 10) dX10_begin_63 rfl ?_
          refine x_icmp_ne (tgt := 74) dX10_begin_65 rfl (fun c => ?_) (fun c => ?_)
          · have hT := hT.1 c
            refine x_iconst (v := 0) dX10_begin_74 rfl ?_
            refine x_istore_n (lo' := [some (.ref w.1), none, some (.int a2), some (.int 0), some (.int v2)]) dX10_begin_75 rfl (Nat.le_of_ble_eq_true rfl) rfl ?_
            refine x_goto (tgt := 4) dX10_begin_76 rfl ?_
            refine Ex.wkl (lo' := [some (.ref w.1), none, some (.int a2), some (.int 0), none]) ⟨rfl, rfl, rfl, trivial⟩ ?_
            exact hT h0 h hW hF
          · have hT := hT.2 c
            refine x_iinc (lo' := [some (.ref w.1), none, some (.int (a2 + 1)), some (.int a3), some (.int v2)]) dX10_begin_68 rfl (show _ = (a2 + 1) from rfl) rfl ?_
            refine x_goto (tgt := 76) dX10_begin_71 rfl ?_
            refine x_goto (tgt := 4) dX10_begin_76 rfl ?_
            refine Ex.wkl (lo' := [some (.ref w.1), none, some (.int (a2 + 1)), some (.int a3), none]) ⟨rfl, rfl, rfl, trivial⟩ ?_
            exact hT h0 h hW hF
      · have hT := hT.2 c
        refine Ex.wkl (lo' := [some (.ref w.1), none, some (.int a2), some (.int a3), none]) ⟨rfl, rfl, rfl, trivial⟩ ?_
        exact hT h0 h hW hF
theorem vX10_begin_30 {l : Launch} {E : EN} {w : MO} {d : Nat} {s : MS} {Q : Option Value → MS → Prop} {a2 : Int32} {a3 : Int32} (hT : (((s.1 61) ≤ a2 → ExM l E w (d + 1) MX10_begin 4 [some (.ref w.1), none, some (.int a2), some (.int a3), none] [] s Q) ∧ (¬ (s.1 61) ≤ a2 → (EvM l E w d MX10_byteAt [.ref w.1, .int a2] s (fun r s1 => ∃ v2 : Int32, r = some (.int v2) ∧ ((v2 = 10 → ExM l E w (d + 1) MX10_begin 4 [some (.ref w.1), none, some (.int a2), some (.int a3), none] [] s1 Q) ∧ (¬ v2 = 10 → ExM l E w (d + 1) MX10_begin 30 [some (.ref w.1), none, some (.int (a2 + 1)), some (.int a3), none] [] s1 Q))))))) : ExM l E w (d + 1) MX10_begin 30 [some (.ref w.1), none, some (.int a2), some (.int a3), none] [] s Q := by
  intro h0 h hW hF
  refine x_iload_n dX10_begin_30 rfl rfl ?_
  refine x_aload_n dX10_begin_31 rfl rfl rfl ?_
  refine m_geti (v := (s.1 61)) dX10_begin_32 f_TallySlateModel_259 (by decide) rfl hW rfl ?_
  refine x_icmp_ge (tgt := 76) dX10_begin_35 rfl (fun c => ?_) (fun c => ?_)
  · have hT := hT.1 c
    refine x_goto (tgt := 4) dX10_begin_76 rfl ?_
    exact hT h0 h hW hF
  · have hT := hT.2 c
    refine x_aload_n dX10_begin_38 rfl rfl rfl ?_
    refine x_iload_n dX10_begin_39 rfl rfl ?_
    refine m_inv (vs := [.int a2]) dX10_begin_40 oX10_byteAt q2524 q2522 qs64 rfl rfl (Nat.le_of_ble_eq_true rfl) rfl hW hF hT ?_
    rintro _ s1 ⟨v2, rfl, hT⟩ h hW hF
    refine x_bipush (v := 10) dX10_begin_43 rfl ?_
    refine x_icmp_eq (tgt := 76) dX10_begin_45 rfl (fun c => ?_) (fun c => ?_)
    · have hT := hT.1 c
      refine x_goto (tgt := 4) dX10_begin_76 rfl ?_
      exact hT h0 h hW hF
    · have hT := hT.2 c
      refine x_iinc (lo' := [some (.ref w.1), none, some (.int (a2 + 1)), some (.int a3), none]) dX10_begin_48 rfl (show _ = (a2 + 1) from rfl) rfl ?_
      refine x_goto (tgt := 30) dX10_begin_51 rfl ?_
      exact hT h0 h hW hF
theorem vX10_byteAt_0 {l : Launch} {E : EN} {w : MO} {d : Nat} {s : MS} {Q : Option Value → MS → Prop} {x1 : Int32} (hT : (((s.1 61) ≤ x1 → Q (some (.int 0)) s) ∧ (¬ (s.1 61) ≤ x1 → (inB x1 1620 ∧ Q (some (.int ((s.2.2.1 59 x1.toNatClampNeg) &&& 255))) s)))) : ExM l E w d MX10_byteAt 0 [some (.ref w.1), some (.int x1)] [] s Q := by
  intro h0 h hW hF
  refine x_iload_n dX10_byteAt_0 rfl rfl ?_
  refine x_aload_n dX10_byteAt_1 rfl rfl rfl ?_
  refine m_geti (v := (s.1 61)) dX10_byteAt_2 f_TallySlateModel_259 (by decide) rfl hW rfl ?_
  refine x_icmp_ge (tgt := 21) dX10_byteAt_5 rfl (fun c => ?_) (fun c => ?_)
  · have hT := hT.1 c
    refine x_iconst (v := 0) dX10_byteAt_21 rfl ?_
    exact x_iret dX10_byteAt_22 rfl rfl ⟨_, _, rfl, hW, hF, hT⟩
  · have hT := hT.2 c
    refine x_aload_n dX10_byteAt_8 rfl rfl rfl ?_
    refine m_geta dX10_byteAt_9 f_TallySlateModel_99 (by decide) rfl hW ?_
    refine x_iload_n dX10_byteAt_12 rfl rfl ?_
    obtain ⟨hb, hT⟩ := hT
    refine m_bald (v := (s.2.2.1 59 x1.toNatClampNeg)) dX10_byteAt_13 rfl hb hW rfl ?_
    refine x_sipush (v := 255) dX10_byteAt_14 rfl ?_
    refine x_iand dX10_byteAt_17 ?_
    refine x_goto (tgt := 22) dX10_byteAt_18 rfl ?_
    exact x_iret dX10_byteAt_22 rfl rfl ⟨_, _, rfl, hW, hF, hT⟩
theorem eX10_byteAt {l : Launch} {E : EN} {w : MO} {d : Nat} {s : MS} {Q : Option Value → MS → Prop} {x1 : Int32} (hst : l.stackTraces = false) (hT : (((s.1 61) ≤ x1 → Q (some (.int 0)) s) ∧ (¬ (s.1 61) ≤ x1 → (inB x1 1620 ∧ Q (some (.int ((s.2.2.1 59 x1.toNatClampNeg) &&& 255))) s)))) : EvM l E w d MX10_byteAt [.ref w.1, .int x1] s Q :=
  EvM.of hst (by decide) (Nat.le_of_ble_eq_true rfl) (vX10_byteAt_0 hT)
theorem vX10_isLetter_0 {l : Launch} {E : EN} {w : MO} {d : Nat} {s : MS} {Q : Option Value → MS → Prop} {x1 : Int32} (hT : ((x1 < 97 → Q (some (.int 0)) s) ∧ (¬ x1 < 97 → ((122 < x1 → Q (some (.int 0)) s) ∧ (¬ 122 < x1 → Q (some (.int 1)) s))))) : ExM l E w d MX10_isLetter 0 [some (.int x1)] [] s Q := by
  intro h0 h hW hF
  refine x_iload_n dX10_isLetter_0 rfl rfl ?_
  refine x_bipush (v := 97) dX10_isLetter_1 rfl ?_
  refine x_icmp_lt (tgt := 16) dX10_isLetter_3 rfl (fun c => ?_) (fun c => ?_)
  · have hT := hT.1 c
    refine x_iconst (v := 0) dX10_isLetter_16 rfl ?_
    exact x_iret dX10_isLetter_17 rfl rfl ⟨_, _, rfl, hW, hF, hT⟩
  · have hT := hT.2 c
    refine x_iload_n dX10_isLetter_6 rfl rfl ?_
    refine x_bipush (v := 122) dX10_isLetter_7 rfl ?_
    refine x_icmp_gt (tgt := 16) dX10_isLetter_9 rfl (fun c => ?_) (fun c => ?_)
    · have hT := hT.1 c
      refine x_iconst (v := 0) dX10_isLetter_16 rfl ?_
      exact x_iret dX10_isLetter_17 rfl rfl ⟨_, _, rfl, hW, hF, hT⟩
    · have hT := hT.2 c
      refine x_iconst (v := 1) dX10_isLetter_12 rfl ?_
      refine x_goto (tgt := 17) dX10_isLetter_13 rfl ?_
      exact x_iret dX10_isLetter_17 rfl rfl ⟨_, _, rfl, hW, hF, hT⟩
theorem eX10_isLetter {l : Launch} {E : EN} {w : MO} {d : Nat} {s : MS} {Q : Option Value → MS → Prop} {x1 : Int32} (hst : l.stackTraces = false) (hT : ((x1 < 97 → Q (some (.int 0)) s) ∧ (¬ x1 < 97 → ((122 < x1 → Q (some (.int 0)) s) ∧ (¬ 122 < x1 → Q (some (.int 1)) s))))) : EvM l E w d MX10_isLetter [.int x1] s Q :=
  EvM.of hst (by decide) (Nat.le_of_ble_eq_true rfl) (vX10_isLetter_0 hT)
theorem vX10_isDigit_0 {l : Launch} {E : EN} {w : MO} {d : Nat} {s : MS} {Q : Option Value → MS → Prop} {x1 : Int32} (hT : ((x1 < 48 → Q (some (.int 0)) s) ∧ (¬ x1 < 48 → ((57 < x1 → Q (some (.int 0)) s) ∧ (¬ 57 < x1 → Q (some (.int 1)) s))))) : ExM l E w d MX10_isDigit 0 [some (.int x1)] [] s Q := by
  intro h0 h hW hF
  refine x_iload_n dX10_isDigit_0 rfl rfl ?_
  refine x_bipush (v := 48) dX10_isDigit_1 rfl ?_
  refine x_icmp_lt (tgt := 16) dX10_isDigit_3 rfl (fun c => ?_) (fun c => ?_)
  · have hT := hT.1 c
    refine x_iconst (v := 0) dX10_isDigit_16 rfl ?_
    exact x_iret dX10_isDigit_17 rfl rfl ⟨_, _, rfl, hW, hF, hT⟩
  · have hT := hT.2 c
    refine x_iload_n dX10_isDigit_6 rfl rfl ?_
    refine x_bipush (v := 57) dX10_isDigit_7 rfl ?_
    refine x_icmp_gt (tgt := 16) dX10_isDigit_9 rfl (fun c => ?_) (fun c => ?_)
    · have hT := hT.1 c
      refine x_iconst (v := 0) dX10_isDigit_16 rfl ?_
      exact x_iret dX10_isDigit_17 rfl rfl ⟨_, _, rfl, hW, hF, hT⟩
    · have hT := hT.2 c
      refine x_iconst (v := 1) dX10_isDigit_12 rfl ?_
      refine x_goto (tgt := 17) dX10_isDigit_13 rfl ?_
      exact x_iret dX10_isDigit_17 rfl rfl ⟨_, _, rfl, hW, hF, hT⟩
theorem eX10_isDigit {l : Launch} {E : EN} {w : MO} {d : Nat} {s : MS} {Q : Option Value → MS → Prop} {x1 : Int32} (hst : l.stackTraces = false) (hT : ((x1 < 48 → Q (some (.int 0)) s) ∧ (¬ x1 < 48 → ((57 < x1 → Q (some (.int 0)) s) ∧ (¬ 57 < x1 → Q (some (.int 1)) s))))) : EvM l E w d MX10_isDigit [.int x1] s Q :=
  EvM.of hst (by decide) (Nat.le_of_ble_eq_true rfl) (vX10_isDigit_0 hT)
theorem vX10_signAt_0 {l : Launch} {E : EN} {w : MO} {d : Nat} {s : MS} {Q : Option Value → MS → Prop} {x1 : Int32} (hT : (EvM l E w d MX10_byteAt [.ref w.1, .int ((s.1 63) + 1)] (sI s 62 3) (fun r s1 => ∃ v2 : Int32, r = some (.int v2) ∧ ((¬ v2 = 61 → ExM l E w (d + 1) MX10_signAt 25 [some (.ref w.1), some (.int x1), none, none] [.int 0] s1 Q) ∧ (v2 = 61 → ExM l E w (d + 1) MX10_signAt 25 [some (.ref w.1), some (.int x1), none, none] [.int 1] s1 Q))))) : ExM l E w (d + 1) MX10_signAt 0 [some (.ref w.1), some (.int x1), none, none] [] s Q := by
  intro h0 h hW hF
  refine x_aload_n dX10_signAt_0 rfl rfl rfl ?_
  refine x_iconst (v := 3) dX10_signAt_1 rfl ?_
  refine m_puti dX10_signAt_2 f_TallySlateModel_276 (by decide) rfl rfl rfl rfl hW hF ?_
  intro h hW hF
  refine x_aload_n dX10_signAt_5 rfl rfl rfl ?_
  refine x_aload_n dX10_signAt_6 rfl rfl rfl ?_
  refine m_geti (v := (s.1 63)) dX10_signAt_7 f_TallySlateModel_269 (by decide) rfl hW rfl ?_
  refine x_iconst (v := 1) dX10_signAt_10 rfl ?_
  refine x_iadd dX10_signAt_11 ?_
  refine m_inv (vs := [.int ((s.1 63) + 1)]) dX10_signAt_12 oX10_byteAt q2524 q2522 qs64 rfl rfl (Nat.le_of_ble_eq_true rfl) rfl hW hF hT ?_
  rintro _ s1 ⟨v2, rfl, hT⟩ h hW hF
  refine x_bipush (v := 61) dX10_signAt_15 rfl ?_
  refine x_icmp_ne (tgt := 24) dX10_signAt_17 rfl (fun c => ?_) (fun c => ?_)
  · have hT := hT.1 c
    refine x_iconst (v := 0) dX10_signAt_24 rfl ?_
    exact hT h0 h hW hF
  · have hT := hT.2 c
    refine x_iconst (v := 1) dX10_signAt_20 rfl ?_
    refine x_goto (tgt := 25) dX10_signAt_21 rfl ?_
    exact hT h0 h hW hF
theorem eX10_signAt {l : Launch} {E : EN} {w : MO} {d : Nat} {s : MS} {Q : Option Value → MS → Prop} {x1 : Int32} (hst : l.stackTraces = false) (hT : (EvM l E w d MX10_byteAt [.ref w.1, .int ((s.1 63) + 1)] (sI s 62 3) (fun r s1 => ∃ v2 : Int32, r = some (.int v2) ∧ ((¬ v2 = 61 → ExM l E w (d + 1) MX10_signAt 25 [some (.ref w.1), some (.int x1), none, none] [.int 0] s1 Q) ∧ (v2 = 61 → ExM l E w (d + 1) MX10_signAt 25 [some (.ref w.1), some (.int x1), none, none] [.int 1] s1 Q))))) : EvM l E w (d + 1) MX10_signAt [.ref w.1, .int x1] s Q :=
  EvM.of hst (by decide) (Nat.le_of_ble_eq_true rfl) (vX10_signAt_0 hT)
set_option maxHeartbeats 16000000 in
theorem vX10_signAt_25 {l : Launch} {E : EN} {w : MO} {d : Nat} {s : MS} {Q : Option Value → MS → Prop} {a1 : Int32} {b0 : Int32} (hT : ((b0 = 0 → ((a1 = 123 → ExM l E w (d + 1) MX10_signAt 218 [some (.ref w.1), some (.int a1), none, none] [] s Q) ∧ (¬ a1 = 123 → ((a1 = 125 → ExM l E w (d + 1) MX10_signAt 218 [some (.ref w.1), some (.int a1), none, none] [] s Q) ∧ (¬ a1 = 125 → ((a1 = 40 → ExM l E w (d + 1) MX10_signAt 218 [some (.ref w.1), some (.int a1), none, none] [] s Q) ∧ (¬ a1 = 40 → ((a1 = 41 → ExM l E w (d + 1) MX10_signAt 218 [some (.ref w.1), some (.int a1), none, none] [] s Q) ∧ (¬ a1 = 41 → ((a1 = 91 → ExM l E w (d + 1) MX10_signAt 218 [some (.ref w.1), some (.int a1), none, none] [] s Q) ∧ (¬ a1 = 91 → ((a1 = 93 → ExM l E w (d + 1) MX10_signAt 218 [some (.ref w.1), some (.int a1), none, none] [] s Q) ∧ (¬ a1 = 93 → ((a1 = 59 → ExM l E w (d + 1) MX10_signAt 218 [some (.ref w.1), some (.int a1), none, none] [] s Q) ∧ (¬ a1 = 59 → ((a1 = 44 → ExM l E w (d + 1) MX10_signAt 218 [some (.ref w.1), some (.int a1), none, none] [] s Q) ∧ (¬ a1 = 44 → ((a1 = 61 → ExM l E w (d + 1) MX10_signAt 218 [some (.ref w.1), some (.int a1), none, none] [] s Q) ∧ (¬ a1 = 61 → ((a1 = 60 → ExM l E w (d + 1) MX10_signAt 218 [some (.ref w.1), some (.int a1), none, none] [] s Q) ∧ (¬ a1 = 60 → ((a1 = 62 → ExM l E w (d + 1) MX10_signAt 218 [some (.ref w.1), some (.int a1), none, none] [] s Q) ∧ (¬ a1 = 62 → ((a1 = 43 → ExM l E w (d + 1) MX10_signAt 218 [some (.ref w.1), some (.int a1), none, none] [] s Q) ∧ (¬ a1 = 43 → ((a1 = 45 → ExM l E w (d + 1) MX10_signAt 218 [some (.ref w.1), some (.int a1), none, none] [] s Q) ∧ (¬ a1 = 45 → ((a1 = 42 → ExM l E w (d + 1) MX10_signAt 218 [some (.ref w.1), some (.int a1), none, none] [] s Q) ∧ (¬ a1 = 42 → ((a1 = 47 → ExM l E w (d + 1) MX10_signAt 218 [some (.ref w.1), some (.int a1), none, none] [] s Q) ∧ (¬ a1 = 47 → ((a1 = 37 → ExM l E w (d + 1) MX10_signAt 218 [some (.ref w.1), some (.int a1), none, none] [] s Q) ∧ (¬ a1 = 37 → ((a1 = 38 → ExM l E w (d + 1) MX10_signAt 218 [some (.ref w.1), some (.int a1), none, none] [] s Q) ∧ (¬ a1 = 38 → ((a1 = 124 → ExM l E w (d + 1) MX10_signAt 218 [some (.ref w.1), some (.int a1), none, none] [] s Q) ∧ (¬ a1 = 124 → ((¬ a1 = 33 → Q (some (.int ((s.1 63) + 1))) (sI (sL s 64 a1.toInt64) 62 4)) ∧ (a1 = 33 → ExM l E w (d + 1) MX10_signAt 218 [some (.ref w.1), some (.int a1), none, none] [] s Q))))))))))))))))))))))))))))))))))))))) ∧ (¬ b0 = 0 → ((a1 = 61 → ((¬ a1 = 61 → ((¬ a1 = 33 → ((¬ a1 = 60 → Q (some (.int ((s.1 63) + 2))) (sL s 64 259)) ∧ (a1 = 60 → Q (some (.int ((s.1 63) + 2))) (sL s 64 258)))) ∧ (a1 = 33 → Q (some (.int ((s.1 63) + 2))) (sL s 64 257)))) ∧ (a1 = 61 → Q (some (.int ((s.1 63) + 2))) (sL s 64 256)))) ∧ (¬ a1 = 61 → ((a1 = 33 → ((¬ a1 = 61 → ((¬ a1 = 33 → ((¬ a1 = 60 → Q (some (.int ((s.1 63) + 2))) (sL s 64 259)) ∧ (a1 = 60 → Q (some (.int ((s.1 63) + 2))) (sL s 64 258)))) ∧ (a1 = 33 → Q (some (.int ((s.1 63) + 2))) (sL s 64 257)))) ∧ (a1 = 61 → Q (some (.int ((s.1 63) + 2))) (sL s 64 256)))) ∧ (¬ a1 = 33 → ((a1 = 60 → ((¬ a1 = 61 → ((¬ a1 = 33 → ((¬ a1 = 60 → Q (some (.int ((s.1 63) + 2))) (sL s 64 259)) ∧ (a1 = 60 → Q (some (.int ((s.1 63) + 2))) (sL s 64 258)))) ∧ (a1 = 33 → Q (some (.int ((s.1 63) + 2))) (sL s 64 257)))) ∧ (a1 = 61 → Q (some (.int ((s.1 63) + 2))) (sL s 64 256)))) ∧ (¬ a1 = 60 → ((¬ a1 = 62 → ((a1 = 123 → ExM l E w (d + 1) MX10_signAt 218 [some (.ref w.1), some (.int a1), none, none] [] s Q) ∧ (¬ a1 = 123 → ((a1 = 125 → ExM l E w (d + 1) MX10_signAt 218 [some (.ref w.1), some (.int a1), none, none] [] s Q) ∧ (¬ a1 = 125 → ((a1 = 40 → ExM l E w (d + 1) MX10_signAt 218 [some (.ref w.1), some (.int a1), none, none] [] s Q) ∧ (¬ a1 = 40 → ((a1 = 41 → ExM l E w (d + 1) MX10_signAt 218 [some (.ref w.1), some (.int a1), none, none] [] s Q) ∧ (¬ a1 = 41 → ((a1 = 91 → ExM l E w (d + 1) MX10_signAt 218 [some (.ref w.1), some (.int a1), none, none] [] s Q) ∧ (¬ a1 = 91 → ((a1 = 93 → ExM l E w (d + 1) MX10_signAt 218 [some (.ref w.1), some (.int a1), none, none] [] s Q) ∧ (¬ a1 = 93 → ((a1 = 59 → ExM l E w (d + 1) MX10_signAt 218 [some (.ref w.1), some (.int a1), none, none] [] s Q) ∧ (¬ a1 = 59 → ((a1 = 44 → ExM l E w (d + 1) MX10_signAt 218 [some (.ref w.1), some (.int a1), none, none] [] s Q) ∧ (¬ a1 = 44 → ((a1 = 61 → ExM l E w (d + 1) MX10_signAt 218 [some (.ref w.1), some (.int a1), none, none] [] s Q) ∧ (¬ a1 = 61 → ((a1 = 60 → ExM l E w (d + 1) MX10_signAt 218 [some (.ref w.1), some (.int a1), none, none] [] s Q) ∧ (¬ a1 = 60 → ((a1 = 62 → ExM l E w (d + 1) MX10_signAt 218 [some (.ref w.1), some (.int a1), none, none] [] s Q) ∧ (¬ a1 = 62 → ((a1 = 43 → ExM l E w (d + 1) MX10_signAt 218 [some (.ref w.1), some (.int a1), none, none] [] s Q) ∧ (¬ a1 = 43 → ((a1 = 45 → ExM l E w (d + 1) MX10_signAt 218 [some (.ref w.1), some (.int a1), none, none] [] s Q) ∧ (¬ a1 = 45 → ((a1 = 42 → ExM l E w (d + 1) MX10_signAt 218 [some (.ref w.1), some (.int a1), none, none] [] s Q) ∧ (¬ a1 = 42 → ((a1 = 47 → ExM l E w (d + 1) MX10_signAt 218 [some (.ref w.1), some (.int a1), none, none] [] s Q) ∧ (¬ a1 = 47 → ((a1 = 37 → ExM l E w (d + 1) MX10_signAt 218 [some (.ref w.1), some (.int a1), none, none] [] s Q) ∧ (¬ a1 = 37 → ((a1 = 38 → ExM l E w (d + 1) MX10_signAt 218 [some (.ref w.1), some (.int a1), none, none] [] s Q) ∧ (¬ a1 = 38 → ((a1 = 124 → ExM l E w (d + 1) MX10_signAt 218 [some (.ref w.1), some (.int a1), none, none] [] s Q) ∧ (¬ a1 = 124 → ((¬ a1 = 33 → Q (some (.int ((s.1 63) + 1))) (sI (sL s 64 a1.toInt64) 62 4)) ∧ (a1 = 33 → ExM l E w (d + 1) MX10_signAt 218 [some (.ref w.1), some (.int a1), none, none] [] s Q))))))))))))))))))))))))))))))))))))))) ∧ (a1 = 62 → ((¬ a1 = 61 → ((¬ a1 = 33 → ((¬ a1 = 60 → Q (some (.int ((s.1 63) + 2))) (sL s 64 259)) ∧ (a1 = 60 → Q (some (.int ((s.1 63) + 2))) (sL s 64 258)))) ∧ (a1 = 33 → Q (some (.int ((s.1 63) + 2))) (sL s 64 257)))) ∧ (a1 = 61 → Q (some (.int ((s.1 63) + 2))) (sL s 64 256)))))))))))))) : ExM l E w (d + 1) MX10_signAt 25 [some (.ref w.1), some (.int a1), none, none] [.int b0] s Q := by
  intro h0 h hW hF
  refine x_istore_n (lo' := [some (.ref w.1), some (.int a1), some (.int b0), none]) dX10_signAt_25 rfl (Nat.le_of_ble_eq_true rfl) rfl ?_
  refine x_iload_n dX10_signAt_26 rfl rfl ?_
  refine x_if_eq (tgt := 104) dX10_signAt_27 rfl (fun c => ?_) (fun c => ?_)
  · have hT := hT.1 c
    refine x_iload_n dX10_signAt_104 rfl rfl ?_
    refine x_bipush (v := 123) dX10_signAt_105 rfl ?_
    refine x_icmp_eq (tgt := 218) dX10_signAt_107 rfl (fun c => ?_) (fun c => ?_)
    · have hT := hT.1 c
      refine Ex.wkl (lo' := [some (.ref w.1), some (.int a1), none, none]) ⟨rfl, rfl, trivial⟩ ?_
      exact hT h0 h hW hF
    · have hT := hT.2 c
      refine x_iload_n dX10_signAt_110 rfl rfl ?_
      refine x_bipush (v := 125) dX10_signAt_111 rfl ?_
      refine x_icmp_eq (tgt := 218) dX10_signAt_113 rfl (fun c => ?_) (fun c => ?_)
      · have hT := hT.1 c
        refine Ex.wkl (lo' := [some (.ref w.1), some (.int a1), none, none]) ⟨rfl, rfl, trivial⟩ ?_
        exact hT h0 h hW hF
      · have hT := hT.2 c
        refine x_iload_n dX10_signAt_116 rfl rfl ?_
        refine x_bipush (v := 40) dX10_signAt_117 rfl ?_
        refine x_icmp_eq (tgt := 218) dX10_signAt_119 rfl (fun c => ?_) (fun c => ?_)
        · have hT := hT.1 c
          refine Ex.wkl (lo' := [some (.ref w.1), some (.int a1), none, none]) ⟨rfl, rfl, trivial⟩ ?_
          exact hT h0 h hW hF
        · have hT := hT.2 c
          refine x_iload_n dX10_signAt_122 rfl rfl ?_
          refine x_bipush (v := 41) dX10_signAt_123 rfl ?_
          refine x_icmp_eq (tgt := 218) dX10_signAt_125 rfl (fun c => ?_) (fun c => ?_)
          · have hT := hT.1 c
            refine Ex.wkl (lo' := [some (.ref w.1), some (.int a1), none, none]) ⟨rfl, rfl, trivial⟩ ?_
            exact hT h0 h hW hF
          · have hT := hT.2 c
            refine x_iload_n dX10_signAt_128 rfl rfl ?_
            refine x_bipush (v := 91) dX10_signAt_129 rfl ?_
            refine x_icmp_eq (tgt := 218) dX10_signAt_131 rfl (fun c => ?_) (fun c => ?_)
            · have hT := hT.1 c
              refine Ex.wkl (lo' := [some (.ref w.1), some (.int a1), none, none]) ⟨rfl, rfl, trivial⟩ ?_
              exact hT h0 h hW hF
            · have hT := hT.2 c
              refine x_iload_n dX10_signAt_134 rfl rfl ?_
              refine x_bipush (v := 93) dX10_signAt_135 rfl ?_
              refine x_icmp_eq (tgt := 218) dX10_signAt_137 rfl (fun c => ?_) (fun c => ?_)
              · have hT := hT.1 c
                refine Ex.wkl (lo' := [some (.ref w.1), some (.int a1), none, none]) ⟨rfl, rfl, trivial⟩ ?_
                exact hT h0 h hW hF
              · have hT := hT.2 c
                refine x_iload_n dX10_signAt_140 rfl rfl ?_
                refine x_bipush (v := 59) dX10_signAt_141 rfl ?_
                refine x_icmp_eq (tgt := 218) dX10_signAt_143 rfl (fun c => ?_) (fun c => ?_)
                · have hT := hT.1 c
                  refine Ex.wkl (lo' := [some (.ref w.1), some (.int a1), none, none]) ⟨rfl, rfl, trivial⟩ ?_
                  exact hT h0 h hW hF
                · have hT := hT.2 c
                  refine x_iload_n dX10_signAt_146 rfl rfl ?_
                  refine x_bipush (v := 44) dX10_signAt_147 rfl ?_
                  refine x_icmp_eq (tgt := 218) dX10_signAt_149 rfl (fun c => ?_) (fun c => ?_)
                  · have hT := hT.1 c
                    refine Ex.wkl (lo' := [some (.ref w.1), some (.int a1), none, none]) ⟨rfl, rfl, trivial⟩ ?_
                    exact hT h0 h hW hF
                  · have hT := hT.2 c
                    refine x_iload_n dX10_signAt_152 rfl rfl ?_
                    refine x_bipush (v := 61) dX10_signAt_153 rfl ?_
                    refine x_icmp_eq (tgt := 218) dX10_signAt_155 rfl (fun c => ?_) (fun c => ?_)
                    · have hT := hT.1 c
                      refine Ex.wkl (lo' := [some (.ref w.1), some (.int a1), none, none]) ⟨rfl, rfl, trivial⟩ ?_
                      exact hT h0 h hW hF
                    · have hT := hT.2 c
                      refine x_iload_n dX10_signAt_158 rfl rfl ?_
                      refine x_bipush (v := 60) dX10_signAt_159 rfl ?_
                      refine x_icmp_eq (tgt := 218) dX10_signAt_161 rfl (fun c => ?_) (fun c => ?_)
                      · have hT := hT.1 c
                        refine Ex.wkl (lo' := [some (.ref w.1), some (.int a1), none, none]) ⟨rfl, rfl, trivial⟩ ?_
                        exact hT h0 h hW hF
                      · have hT := hT.2 c
                        refine x_iload_n dX10_signAt_164 rfl rfl ?_
                        refine x_bipush (v := 62) dX10_signAt_165 rfl ?_
                        refine x_icmp_eq (tgt := 218) dX10_signAt_167 rfl (fun c => ?_) (fun c => ?_)
                        · have hT := hT.1 c
                          refine Ex.wkl (lo' := [some (.ref w.1), some (.int a1), none, none]) ⟨rfl, rfl, trivial⟩ ?_
                          exact hT h0 h hW hF
                        · have hT := hT.2 c
                          refine x_iload_n dX10_signAt_170 rfl rfl ?_
                          refine x_bipush (v := 43) dX10_signAt_171 rfl ?_
                          refine x_icmp_eq (tgt := 218) dX10_signAt_173 rfl (fun c => ?_) (fun c => ?_)
                          · have hT := hT.1 c
                            refine Ex.wkl (lo' := [some (.ref w.1), some (.int a1), none, none]) ⟨rfl, rfl, trivial⟩ ?_
                            exact hT h0 h hW hF
                          · have hT := hT.2 c
                            refine x_iload_n dX10_signAt_176 rfl rfl ?_
                            refine x_bipush (v := 45) dX10_signAt_177 rfl ?_
                            refine x_icmp_eq (tgt := 218) dX10_signAt_179 rfl (fun c => ?_) (fun c => ?_)
                            · have hT := hT.1 c
                              refine Ex.wkl (lo' := [some (.ref w.1), some (.int a1), none, none]) ⟨rfl, rfl, trivial⟩ ?_
                              exact hT h0 h hW hF
                            · have hT := hT.2 c
                              refine x_iload_n dX10_signAt_182 rfl rfl ?_
                              refine x_bipush (v := 42) dX10_signAt_183 rfl ?_
                              refine x_icmp_eq (tgt := 218) dX10_signAt_185 rfl (fun c => ?_) (fun c => ?_)
                              · have hT := hT.1 c
                                refine Ex.wkl (lo' := [some (.ref w.1), some (.int a1), none, none]) ⟨rfl, rfl, trivial⟩ ?_
                                exact hT h0 h hW hF
                              · have hT := hT.2 c
                                refine x_iload_n dX10_signAt_188 rfl rfl ?_
                                refine x_bipush (v := 47) dX10_signAt_189 rfl ?_
                                refine x_icmp_eq (tgt := 218) dX10_signAt_191 rfl (fun c => ?_) (fun c => ?_)
                                · have hT := hT.1 c
                                  refine Ex.wkl (lo' := [some (.ref w.1), some (.int a1), none, none]) ⟨rfl, rfl, trivial⟩ ?_
                                  exact hT h0 h hW hF
                                · have hT := hT.2 c
                                  refine x_iload_n dX10_signAt_194 rfl rfl ?_
                                  refine x_bipush (v := 37) dX10_signAt_195 rfl ?_
                                  refine x_icmp_eq (tgt := 218) dX10_signAt_197 rfl (fun c => ?_) (fun c => ?_)
                                  · have hT := hT.1 c
                                    refine Ex.wkl (lo' := [some (.ref w.1), some (.int a1), none, none]) ⟨rfl, rfl, trivial⟩ ?_
                                    exact hT h0 h hW hF
                                  · have hT := hT.2 c
                                    refine x_iload_n dX10_signAt_200 rfl rfl ?_
                                    refine x_bipush (v := 38) dX10_signAt_201 rfl ?_
                                    refine x_icmp_eq (tgt := 218) dX10_signAt_203 rfl (fun c => ?_) (fun c => ?_)
                                    · have hT := hT.1 c
                                      refine Ex.wkl (lo' := [some (.ref w.1), some (.int a1), none, none]) ⟨rfl, rfl, trivial⟩ ?_
                                      exact hT h0 h hW hF
                                    · have hT := hT.2 c
                                      refine x_iload_n dX10_signAt_206 rfl rfl ?_
                                      refine x_bipush (v := 124) dX10_signAt_207 rfl ?_
                                      refine x_icmp_eq (tgt := 218) dX10_signAt_209 rfl (fun c => ?_) (fun c => ?_)
                                      · have hT := hT.1 c
                                        refine Ex.wkl (lo' := [some (.ref w.1), some (.int a1), none, none]) ⟨rfl, rfl, trivial⟩ ?_
                                        exact hT h0 h hW hF
                                      · have hT := hT.2 c
                                        refine x_iload_n dX10_signAt_212 rfl rfl ?_
                                        refine x_bipush (v := 33) dX10_signAt_213 rfl ?_
                                        refine x_icmp_ne (tgt := 222) dX10_signAt_215 rfl (fun c => ?_) (fun c => ?_)
                                        · have hT := hT.1 c
                                          refine x_iconst (v := 0) dX10_signAt_222 rfl ?_
                                          refine x_istore_n (lo' := [some (.ref w.1), some (.int a1), some (.int b0), some (.int 0)]) dX10_signAt_223 rfl (Nat.le_of_ble_eq_true rfl) rfl ?_
                                          refine x_aload_n dX10_signAt_224 rfl rfl rfl ?_
                                          refine x_iload_n dX10_signAt_225 rfl rfl ?_
                                          refine x_i2l dX10_signAt_226 ?_
                                          refine m_putl dX10_signAt_227 f_TallySlateModel_272 (by decide) rfl rfl rfl rfl hW hF ?_
                                          intro h hW hF
                                          refine x_iload_n dX10_signAt_230 rfl rfl ?_
                                          refine x_if_ne (tgt := 239) dX10_signAt_231 rfl (fun c => absurd c (by decide)) (fun _ => ?_)
                                          refine x_aload_n dX10_signAt_234 rfl rfl rfl ?_
                                          refine x_iconst (v := 4) dX10_signAt_235 rfl ?_
                                          refine m_puti dX10_signAt_236 f_TallySlateModel_276 (by decide) rfl rfl rfl rfl hW hF ?_
                                          intro h hW hF
                                          refine x_aload_n dX10_signAt_239 rfl rfl rfl ?_
                                          refine m_geti (v := (s.1 63)) dX10_signAt_240 f_TallySlateModel_269 (by decide) rfl hW rfl ?_
                                          refine x_iconst (v := 1) dX10_signAt_243 rfl ?_
                                          refine x_iadd dX10_signAt_244 ?_
                                          exact x_iret dX10_signAt_245 rfl rfl ⟨_, _, rfl, hW, hF, hT⟩
                                        · have hT := hT.2 c
                                          refine Ex.wkl (lo' := [some (.ref w.1), some (.int a1), none, none]) ⟨rfl, rfl, trivial⟩ ?_
                                          exact hT h0 h hW hF
  · have hT := hT.2 c
    refine x_iload_n dX10_signAt_30 rfl rfl ?_
    refine x_bipush (v := 61) dX10_signAt_31 rfl ?_
    refine x_icmp_eq (tgt := 54) dX10_signAt_33 rfl (fun c => ?_) (fun c => ?_)
    · have hT := hT.1 c
      refine x_aload_n dX10_signAt_54 rfl rfl rfl ?_
      refine x_iload_n dX10_signAt_55 rfl rfl ?_
      refine x_bipush (v := 61) dX10_signAt_56 rfl ?_
      refine x_icmp_ne (tgt := 67) dX10_signAt_58 rfl (fun c => ?_) (fun c => ?_)
      · have hT := hT.1 c
        refine x_iload_n dX10_signAt_67 rfl rfl ?_
        refine x_bipush (v := 33) dX10_signAt_68 rfl ?_
        refine x_icmp_ne (tgt := 79) dX10_signAt_70 rfl (fun c => ?_) (fun c => ?_)
        · have hT := hT.1 c
          refine x_iload_n dX10_signAt_79 rfl rfl ?_
          refine x_bipush (v := 60) dX10_signAt_80 rfl ?_
          refine x_icmp_ne (tgt := 91) dX10_signAt_82 rfl (fun c => ?_) (fun c => ?_)
          · have hT := hT.1 c
            refine x_ldc2 dX10_signAt_91 q2543 ?_
            refine m_putl dX10_signAt_94 f_TallySlateModel_272 (by decide) rfl rfl rfl rfl hW hF ?_
            intro h hW hF
            refine x_aload_n dX10_signAt_97 rfl rfl rfl ?_
            refine m_geti (v := (s.1 63)) dX10_signAt_98 f_TallySlateModel_269 (by decide) rfl hW rfl ?_
            refine x_iconst (v := 2) dX10_signAt_101 rfl ?_
            refine x_iadd dX10_signAt_102 ?_
            exact x_iret dX10_signAt_103 rfl rfl ⟨_, _, rfl, hW, hF, hT⟩
          · have hT := hT.2 c
            refine x_ldc2 dX10_signAt_85 q2542 ?_
            refine x_goto (tgt := 94) dX10_signAt_88 rfl ?_
            refine m_putl dX10_signAt_94 f_TallySlateModel_272 (by decide) rfl rfl rfl rfl hW hF ?_
            intro h hW hF
            refine x_aload_n dX10_signAt_97 rfl rfl rfl ?_
            refine m_geti (v := (s.1 63)) dX10_signAt_98 f_TallySlateModel_269 (by decide) rfl hW rfl ?_
            refine x_iconst (v := 2) dX10_signAt_101 rfl ?_
            refine x_iadd dX10_signAt_102 ?_
            exact x_iret dX10_signAt_103 rfl rfl ⟨_, _, rfl, hW, hF, hT⟩
        · have hT := hT.2 c
          refine x_ldc2 dX10_signAt_73 q2190 ?_
          refine x_goto (tgt := 94) dX10_signAt_76 rfl ?_
          refine m_putl dX10_signAt_94 f_TallySlateModel_272 (by decide) rfl rfl rfl rfl hW hF ?_
          intro h hW hF
          refine x_aload_n dX10_signAt_97 rfl rfl rfl ?_
          refine m_geti (v := (s.1 63)) dX10_signAt_98 f_TallySlateModel_269 (by decide) rfl hW rfl ?_
          refine x_iconst (v := 2) dX10_signAt_101 rfl ?_
          refine x_iadd dX10_signAt_102 ?_
          exact x_iret dX10_signAt_103 rfl rfl ⟨_, _, rfl, hW, hF, hT⟩
      · have hT := hT.2 c
        refine x_ldc2 dX10_signAt_61 q2541 ?_
        refine x_goto (tgt := 94) dX10_signAt_64 rfl ?_
        refine m_putl dX10_signAt_94 f_TallySlateModel_272 (by decide) rfl rfl rfl rfl hW hF ?_
        intro h hW hF
        refine x_aload_n dX10_signAt_97 rfl rfl rfl ?_
        refine m_geti (v := (s.1 63)) dX10_signAt_98 f_TallySlateModel_269 (by decide) rfl hW rfl ?_
        refine x_iconst (v := 2) dX10_signAt_101 rfl ?_
        refine x_iadd dX10_signAt_102 ?_
        exact x_iret dX10_signAt_103 rfl rfl ⟨_, _, rfl, hW, hF, hT⟩
    · have hT := hT.2 c
      refine x_iload_n dX10_signAt_36 rfl rfl ?_
      refine x_bipush (v := 33) dX10_signAt_37 rfl ?_
      refine x_icmp_eq (tgt := 54) dX10_signAt_39 rfl (fun c => ?_) (fun c => ?_)
      · have hT := hT.1 c
        refine x_aload_n dX10_signAt_54 rfl rfl rfl ?_
        refine x_iload_n dX10_signAt_55 rfl rfl ?_
        refine x_bipush (v := 61) dX10_signAt_56 rfl ?_
        refine x_icmp_ne (tgt := 67) dX10_signAt_58 rfl (fun c => ?_) (fun c => ?_)
        · have hT := hT.1 c
          refine x_iload_n dX10_signAt_67 rfl rfl ?_
          refine x_bipush (v := 33) dX10_signAt_68 rfl ?_
          refine x_icmp_ne (tgt := 79) dX10_signAt_70 rfl (fun c => ?_) (fun c => ?_)
          · have hT := hT.1 c
            refine x_iload_n dX10_signAt_79 rfl rfl ?_
            refine x_bipush (v := 60) dX10_signAt_80 rfl ?_
            refine x_icmp_ne (tgt := 91) dX10_signAt_82 rfl (fun c => ?_) (fun c => ?_)
            · have hT := hT.1 c
              refine x_ldc2 dX10_signAt_91 q2543 ?_
              refine m_putl dX10_signAt_94 f_TallySlateModel_272 (by decide) rfl rfl rfl rfl hW hF ?_
              intro h hW hF
              refine x_aload_n dX10_signAt_97 rfl rfl rfl ?_
              refine m_geti (v := (s.1 63)) dX10_signAt_98 f_TallySlateModel_269 (by decide) rfl hW rfl ?_
              refine x_iconst (v := 2) dX10_signAt_101 rfl ?_
              refine x_iadd dX10_signAt_102 ?_
              exact x_iret dX10_signAt_103 rfl rfl ⟨_, _, rfl, hW, hF, hT⟩
            · have hT := hT.2 c
              refine x_ldc2 dX10_signAt_85 q2542 ?_
              refine x_goto (tgt := 94) dX10_signAt_88 rfl ?_
              refine m_putl dX10_signAt_94 f_TallySlateModel_272 (by decide) rfl rfl rfl rfl hW hF ?_
              intro h hW hF
              refine x_aload_n dX10_signAt_97 rfl rfl rfl ?_
              refine m_geti (v := (s.1 63)) dX10_signAt_98 f_TallySlateModel_269 (by decide) rfl hW rfl ?_
              refine x_iconst (v := 2) dX10_signAt_101 rfl ?_
              refine x_iadd dX10_signAt_102 ?_
              exact x_iret dX10_signAt_103 rfl rfl ⟨_, _, rfl, hW, hF, hT⟩
          · have hT := hT.2 c
            refine x_ldc2 dX10_signAt_73 q2190 ?_
            refine x_goto (tgt := 94) dX10_signAt_76 rfl ?_
            refine m_putl dX10_signAt_94 f_TallySlateModel_272 (by decide) rfl rfl rfl rfl hW hF ?_
            intro h hW hF
            refine x_aload_n dX10_signAt_97 rfl rfl rfl ?_
            refine m_geti (v := (s.1 63)) dX10_signAt_98 f_TallySlateModel_269 (by decide) rfl hW rfl ?_
            refine x_iconst (v := 2) dX10_signAt_101 rfl ?_
            refine x_iadd dX10_signAt_102 ?_
            exact x_iret dX10_signAt_103 rfl rfl ⟨_, _, rfl, hW, hF, hT⟩
        · have hT := hT.2 c
          refine x_ldc2 dX10_signAt_61 q2541 ?_
          refine x_goto (tgt := 94) dX10_signAt_64 rfl ?_
          refine m_putl dX10_signAt_94 f_TallySlateModel_272 (by decide) rfl rfl rfl rfl hW hF ?_
          intro h hW hF
          refine x_aload_n dX10_signAt_97 rfl rfl rfl ?_
          refine m_geti (v := (s.1 63)) dX10_signAt_98 f_TallySlateModel_269 (by decide) rfl hW rfl ?_
          refine x_iconst (v := 2) dX10_signAt_101 rfl ?_
          refine x_iadd dX10_signAt_102 ?_
          exact x_iret dX10_signAt_103 rfl rfl ⟨_, _, rfl, hW, hF, hT⟩
      · have hT := hT.2 c
        refine x_iload_n dX10_signAt_42 rfl rfl ?_
        refine x_bipush (v := 60) dX10_signAt_43 rfl ?_
        refine x_icmp_eq (tgt := 54) dX10_signAt_45 rfl (fun c => ?_) (fun c => ?_)
        · have hT := hT.1 c
          refine x_aload_n dX10_signAt_54 rfl rfl rfl ?_
          refine x_iload_n dX10_signAt_55 rfl rfl ?_
          refine x_bipush (v := 61) dX10_signAt_56 rfl ?_
          refine x_icmp_ne (tgt := 67) dX10_signAt_58 rfl (fun c => ?_) (fun c => ?_)
          · have hT := hT.1 c
            refine x_iload_n dX10_signAt_67 rfl rfl ?_
            refine x_bipush (v := 33) dX10_signAt_68 rfl ?_
            refine x_icmp_ne (tgt := 79) dX10_signAt_70 rfl (fun c => ?_) (fun c => ?_)
            · have hT := hT.1 c
              refine x_iload_n dX10_signAt_79 rfl rfl ?_
              refine x_bipush (v := 60) dX10_signAt_80 rfl ?_
              refine x_icmp_ne (tgt := 91) dX10_signAt_82 rfl (fun c => ?_) (fun c => ?_)
              · have hT := hT.1 c
                refine x_ldc2 dX10_signAt_91 q2543 ?_
                refine m_putl dX10_signAt_94 f_TallySlateModel_272 (by decide) rfl rfl rfl rfl hW hF ?_
                intro h hW hF
                refine x_aload_n dX10_signAt_97 rfl rfl rfl ?_
                refine m_geti (v := (s.1 63)) dX10_signAt_98 f_TallySlateModel_269 (by decide) rfl hW rfl ?_
                refine x_iconst (v := 2) dX10_signAt_101 rfl ?_
                refine x_iadd dX10_signAt_102 ?_
                exact x_iret dX10_signAt_103 rfl rfl ⟨_, _, rfl, hW, hF, hT⟩
              · have hT := hT.2 c
                refine x_ldc2 dX10_signAt_85 q2542 ?_
                refine x_goto (tgt := 94) dX10_signAt_88 rfl ?_
                refine m_putl dX10_signAt_94 f_TallySlateModel_272 (by decide) rfl rfl rfl rfl hW hF ?_
                intro h hW hF
                refine x_aload_n dX10_signAt_97 rfl rfl rfl ?_
                refine m_geti (v := (s.1 63)) dX10_signAt_98 f_TallySlateModel_269 (by decide) rfl hW rfl ?_
                refine x_iconst (v := 2) dX10_signAt_101 rfl ?_
                refine x_iadd dX10_signAt_102 ?_
                exact x_iret dX10_signAt_103 rfl rfl ⟨_, _, rfl, hW, hF, hT⟩
            · have hT := hT.2 c
              refine x_ldc2 dX10_signAt_73 q2190 ?_
              refine x_goto (tgt := 94) dX10_signAt_76 rfl ?_
              refine m_putl dX10_signAt_94 f_TallySlateModel_272 (by decide) rfl rfl rfl rfl hW hF ?_
              intro h hW hF
              refine x_aload_n dX10_signAt_97 rfl rfl rfl ?_
              refine m_geti (v := (s.1 63)) dX10_signAt_98 f_TallySlateModel_269 (by decide) rfl hW rfl ?_
              refine x_iconst (v := 2) dX10_signAt_101 rfl ?_
              refine x_iadd dX10_signAt_102 ?_
              exact x_iret dX10_signAt_103 rfl rfl ⟨_, _, rfl, hW, hF, hT⟩
          · have hT := hT.2 c
            refine x_ldc2 dX10_signAt_61 q2541 ?_
            refine x_goto (tgt := 94) dX10_signAt_64 rfl ?_
            refine m_putl dX10_signAt_94 f_TallySlateModel_272 (by decide) rfl rfl rfl rfl hW hF ?_
            intro h hW hF
            refine x_aload_n dX10_signAt_97 rfl rfl rfl ?_
            refine m_geti (v := (s.1 63)) dX10_signAt_98 f_TallySlateModel_269 (by decide) rfl hW rfl ?_
            refine x_iconst (v := 2) dX10_signAt_101 rfl ?_
            refine x_iadd dX10_signAt_102 ?_
            exact x_iret dX10_signAt_103 rfl rfl ⟨_, _, rfl, hW, hF, hT⟩
        · have hT := hT.2 c
          refine x_iload_n dX10_signAt_48 rfl rfl ?_
          refine x_bipush (v := 62) dX10_signAt_49 rfl ?_
          refine x_icmp_ne (tgt := 104) dX10_signAt_51 rfl (fun c => ?_) (fun c => ?_)
          · have hT := hT.1 c
            refine x_iload_n dX10_signAt_104 rfl rfl ?_
            refine x_bipush (v := 123) dX10_signAt_105 rfl ?_
            refine x_icmp_eq (tgt := 218) dX10_signAt_107 rfl (fun c => ?_) (fun c => ?_)
            · have hT := hT.1 c
              refine Ex.wkl (lo' := [some (.ref w.1), some (.int a1), none, none]) ⟨rfl, rfl, trivial⟩ ?_
              exact hT h0 h hW hF
            · have hT := hT.2 c
              refine x_iload_n dX10_signAt_110 rfl rfl ?_
              refine x_bipush (v := 125) dX10_signAt_111 rfl ?_
              refine x_icmp_eq (tgt := 218) dX10_signAt_113 rfl (fun c => ?_) (fun c => ?_)
              · have hT := hT.1 c
                refine Ex.wkl (lo' := [some (.ref w.1), some (.int a1), none, none]) ⟨rfl, rfl, trivial⟩ ?_
                exact hT h0 h hW hF
              · have hT := hT.2 c
                refine x_iload_n dX10_signAt_116 rfl rfl ?_
                refine x_bipush (v := 40) dX10_signAt_117 rfl ?_
                refine x_icmp_eq (tgt := 218) dX10_signAt_119 rfl (fun c => ?_) (fun c => ?_)
                · have hT := hT.1 c
                  refine Ex.wkl (lo' := [some (.ref w.1), some (.int a1), none, none]) ⟨rfl, rfl, trivial⟩ ?_
                  exact hT h0 h hW hF
                · have hT := hT.2 c
                  refine x_iload_n dX10_signAt_122 rfl rfl ?_
                  refine x_bipush (v := 41) dX10_signAt_123 rfl ?_
                  refine x_icmp_eq (tgt := 218) dX10_signAt_125 rfl (fun c => ?_) (fun c => ?_)
                  · have hT := hT.1 c
                    refine Ex.wkl (lo' := [some (.ref w.1), some (.int a1), none, none]) ⟨rfl, rfl, trivial⟩ ?_
                    exact hT h0 h hW hF
                  · have hT := hT.2 c
                    refine x_iload_n dX10_signAt_128 rfl rfl ?_
                    refine x_bipush (v := 91) dX10_signAt_129 rfl ?_
                    refine x_icmp_eq (tgt := 218) dX10_signAt_131 rfl (fun c => ?_) (fun c => ?_)
                    · have hT := hT.1 c
                      refine Ex.wkl (lo' := [some (.ref w.1), some (.int a1), none, none]) ⟨rfl, rfl, trivial⟩ ?_
                      exact hT h0 h hW hF
                    · have hT := hT.2 c
                      refine x_iload_n dX10_signAt_134 rfl rfl ?_
                      refine x_bipush (v := 93) dX10_signAt_135 rfl ?_
                      refine x_icmp_eq (tgt := 218) dX10_signAt_137 rfl (fun c => ?_) (fun c => ?_)
                      · have hT := hT.1 c
                        refine Ex.wkl (lo' := [some (.ref w.1), some (.int a1), none, none]) ⟨rfl, rfl, trivial⟩ ?_
                        exact hT h0 h hW hF
                      · have hT := hT.2 c
                        refine x_iload_n dX10_signAt_140 rfl rfl ?_
                        refine x_bipush (v := 59) dX10_signAt_141 rfl ?_
                        refine x_icmp_eq (tgt := 218) dX10_signAt_143 rfl (fun c => ?_) (fun c => ?_)
                        · have hT := hT.1 c
                          refine Ex.wkl (lo' := [some (.ref w.1), some (.int a1), none, none]) ⟨rfl, rfl, trivial⟩ ?_
                          exact hT h0 h hW hF
                        · have hT := hT.2 c
                          refine x_iload_n dX10_signAt_146 rfl rfl ?_
                          refine x_bipush (v := 44) dX10_signAt_147 rfl ?_
                          refine x_icmp_eq (tgt := 218) dX10_signAt_149 rfl (fun c => ?_) (fun c => ?_)
                          · have hT := hT.1 c
                            refine Ex.wkl (lo' := [some (.ref w.1), some (.int a1), none, none]) ⟨rfl, rfl, trivial⟩ ?_
                            exact hT h0 h hW hF
                          · have hT := hT.2 c
                            refine x_iload_n dX10_signAt_152 rfl rfl ?_
                            refine x_bipush (v := 61) dX10_signAt_153 rfl ?_
                            refine x_icmp_eq (tgt := 218) dX10_signAt_155 rfl (fun c => ?_) (fun c => ?_)
                            · have hT := hT.1 c
                              refine Ex.wkl (lo' := [some (.ref w.1), some (.int a1), none, none]) ⟨rfl, rfl, trivial⟩ ?_
                              exact hT h0 h hW hF
                            · have hT := hT.2 c
                              refine x_iload_n dX10_signAt_158 rfl rfl ?_
                              refine x_bipush (v := 60) dX10_signAt_159 rfl ?_
                              refine x_icmp_eq (tgt := 218) dX10_signAt_161 rfl (fun c => ?_) (fun c => ?_)
                              · have hT := hT.1 c
                                refine Ex.wkl (lo' := [some (.ref w.1), some (.int a1), none, none]) ⟨rfl, rfl, trivial⟩ ?_
                                exact hT h0 h hW hF
                              · have hT := hT.2 c
                                refine x_iload_n dX10_signAt_164 rfl rfl ?_
                                refine x_bipush (v := 62) dX10_signAt_165 rfl ?_
                                refine x_icmp_eq (tgt := 218) dX10_signAt_167 rfl (fun c => ?_) (fun c => ?_)
                                · have hT := hT.1 c
                                  refine Ex.wkl (lo' := [some (.ref w.1), some (.int a1), none, none]) ⟨rfl, rfl, trivial⟩ ?_
                                  exact hT h0 h hW hF
                                · have hT := hT.2 c
                                  refine x_iload_n dX10_signAt_170 rfl rfl ?_
                                  refine x_bipush (v := 43) dX10_signAt_171 rfl ?_
                                  refine x_icmp_eq (tgt := 218) dX10_signAt_173 rfl (fun c => ?_) (fun c => ?_)
                                  · have hT := hT.1 c
                                    refine Ex.wkl (lo' := [some (.ref w.1), some (.int a1), none, none]) ⟨rfl, rfl, trivial⟩ ?_
                                    exact hT h0 h hW hF
                                  · have hT := hT.2 c
                                    refine x_iload_n dX10_signAt_176 rfl rfl ?_
                                    refine x_bipush (v := 45) dX10_signAt_177 rfl ?_
                                    refine x_icmp_eq (tgt := 218) dX10_signAt_179 rfl (fun c => ?_) (fun c => ?_)
                                    · have hT := hT.1 c
                                      refine Ex.wkl (lo' := [some (.ref w.1), some (.int a1), none, none]) ⟨rfl, rfl, trivial⟩ ?_
                                      exact hT h0 h hW hF
                                    · have hT := hT.2 c
                                      refine x_iload_n dX10_signAt_182 rfl rfl ?_
                                      refine x_bipush (v := 42) dX10_signAt_183 rfl ?_
                                      refine x_icmp_eq (tgt := 218) dX10_signAt_185 rfl (fun c => ?_) (fun c => ?_)
                                      · have hT := hT.1 c
                                        refine Ex.wkl (lo' := [some (.ref w.1), some (.int a1), none, none]) ⟨rfl, rfl, trivial⟩ ?_
                                        exact hT h0 h hW hF
                                      · have hT := hT.2 c
                                        refine x_iload_n dX10_signAt_188 rfl rfl ?_
                                        refine x_bipush (v := 47) dX10_signAt_189 rfl ?_
                                        refine x_icmp_eq (tgt := 218) dX10_signAt_191 rfl (fun c => ?_) (fun c => ?_)
                                        · have hT := hT.1 c
                                          refine Ex.wkl (lo' := [some (.ref w.1), some (.int a1), none, none]) ⟨rfl, rfl, trivial⟩ ?_
                                          exact hT h0 h hW hF
                                        · have hT := hT.2 c
                                          refine x_iload_n dX10_signAt_194 rfl rfl ?_
                                          refine x_bipush (v := 37) dX10_signAt_195 rfl ?_
                                          refine x_icmp_eq (tgt := 218) dX10_signAt_197 rfl (fun c => ?_) (fun c => ?_)
                                          · have hT := hT.1 c
                                            refine Ex.wkl (lo' := [some (.ref w.1), some (.int a1), none, none]) ⟨rfl, rfl, trivial⟩ ?_
                                            exact hT h0 h hW hF
                                          · have hT := hT.2 c
                                            refine x_iload_n dX10_signAt_200 rfl rfl ?_
                                            refine x_bipush (v := 38) dX10_signAt_201 rfl ?_
                                            refine x_icmp_eq (tgt := 218) dX10_signAt_203 rfl (fun c => ?_) (fun c => ?_)
                                            · have hT := hT.1 c
                                              refine Ex.wkl (lo' := [some (.ref w.1), some (.int a1), none, none]) ⟨rfl, rfl, trivial⟩ ?_
                                              exact hT h0 h hW hF
                                            · have hT := hT.2 c
                                              refine x_iload_n dX10_signAt_206 rfl rfl ?_
                                              refine x_bipush (v := 124) dX10_signAt_207 rfl ?_
                                              refine x_icmp_eq (tgt := 218) dX10_signAt_209 rfl (fun c => ?_) (fun c => ?_)
                                              · have hT := hT.1 c
                                                refine Ex.wkl (lo' := [some (.ref w.1), some (.int a1), none, none]) ⟨rfl, rfl, trivial⟩ ?_
                                                exact hT h0 h hW hF
                                              · have hT := hT.2 c
                                                refine x_iload_n dX10_signAt_212 rfl rfl ?_
                                                refine x_bipush (v := 33) dX10_signAt_213 rfl ?_
                                                refine x_icmp_ne (tgt := 222) dX10_signAt_215 rfl (fun c => ?_) (fun c => ?_)
                                                · have hT := hT.1 c
                                                  refine x_iconst (v := 0) dX10_signAt_222 rfl ?_
                                                  refine x_istore_n (lo' := [some (.ref w.1), some (.int a1), some (.int b0), some (.int 0)]) dX10_signAt_223 rfl (Nat.le_of_ble_eq_true rfl) rfl ?_
                                                  refine x_aload_n dX10_signAt_224 rfl rfl rfl ?_
                                                  refine x_iload_n dX10_signAt_225 rfl rfl ?_
                                                  refine x_i2l dX10_signAt_226 ?_
                                                  refine m_putl dX10_signAt_227 f_TallySlateModel_272 (by decide) rfl rfl rfl rfl hW hF ?_
                                                  intro h hW hF
                                                  refine x_iload_n dX10_signAt_230 rfl rfl ?_
                                                  refine x_if_ne (tgt := 239) dX10_signAt_231 rfl (fun c => absurd c (by decide)) (fun _ => ?_)
                                                  refine x_aload_n dX10_signAt_234 rfl rfl rfl ?_
                                                  refine x_iconst (v := 4) dX10_signAt_235 rfl ?_
                                                  refine m_puti dX10_signAt_236 f_TallySlateModel_276 (by decide) rfl rfl rfl rfl hW hF ?_
                                                  intro h hW hF
                                                  refine x_aload_n dX10_signAt_239 rfl rfl rfl ?_
                                                  refine m_geti (v := (s.1 63)) dX10_signAt_240 f_TallySlateModel_269 (by decide) rfl hW rfl ?_
                                                  refine x_iconst (v := 1) dX10_signAt_243 rfl ?_
                                                  refine x_iadd dX10_signAt_244 ?_
                                                  exact x_iret dX10_signAt_245 rfl rfl ⟨_, _, rfl, hW, hF, hT⟩
                                                · have hT := hT.2 c
                                                  refine Ex.wkl (lo' := [some (.ref w.1), some (.int a1), none, none]) ⟨rfl, rfl, trivial⟩ ?_
                                                  exact hT h0 h hW hF
          · have hT := hT.2 c
            refine x_aload_n dX10_signAt_54 rfl rfl rfl ?_
            refine x_iload_n dX10_signAt_55 rfl rfl ?_
            refine x_bipush (v := 61) dX10_signAt_56 rfl ?_
            refine x_icmp_ne (tgt := 67) dX10_signAt_58 rfl (fun c => ?_) (fun c => ?_)
            · have hT := hT.1 c
              refine x_iload_n dX10_signAt_67 rfl rfl ?_
              refine x_bipush (v := 33) dX10_signAt_68 rfl ?_
              refine x_icmp_ne (tgt := 79) dX10_signAt_70 rfl (fun c => ?_) (fun c => ?_)
              · have hT := hT.1 c
                refine x_iload_n dX10_signAt_79 rfl rfl ?_
                refine x_bipush (v := 60) dX10_signAt_80 rfl ?_
                refine x_icmp_ne (tgt := 91) dX10_signAt_82 rfl (fun c => ?_) (fun c => ?_)
                · have hT := hT.1 c
                  refine x_ldc2 dX10_signAt_91 q2543 ?_
                  refine m_putl dX10_signAt_94 f_TallySlateModel_272 (by decide) rfl rfl rfl rfl hW hF ?_
                  intro h hW hF
                  refine x_aload_n dX10_signAt_97 rfl rfl rfl ?_
                  refine m_geti (v := (s.1 63)) dX10_signAt_98 f_TallySlateModel_269 (by decide) rfl hW rfl ?_
                  refine x_iconst (v := 2) dX10_signAt_101 rfl ?_
                  refine x_iadd dX10_signAt_102 ?_
                  exact x_iret dX10_signAt_103 rfl rfl ⟨_, _, rfl, hW, hF, hT⟩
                · have hT := hT.2 c
                  refine x_ldc2 dX10_signAt_85 q2542 ?_
                  refine x_goto (tgt := 94) dX10_signAt_88 rfl ?_
                  refine m_putl dX10_signAt_94 f_TallySlateModel_272 (by decide) rfl rfl rfl rfl hW hF ?_
                  intro h hW hF
                  refine x_aload_n dX10_signAt_97 rfl rfl rfl ?_
                  refine m_geti (v := (s.1 63)) dX10_signAt_98 f_TallySlateModel_269 (by decide) rfl hW rfl ?_
                  refine x_iconst (v := 2) dX10_signAt_101 rfl ?_
                  refine x_iadd dX10_signAt_102 ?_
                  exact x_iret dX10_signAt_103 rfl rfl ⟨_, _, rfl, hW, hF, hT⟩
              · have hT := hT.2 c
                refine x_ldc2 dX10_signAt_73 q2190 ?_
                refine x_goto (tgt := 94) dX10_signAt_76 rfl ?_
                refine m_putl dX10_signAt_94 f_TallySlateModel_272 (by decide) rfl rfl rfl rfl hW hF ?_
                intro h hW hF
                refine x_aload_n dX10_signAt_97 rfl rfl rfl ?_
                refine m_geti (v := (s.1 63)) dX10_signAt_98 f_TallySlateModel_269 (by decide) rfl hW rfl ?_
                refine x_iconst (v := 2) dX10_signAt_101 rfl ?_
                refine x_iadd dX10_signAt_102 ?_
                exact x_iret dX10_signAt_103 rfl rfl ⟨_, _, rfl, hW, hF, hT⟩
            · have hT := hT.2 c
              refine x_ldc2 dX10_signAt_61 q2541 ?_
              refine x_goto (tgt := 94) dX10_signAt_64 rfl ?_
              refine m_putl dX10_signAt_94 f_TallySlateModel_272 (by decide) rfl rfl rfl rfl hW hF ?_
              intro h hW hF
              refine x_aload_n dX10_signAt_97 rfl rfl rfl ?_
              refine m_geti (v := (s.1 63)) dX10_signAt_98 f_TallySlateModel_269 (by decide) rfl hW rfl ?_
              refine x_iconst (v := 2) dX10_signAt_101 rfl ?_
              refine x_iadd dX10_signAt_102 ?_
              exact x_iret dX10_signAt_103 rfl rfl ⟨_, _, rfl, hW, hF, hT⟩
theorem vX10_signAt_218 {l : Launch} {E : EN} {w : MO} {d : Nat} {s : MS} {Q : Option Value → MS → Prop} {a1 : Int32} (hT : Q (some (.int ((s.1 63) + 1))) (sL s 64 a1.toInt64)) : ExM l E w (d + 1) MX10_signAt 218 [some (.ref w.1), some (.int a1), none, none] [] s Q := by
  intro h0 h hW hF
  refine x_iconst (v := 1) dX10_signAt_218 rfl ?_
  refine x_goto (tgt := 223) dX10_signAt_219 rfl ?_
  refine x_istore_n (lo' := [some (.ref w.1), some (.int a1), none, some (.int 1)]) dX10_signAt_223 rfl (Nat.le_of_ble_eq_true rfl) rfl ?_
  refine x_aload_n dX10_signAt_224 rfl rfl rfl ?_
  refine x_iload_n dX10_signAt_225 rfl rfl ?_
  refine x_i2l dX10_signAt_226 ?_
  refine m_putl dX10_signAt_227 f_TallySlateModel_272 (by decide) rfl rfl rfl rfl hW hF ?_
  intro h hW hF
  refine x_iload_n dX10_signAt_230 rfl rfl ?_
  refine x_if_ne (tgt := 239) dX10_signAt_231 rfl (fun _ => ?_) (fun c => absurd c (by decide))
  refine x_aload_n dX10_signAt_239 rfl rfl rfl ?_
  refine m_geti (v := (s.1 63)) dX10_signAt_240 f_TallySlateModel_269 (by decide) rfl hW rfl ?_
  refine x_iconst (v := 1) dX10_signAt_243 rfl ?_
  refine x_iadd dX10_signAt_244 ?_
  exact x_iret dX10_signAt_245 rfl rfl ⟨_, _, rfl, hW, hF, hT⟩
theorem vX10_textOf_0 {l : Launch} {E : EN} {w : MO} {d : Nat} {s : MS} {Q : Option Value → MS → Prop}  (hT : ExM l E w (d + 1) MX10_textOf 5 [some (.ref w.1)] [] (sI s 94 0) Q) : ExM l E w (d + 1) MX10_textOf 0 [some (.ref w.1)] [] s Q := by
  intro h0 h hW hF
  refine x_aload_n dX10_textOf_0 rfl rfl rfl ?_
  refine x_iconst (v := 0) dX10_textOf_1 rfl ?_
  refine m_puti dX10_textOf_2 f_TallySlateModel_362 (by decide) rfl rfl rfl rfl hW hF ?_
  intro h hW hF
  exact hT h0 h hW hF
theorem eX10_textOf {l : Launch} {E : EN} {w : MO} {d : Nat} {s : MS} {Q : Option Value → MS → Prop}  (hst : l.stackTraces = false) (hT : ExM l E w (d + 1) MX10_textOf 5 [some (.ref w.1)] [] (sI s 94 0) Q) : EvM l E w (d + 1) MX10_textOf [.ref w.1] s Q :=
  EvM.of hst (by decide) (Nat.le_of_ble_eq_true rfl) (vX10_textOf_0 hT)
set_option maxHeartbeats 16000000 in
theorem vX10_textOf_5 {l : Launch} {E : EN} {w : MO} {d : Nat} {s : MS} {Q : Option Value → MS → Prop}  (hT : ((¬ (s.1 66) = 0 → Q none s) ∧ ((s.1 66) = 0 → ((0 < (s.1 94) → ((¬ (s.1 94) = 0 → (EvM l E w d MX10_isSign [.ref w.1, .int 125] s (fun r s1 => ∃ v2 : Int32, r = some (.int v2) ∧ ((v2 = 0 → (EvM l E w d MX10_statement [.ref w.1] s1 (fun r s3 => r = none ∧ ExM l E w (d + 1) MX10_textOf 5 [some (.ref w.1)] [] s3 Q))) ∧ (¬ v2 = 0 → (EvM l E w d MX10_closes [.ref w.1] s1 (fun r s4 => r = none ∧ ExM l E w (d + 1) MX10_textOf 5 [some (.ref w.1)] [] s4 Q))))))) ∧ ((s.1 94) = 0 → (EvM l E w d MX10_word [.ref w.1, .int 0] s (fun r s5 => r = none ∧ (EvM l E w d MX10_function [.ref w.1] s5 (fun r s6 => r = none ∧ ExM l E w (d + 1) MX10_textOf 5 [some (.ref w.1)] [] s6 Q))))))) ∧ (¬ 0 < (s.1 94) → (((s.1 62) = 0 → Q none s) ∧ (¬ (s.1 62) = 0 → ((¬ (s.1 94) = 0 → (EvM l E w d MX10_isSign [.ref w.1, .int 125] s (fun r s7 => ∃ v8 : Int32, r = some (.int v8) ∧ ((v8 = 0 → (EvM l E w d MX10_statement [.ref w.1] s7 (fun r s9 => r = none ∧ ExM l E w (d + 1) MX10_textOf 5 [some (.ref w.1)] [] s9 Q))) ∧ (¬ v8 = 0 → (EvM l E w d MX10_closes [.ref w.1] s7 (fun r s10 => r = none ∧ ExM l E w (d + 1) MX10_textOf 5 [some (.ref w.1)] [] s10 Q))))))) ∧ ((s.1 94) = 0 → (EvM l E w d MX10_word [.ref w.1, .int 0] s (fun r s11 => r = none ∧ (EvM l E w d MX10_function [.ref w.1] s11 (fun r s12 => r = none ∧ ExM l E w (d + 1) MX10_textOf 5 [some (.ref w.1)] [] s12 Q))))))))))))) : ExM l E w (d + 1) MX10_textOf 5 [some (.ref w.1)] [] s Q := by
  intro h0 h hW hF
  refine x_aload_n dX10_textOf_5 rfl rfl rfl ?_
  refine m_geti (v := (s.1 66)) dX10_textOf_6 f_TallySlateModel_311 (by decide) rfl hW rfl ?_
  refine x_if_ne (tgt := 68) dX10_textOf_9 rfl (fun c => ?_) (fun c => ?_)
  · have hT := hT.1 c
    exact x_vret dX10_textOf_68 rfl ⟨_, _, rfl, hW, hF, hT⟩
  · have hT := hT.2 c
    refine x_aload_n dX10_textOf_12 rfl rfl rfl ?_
    refine m_geti (v := (s.1 94)) dX10_textOf_13 f_TallySlateModel_362 (by decide) rfl hW rfl ?_
    refine x_if_gt (tgt := 26) dX10_textOf_16 rfl (fun c => ?_) (fun c => ?_)
    · have hT := hT.1 c
      refine x_aload_n dX10_textOf_26 rfl rfl rfl ?_
      refine m_geti (v := (s.1 94)) dX10_textOf_27 f_TallySlateModel_362 (by decide) rfl hW rfl ?_
      refine x_if_ne (tgt := 45) dX10_textOf_30 rfl (fun c => ?_) (fun c => ?_)
      · have hT := hT.1 c
        refine x_aload_n dX10_textOf_45 rfl rfl rfl ?_
        refine x_bipush (v := 125) dX10_textOf_46 rfl ?_
        refine m_inv (vs := [.int 125]) dX10_textOf_48 oX10_isSign q2590 q2588 qs76 rfl rfl (Nat.le_of_ble_eq_true rfl) rfl hW hF hT ?_
        rintro _ s1 ⟨v2, rfl, hT⟩ h hW hF
        refine x_if_eq (tgt := 61) dX10_textOf_51 rfl (fun c => ?_) (fun c => ?_)
        · have hT := hT.1 c
          refine x_aload_n dX10_textOf_61 rfl rfl rfl ?_
          refine m_inv (vs := []) dX10_textOf_62 oX10_statement q2618 q2616 qs83 rfl rfl (Nat.le_of_ble_eq_true rfl) rfl hW hF hT ?_
          rintro _ s3 ⟨rfl, hT⟩ h hW hF
          refine x_goto (tgt := 5) dX10_textOf_65 rfl ?_
          exact hT h0 h hW hF
        · have hT := hT.2 c
          refine x_aload_n dX10_textOf_54 rfl rfl rfl ?_
          refine m_inv (vs := []) dX10_textOf_55 oX10_closes q2606 q2604 qs80 rfl rfl (Nat.le_of_ble_eq_true rfl) rfl hW hF hT ?_
          rintro _ s4 ⟨rfl, hT⟩ h hW hF
          refine x_goto (tgt := 5) dX10_textOf_58 rfl ?_
          exact hT h0 h hW hF
      · have hT := hT.2 c
        refine x_aload_n dX10_textOf_33 rfl rfl rfl ?_
        refine x_iconst (v := 0) dX10_textOf_34 rfl ?_
        refine m_inv (vs := [.int 0]) dX10_textOf_35 oX10_word q2550 q2548 qs67 rfl rfl (Nat.le_of_ble_eq_true rfl) rfl hW hF hT ?_
        rintro _ s5 ⟨rfl, hT⟩ h hW hF
        refine x_aload_n dX10_textOf_38 rfl rfl rfl ?_
        refine m_inv (vs := []) dX10_textOf_39 oX10_function q2566 q2564 qs71 rfl rfl (Nat.le_of_ble_eq_true rfl) rfl hW hF hT ?_
        rintro _ s6 ⟨rfl, hT⟩ h hW hF
        refine x_goto (tgt := 5) dX10_textOf_42 rfl ?_
        exact hT h0 h hW hF
    · have hT := hT.2 c
      refine x_aload_n dX10_textOf_19 rfl rfl rfl ?_
      refine m_geti (v := (s.1 62)) dX10_textOf_20 f_TallySlateModel_276 (by decide) rfl hW rfl ?_
      refine x_if_eq (tgt := 68) dX10_textOf_23 rfl (fun c => ?_) (fun c => ?_)
      · have hT := hT.1 c
        exact x_vret dX10_textOf_68 rfl ⟨_, _, rfl, hW, hF, hT⟩
      · have hT := hT.2 c
        refine x_aload_n dX10_textOf_26 rfl rfl rfl ?_
        refine m_geti (v := (s.1 94)) dX10_textOf_27 f_TallySlateModel_362 (by decide) rfl hW rfl ?_
        refine x_if_ne (tgt := 45) dX10_textOf_30 rfl (fun c => ?_) (fun c => ?_)
        · have hT := hT.1 c
          refine x_aload_n dX10_textOf_45 rfl rfl rfl ?_
          refine x_bipush (v := 125) dX10_textOf_46 rfl ?_
          refine m_inv (vs := [.int 125]) dX10_textOf_48 oX10_isSign q2590 q2588 qs76 rfl rfl (Nat.le_of_ble_eq_true rfl) rfl hW hF hT ?_
          rintro _ s7 ⟨v8, rfl, hT⟩ h hW hF
          refine x_if_eq (tgt := 61) dX10_textOf_51 rfl (fun c => ?_) (fun c => ?_)
          · have hT := hT.1 c
            refine x_aload_n dX10_textOf_61 rfl rfl rfl ?_
            refine m_inv (vs := []) dX10_textOf_62 oX10_statement q2618 q2616 qs83 rfl rfl (Nat.le_of_ble_eq_true rfl) rfl hW hF hT ?_
            rintro _ s9 ⟨rfl, hT⟩ h hW hF
            refine x_goto (tgt := 5) dX10_textOf_65 rfl ?_
            exact hT h0 h hW hF
          · have hT := hT.2 c
            refine x_aload_n dX10_textOf_54 rfl rfl rfl ?_
            refine m_inv (vs := []) dX10_textOf_55 oX10_closes q2606 q2604 qs80 rfl rfl (Nat.le_of_ble_eq_true rfl) rfl hW hF hT ?_
            rintro _ s10 ⟨rfl, hT⟩ h hW hF
            refine x_goto (tgt := 5) dX10_textOf_58 rfl ?_
            exact hT h0 h hW hF
        · have hT := hT.2 c
          refine x_aload_n dX10_textOf_33 rfl rfl rfl ?_
          refine x_iconst (v := 0) dX10_textOf_34 rfl ?_
          refine m_inv (vs := [.int 0]) dX10_textOf_35 oX10_word q2550 q2548 qs67 rfl rfl (Nat.le_of_ble_eq_true rfl) rfl hW hF hT ?_
          rintro _ s11 ⟨rfl, hT⟩ h hW hF
          refine x_aload_n dX10_textOf_38 rfl rfl rfl ?_
          refine m_inv (vs := []) dX10_textOf_39 oX10_function q2566 q2564 qs71 rfl rfl (Nat.le_of_ble_eq_true rfl) rfl hW hF hT ?_
          rintro _ s12 ⟨rfl, hT⟩ h hW hF
          refine x_goto (tgt := 5) dX10_textOf_42 rfl ?_
          exact hT h0 h hW hF
theorem vX10_word_0 {l : Launch} {E : EN} {w : MO} {d : Nat} {s : MS} {Q : Option Value → MS → Prop} {x1 : Int32} (hT : (((s.1 66) ≤ 0 → (EvM l E w d MX10_isWord [.ref w.1, .int x1] s (fun r s1 => ∃ v2 : Int32, r = some (.int v2) ∧ ((v2 = 0 → (EvM l E w d MX10_wrong [.ref w.1] s1 (fun r s3 => r = none ∧ Q none s3))) ∧ (¬ v2 = 0 → (EvM l E w d MX10_take [.ref w.1] s1 (fun r s4 => r = none ∧ Q none s4))))))) ∧ (¬ (s.1 66) ≤ 0 → Q none s))) : ExM l E w (d + 1) MX10_word 0 [some (.ref w.1), some (.int x1)] [] s Q := by
  intro h0 h hW hF
  refine x_aload_n dX10_word_0 rfl rfl rfl ?_
  refine m_geti (v := (s.1 66)) dX10_word_1 f_TallySlateModel_311 (by decide) rfl hW rfl ?_
  refine x_if_le (tgt := 8) dX10_word_4 rfl (fun c => ?_) (fun c => ?_)
  · have hT := hT.1 c
    refine x_aload_n dX10_word_8 rfl rfl rfl ?_
    refine x_iload_n dX10_word_9 rfl rfl ?_
    refine m_inv (vs := [.int x1]) dX10_word_10 oX10_isWord q2554 q2552 qs68 rfl rfl (Nat.le_of_ble_eq_true rfl) rfl hW hF hT ?_
    rintro _ s1 ⟨v2, rfl, hT⟩ h hW hF
    refine x_if_eq (tgt := 23) dX10_word_13 rfl (fun c => ?_) (fun c => ?_)
    · have hT := hT.1 c
      refine x_aload_n dX10_word_23 rfl rfl rfl ?_
      refine m_inv (vs := []) dX10_word_24 oX10_wrong q2562 q2560 qs70 rfl rfl (Nat.le_of_ble_eq_true rfl) rfl hW hF hT ?_
      rintro _ s3 ⟨rfl, hT⟩ h hW hF
      exact x_vret dX10_word_27 rfl ⟨_, _, rfl, hW, hF, hT⟩
    · have hT := hT.2 c
      refine x_aload_n dX10_word_16 rfl rfl rfl ?_
      refine m_inv (vs := []) dX10_word_17 oX10_take q2558 q2556 qs69 rfl rfl (Nat.le_of_ble_eq_true rfl) rfl hW hF hT ?_
      rintro _ s4 ⟨rfl, hT⟩ h hW hF
      refine x_goto (tgt := 27) dX10_word_20 rfl ?_
      exact x_vret dX10_word_27 rfl ⟨_, _, rfl, hW, hF, hT⟩
  · have hT := hT.2 c
    exact x_vret dX10_word_7 rfl ⟨_, _, rfl, hW, hF, hT⟩
theorem eX10_word {l : Launch} {E : EN} {w : MO} {d : Nat} {s : MS} {Q : Option Value → MS → Prop} {x1 : Int32} (hst : l.stackTraces = false) (hT : (((s.1 66) ≤ 0 → (EvM l E w d MX10_isWord [.ref w.1, .int x1] s (fun r s1 => ∃ v2 : Int32, r = some (.int v2) ∧ ((v2 = 0 → (EvM l E w d MX10_wrong [.ref w.1] s1 (fun r s3 => r = none ∧ Q none s3))) ∧ (¬ v2 = 0 → (EvM l E w d MX10_take [.ref w.1] s1 (fun r s4 => r = none ∧ Q none s4))))))) ∧ (¬ (s.1 66) ≤ 0 → Q none s))) : EvM l E w (d + 1) MX10_word [.ref w.1, .int x1] s Q :=
  EvM.of hst (by decide) (Nat.le_of_ble_eq_true rfl) (vX10_word_0 hT)
theorem vX10_isWord_0 {l : Launch} {E : EN} {w : MO} {d : Nat} {s : MS} {Q : Option Value → MS → Prop} {x1 : Int32} (hT : ((¬ (s.1 62) = 1 → Q (some (.int 0)) s) ∧ ((s.1 62) = 1 → (inB x1 41 ∧ ((¬ (lg_cmp (s.2.1 64) (s.2.2.2 57 x1.toNatClampNeg)) = 0 → Q (some (.int 0)) s) ∧ ((lg_cmp (s.2.1 64) (s.2.2.2 57 x1.toNatClampNeg)) = 0 → Q (some (.int 1)) s)))))) : ExM l E w d MX10_isWord 0 [some (.ref w.1), some (.int x1)] [] s Q := by
  intro h0 h hW hF
  refine x_aload_n dX10_isWord_0 rfl rfl rfl ?_
  refine m_geti (v := (s.1 62)) dX10_isWord_1 f_TallySlateModel_276 (by decide) rfl hW rfl ?_
  refine x_iconst (v := 1) dX10_isWord_4 rfl ?_
  refine x_icmp_ne (tgt := 26) dX10_isWord_5 rfl (fun c => ?_) (fun c => ?_)
  · have hT := hT.1 c
    refine x_iconst (v := 0) dX10_isWord_26 rfl ?_
    exact x_iret dX10_isWord_27 rfl rfl ⟨_, _, rfl, hW, hF, hT⟩
  · have hT := hT.2 c
    refine x_aload_n dX10_isWord_8 rfl rfl rfl ?_
    refine m_getl (v := (s.2.1 64)) dX10_isWord_9 f_TallySlateModel_272 (by decide) rfl hW rfl ?_
    refine x_aload_n dX10_isWord_12 rfl rfl rfl ?_
    refine m_geta dX10_isWord_13 f_TallySlateModel_89 (by decide) rfl hW ?_
    refine x_iload_n dX10_isWord_16 rfl rfl ?_
    obtain ⟨hb, hT⟩ := hT
    refine m_lald (v := (s.2.2.2 57 x1.toNatClampNeg)) dX10_isWord_17 rfl hb hW rfl ?_
    refine x_lcmp dX10_isWord_18 ?_
    refine x_if_ne (tgt := 26) dX10_isWord_19 rfl (fun c => ?_) (fun c => ?_)
    · have hT := hT.1 c
      refine x_iconst (v := 0) dX10_isWord_26 rfl ?_
      exact x_iret dX10_isWord_27 rfl rfl ⟨_, _, rfl, hW, hF, hT⟩
    · have hT := hT.2 c
      refine x_iconst (v := 1) dX10_isWord_22 rfl ?_
      refine x_goto (tgt := 27) dX10_isWord_23 rfl ?_
      exact x_iret dX10_isWord_27 rfl rfl ⟨_, _, rfl, hW, hF, hT⟩
theorem eX10_isWord {l : Launch} {E : EN} {w : MO} {d : Nat} {s : MS} {Q : Option Value → MS → Prop} {x1 : Int32} (hst : l.stackTraces = false) (hT : ((¬ (s.1 62) = 1 → Q (some (.int 0)) s) ∧ ((s.1 62) = 1 → (inB x1 41 ∧ ((¬ (lg_cmp (s.2.1 64) (s.2.2.2 57 x1.toNatClampNeg)) = 0 → Q (some (.int 0)) s) ∧ ((lg_cmp (s.2.1 64) (s.2.2.2 57 x1.toNatClampNeg)) = 0 → Q (some (.int 1)) s)))))) : EvM l E w d MX10_isWord [.ref w.1, .int x1] s Q :=
  EvM.of hst (by decide) (Nat.le_of_ble_eq_true rfl) (vX10_isWord_0 hT)
theorem vX10_take_0 {l : Launch} {E : EN} {w : MO} {d : Nat} {s : MS} {Q : Option Value → MS → Prop}  (hT : (EvM l E w d MX10_token [.ref w.1, .int (s.1 65)] s (fun r s1 => r = none ∧ Q none s1))) : ExM l E w (d + 1) MX10_take 0 [some (.ref w.1)] [] s Q := by
  intro h0 h hW hF
  refine x_aload_n dX10_take_0 rfl rfl rfl ?_
  refine x_aload_n dX10_take_1 rfl rfl rfl ?_
  refine m_geti (v := (s.1 65)) dX10_take_2 f_TallySlateModel_299 (by decide) rfl hW rfl ?_
  refine m_inv (vs := [.int (s.1 65)]) dX10_take_5 oX10_token q2516 q2514 qs62 rfl rfl (Nat.le_of_ble_eq_true rfl) rfl hW hF hT ?_
  rintro _ s1 ⟨rfl, hT⟩ h hW hF
  exact x_vret dX10_take_8 rfl ⟨_, _, rfl, hW, hF, hT⟩
theorem eX10_take {l : Launch} {E : EN} {w : MO} {d : Nat} {s : MS} {Q : Option Value → MS → Prop}  (hst : l.stackTraces = false) (hT : (EvM l E w d MX10_token [.ref w.1, .int (s.1 65)] s (fun r s1 => r = none ∧ Q none s1))) : EvM l E w (d + 1) MX10_take [.ref w.1] s Q :=
  EvM.of hst (by decide) (Nat.le_of_ble_eq_true rfl) (vX10_take_0 hT)
theorem vX10_wrong_0 {l : Launch} {E : EN} {w : MO} {d : Nat} {s : MS} {Q : Option Value → MS → Prop}  (hT : ((¬ (s.1 62) = 4 → (EvM l E w d MX10_breaks [.ref w.1, .int 2, .int (s.1 63)] s (fun r s1 => r = none ∧ Q none s1))) ∧ ((s.1 62) = 4 → (EvM l E w d MX10_breaks [.ref w.1, .int 1, .int (s.1 63)] s (fun r s2 => r = none ∧ Q none s2))))) : ExM l E w (d + 1) MX10_wrong 0 [some (.ref w.1)] [] s Q := by
  intro h0 h hW hF
  refine x_aload_n dX10_wrong_0 rfl rfl rfl ?_
  refine x_aload_n dX10_wrong_1 rfl rfl rfl ?_
  refine m_geti (v := (s.1 62)) dX10_wrong_2 f_TallySlateModel_276 (by decide) rfl hW rfl ?_
  refine x_iconst (v := 4) dX10_wrong_5 rfl ?_
  refine x_icmp_ne (tgt := 13) dX10_wrong_6 rfl (fun c => ?_) (fun c => ?_)
  · have hT := hT.1 c
    refine x_iconst (v := 2) dX10_wrong_13 rfl ?_
    refine x_aload_n dX10_wrong_14 rfl rfl rfl ?_
    refine m_geti (v := (s.1 63)) dX10_wrong_15 f_TallySlateModel_269 (by decide) rfl hW rfl ?_
    refine m_inv (vs := [.int 2, .int (s.1 63)]) dX10_wrong_18 oX10_breaks q2512 q2510 qs61 rfl rfl (Nat.le_of_ble_eq_true rfl) rfl hW hF hT ?_
    rintro _ s1 ⟨rfl, hT⟩ h hW hF
    exact x_vret dX10_wrong_21 rfl ⟨_, _, rfl, hW, hF, hT⟩
  · have hT := hT.2 c
    refine x_iconst (v := 1) dX10_wrong_9 rfl ?_
    refine x_goto (tgt := 14) dX10_wrong_10 rfl ?_
    refine x_aload_n dX10_wrong_14 rfl rfl rfl ?_
    refine m_geti (v := (s.1 63)) dX10_wrong_15 f_TallySlateModel_269 (by decide) rfl hW rfl ?_
    refine m_inv (vs := [.int 1, .int (s.1 63)]) dX10_wrong_18 oX10_breaks q2512 q2510 qs61 rfl rfl (Nat.le_of_ble_eq_true rfl) rfl hW hF hT ?_
    rintro _ s2 ⟨rfl, hT⟩ h hW hF
    exact x_vret dX10_wrong_21 rfl ⟨_, _, rfl, hW, hF, hT⟩
theorem eX10_wrong {l : Launch} {E : EN} {w : MO} {d : Nat} {s : MS} {Q : Option Value → MS → Prop}  (hst : l.stackTraces = false) (hT : ((¬ (s.1 62) = 4 → (EvM l E w d MX10_breaks [.ref w.1, .int 2, .int (s.1 63)] s (fun r s1 => r = none ∧ Q none s1))) ∧ ((s.1 62) = 4 → (EvM l E w d MX10_breaks [.ref w.1, .int 1, .int (s.1 63)] s (fun r s2 => r = none ∧ Q none s2))))) : EvM l E w (d + 1) MX10_wrong [.ref w.1] s Q :=
  EvM.of hst (by decide) (Nat.le_of_ble_eq_true rfl) (vX10_wrong_0 hT)
theorem vX10_function_0 {l : Launch} {E : EN} {w : MO} {d : Nat} {s : MS} {Q : Option Value → MS → Prop}  (hT : (((s.1 66) ≤ 0 → (EvM l E w d MX10_isName [.ref w.1] s (fun r s1 => ∃ v2 : Int32, r = some (.int v2) ∧ ((¬ v2 = 0 → ((¬ (s1.1 72) = 12 → (∀ y3 : Int32, y3 = ((12 * (1 - (s1.1 69))) + (s1.1 72)) → (EvM l E w d MX10_isShelf [.long (s1.2.1 64)] s1 (fun r s4 => ∃ v5 : Int32, r = some (.int v5) ∧ (∀ y6 : Int32, y6 = (12 * (1 - (s4.1 69))) → ExM l E w (d + 1) MX10_function 72 [some (.ref w.1), some (.int y3), some (.int v5), some (.int y6)] [] s4 Q))))) ∧ ((s1.1 72) = 12 → (EvM l E w d MX10_breaks [.ref w.1, .int 3, .int (s1.1 63)] s1 (fun r s7 => r = none ∧ Q none s7))))) ∧ (v2 = 0 → (EvM l E w d MX10_wrong [.ref w.1] s1 (fun r s8 => r = none ∧ Q none s8))))))) ∧ (¬ (s.1 66) ≤ 0 → Q none s))) : ExM l E w (d + 1) MX10_function 0 [some (.ref w.1), none, none, none] [] s Q := by
  intro h0 h hW hF
  refine x_aload_n dX10_function_0 rfl rfl rfl ?_
  refine m_geti (v := (s.1 66)) dX10_function_1 f_TallySlateModel_311 (by decide) rfl hW rfl ?_
  refine x_if_le (tgt := 8) dX10_function_4 rfl (fun c => ?_) (fun c => ?_)
  · have hT := hT.1 c
    refine x_aload_n dX10_function_8 rfl rfl rfl ?_
    refine m_inv (vs := []) dX10_function_9 oX10_isName q2570 q2568 qs72 rfl rfl (Nat.le_of_ble_eq_true rfl) rfl hW hF hT ?_
    rintro _ s1 ⟨v2, rfl, hT⟩ h hW hF
    refine x_if_ne (tgt := 20) dX10_function_12 rfl (fun c => ?_) (fun c => ?_)
    · have hT := hT.1 c
      refine x_aload_n dX10_function_20 rfl rfl rfl ?_
      refine m_geti (v := (s1.1 72)) dX10_function_21 f_TallySlateModel_380 (by decide) rfl hW rfl ?_
      refine x_bipush (v := 12) dX10_function_24 rfl ?_
      refine x_icmp_ne (tgt := 39) dX10_function_26 rfl (fun c => ?_) (fun c => ?_)
      · have hT := hT.1 c
        refine x_bipush (v := 12) dX10_function_39 rfl ?_
        refine x_iconst (v := 1) dX10_function_41 rfl ?_
        refine x_aload_n dX10_function_42 rfl rfl rfl ?_
        refine m_geti (v := (s1.1 69)) dX10_function_43 f_TallySlateModel_340 (by decide) rfl hW rfl ?_
        refine x_isub dX10_function_46 ?_
        refine x_imul dX10_function_47 ?_
        refine x_aload_n dX10_function_48 rfl rfl rfl ?_
        refine m_geti (v := (s1.1 72)) dX10_function_49 f_TallySlateModel_380 (by decide) rfl hW rfl ?_
        refine x_iadd dX10_function_52 ?_
        obtain ⟨y3, ey3⟩ : ∃ z : Int32, z = ((12 * (1 - (s1.1 69))) + (s1.1 72)) := ⟨_, rfl⟩
        have hT := hT y3 ey3
        refine x_istore_n (lo' := [some (.ref w.1), some (.int y3), none, none]) dX10_function_53 rfl (Nat.le_of_ble_eq_true rfl) (by rw [ey3]; rfl) ?_
        refine x_aload_n dX10_function_54 rfl rfl rfl ?_
        refine m_getl (v := (s1.2.1 64)) dX10_function_55 f_TallySlateModel_272 (by decide) rfl hW rfl ?_
        refine m_invS (vs := [.long (s1.2.1 64)]) dX10_function_58 oX10_isShelf q2577 q2576 rfl rfl (Nat.le_of_ble_eq_true rfl) rfl hW hF hT ?_
        rintro _ s4 ⟨v5, rfl, hT⟩ h hW hF
        refine x_istore_n (lo' := [some (.ref w.1), some (.int y3), some (.int v5), none]) dX10_function_61 rfl (Nat.le_of_ble_eq_true rfl) rfl ?_
        refine x_bipush (v := 12) dX10_function_62 rfl ?_
        refine x_iconst (v := 1) dX10_function_64 rfl ?_
        refine x_aload_n dX10_function_65 rfl rfl rfl ?_
        refine m_geti (v := (s4.1 69)) dX10_function_66 f_TallySlateModel_340 (by decide) rfl hW rfl ?_
        refine x_isub dX10_function_69 ?_
        refine x_imul dX10_function_70 ?_
        obtain ⟨y6, ey6⟩ : ∃ z : Int32, z = (12 * (1 - (s4.1 69))) := ⟨_, rfl⟩
        have hT := hT y6 ey6
        refine x_istore_n (lo' := [some (.ref w.1), some (.int y3), some (.int v5), some (.int y6)]) dX10_function_71 rfl (Nat.le_of_ble_eq_true rfl) (by rw [ey6]; rfl) ?_
        exact hT h0 h hW hF
      · have hT := hT.2 c
        refine x_aload_n dX10_function_29 rfl rfl rfl ?_
        refine x_iconst (v := 3) dX10_function_30 rfl ?_
        refine x_aload_n dX10_function_31 rfl rfl rfl ?_
        refine m_geti (v := (s1.1 63)) dX10_function_32 f_TallySlateModel_269 (by decide) rfl hW rfl ?_
        refine m_inv (vs := [.int 3, .int (s1.1 63)]) dX10_function_35 oX10_breaks q2512 q2510 qs61 rfl rfl (Nat.le_of_ble_eq_true rfl) rfl hW hF hT ?_
        rintro _ s7 ⟨rfl, hT⟩ h hW hF
        exact x_vret dX10_function_38 rfl ⟨_, _, rfl, hW, hF, hT⟩
    · have hT := hT.2 c
      refine x_aload_n dX10_function_15 rfl rfl rfl ?_
      refine m_inv (vs := []) dX10_function_16 oX10_wrong q2562 q2560 qs70 rfl rfl (Nat.le_of_ble_eq_true rfl) rfl hW hF hT ?_
      rintro _ s8 ⟨rfl, hT⟩ h hW hF
      exact x_vret dX10_function_19 rfl ⟨_, _, rfl, hW, hF, hT⟩
  · have hT := hT.2 c
    exact x_vret dX10_function_7 rfl ⟨_, _, rfl, hW, hF, hT⟩
theorem eX10_function {l : Launch} {E : EN} {w : MO} {d : Nat} {s : MS} {Q : Option Value → MS → Prop}  (hst : l.stackTraces = false) (hT : (((s.1 66) ≤ 0 → (EvM l E w d MX10_isName [.ref w.1] s (fun r s1 => ∃ v2 : Int32, r = some (.int v2) ∧ ((¬ v2 = 0 → ((¬ (s1.1 72) = 12 → (∀ y3 : Int32, y3 = ((12 * (1 - (s1.1 69))) + (s1.1 72)) → (EvM l E w d MX10_isShelf [.long (s1.2.1 64)] s1 (fun r s4 => ∃ v5 : Int32, r = some (.int v5) ∧ (∀ y6 : Int32, y6 = (12 * (1 - (s4.1 69))) → ExM l E w (d + 1) MX10_function 72 [some (.ref w.1), some (.int y3), some (.int v5), some (.int y6)] [] s4 Q))))) ∧ ((s1.1 72) = 12 → (EvM l E w d MX10_breaks [.ref w.1, .int 3, .int (s1.1 63)] s1 (fun r s7 => r = none ∧ Q none s7))))) ∧ (v2 = 0 → (EvM l E w d MX10_wrong [.ref w.1] s1 (fun r s8 => r = none ∧ Q none s8))))))) ∧ (¬ (s.1 66) ≤ 0 → Q none s))) : EvM l E w (d + 1) MX10_function [.ref w.1] s Q :=
  EvM.of hst (by decide) (Nat.le_of_ble_eq_true rfl) (vX10_function_0 hT)
set_option maxHeartbeats 16000000 in
theorem vX10_function_72 {l : Launch} {E : EN} {w : MO} {d : Nat} {s : MS} {Q : Option Value → MS → Prop} {a1 : Int32} {a2 : Int32} {a3 : Int32} (hT : ((a1 ≤ a3 → ((a2 = 0 → (inB a1 24 ∧ (inB a1 24 ∧ (EvM l E w d MX10_take [.ref w.1] (sI (sI (sA (sB s 73 a1.toNatClampNeg (s.2.1 64)) 74 a1.toNatClampNeg (s.1 63)) 72 ((s.1 72) + 1)) 79 0) (fun r s1 => r = none ∧ (EvM l E w d MX10_parameters [.ref w.1] s1 (fun r s2 => r = none ∧ (inB a1 24 ∧ (EvM l E w d MX10_here [.ref w.1] (sA s2 75 a1.toNatClampNeg (s2.1 79)) (fun r s3 => ∃ v4 : Int32, r = some (.int v4) ∧ (inB a1 24 ∧ (EvM l E w d MX10_block [.ref w.1, .int 0, .int a1, .int 0] (sA s3 77 a1.toNatClampNeg v4) (fun r s5 => r = none ∧ Q none s5))))))))))))) ∧ (¬ a2 = 0 → (EvM l E w d MX10_breaks [.ref w.1, .int 4, .int (s.1 63)] s (fun r s6 => r = none ∧ Q none s6))))) ∧ (¬ a1 ≤ a3 → ((¬ a2 = 0 → ExM l E w (d + 1) MX10_function 72 [some (.ref w.1), some (.int a1), some (.int 1), some (.int (a3 + 1))] [] s Q) ∧ (a2 = 0 → (inB a3 24 ∧ ((¬ (lg_cmp (s.2.2.2 73 a3.toNatClampNeg) (s.2.1 64)) = 0 → ExM l E w (d + 1) MX10_function 72 [some (.ref w.1), some (.int a1), some (.int 0), some (.int (a3 + 1))] [] s Q) ∧ ((lg_cmp (s.2.2.2 73 a3.toNatClampNeg) (s.2.1 64)) = 0 → ExM l E w (d + 1) MX10_function 72 [some (.ref w.1), some (.int a1), some (.int 1), some (.int (a3 + 1))] [] s Q)))))))) : ExM l E w (d + 1) MX10_function 72 [some (.ref w.1), some (.int a1), some (.int a2), some (.int a3)] [] s Q := by
  intro h0 h hW hF
  refine x_iload_n dX10_function_72 rfl rfl ?_
  refine x_iload_n dX10_function_73 rfl rfl ?_
  refine x_icmp_ge (tgt := 107) dX10_function_74 rfl (fun c => ?_) (fun c => ?_)
  · have hT := hT.1 c
    refine x_iload_n dX10_function_107 rfl rfl ?_
    refine x_if_eq (tgt := 121) dX10_function_108 rfl (fun c => ?_) (fun c => ?_)
    · have hT := hT.1 c
      refine x_aload_n dX10_function_121 rfl rfl rfl ?_
      refine m_geta dX10_function_122 f_TallySlateModel_103 (by decide) rfl hW ?_
      refine x_iload_n dX10_function_125 rfl rfl ?_
      refine x_aload_n dX10_function_126 rfl rfl rfl ?_
      refine m_getl (v := (s.2.1 64)) dX10_function_127 f_TallySlateModel_272 (by decide) rfl hW rfl ?_
      obtain ⟨hb, hT⟩ := hT
      refine m_last dX10_function_130 rfl hb hW hF ?_
      intro h hW hF
      refine x_aload_n dX10_function_131 rfl rfl rfl ?_
      refine m_geta dX10_function_132 f_TallySlateModel_106 (by decide) rfl hW ?_
      refine x_iload_n dX10_function_135 rfl rfl ?_
      refine x_aload_n dX10_function_136 rfl rfl rfl ?_
      refine m_geti (v := (s.1 63)) dX10_function_137 f_TallySlateModel_269 (by decide) rfl hW rfl ?_
      obtain ⟨hb, hT⟩ := hT
      refine m_iast dX10_function_140 rfl hb hW hF ?_
      intro h hW hF
      refine x_aload_n dX10_function_141 rfl rfl rfl ?_
      refine x_dup dX10_function_142 rfl ?_
      refine m_geti (v := (s.1 72)) dX10_function_143 f_TallySlateModel_380 (by decide) rfl hW rfl ?_
      refine x_iconst (v := 1) dX10_function_146 rfl ?_
      refine x_iadd dX10_function_147 ?_
      refine m_puti dX10_function_148 f_TallySlateModel_380 (by decide) rfl rfl rfl rfl hW hF ?_
      intro h hW hF
      refine x_aload_n dX10_function_151 rfl rfl rfl ?_
      refine x_iconst (v := 0) dX10_function_152 rfl ?_
      refine m_puti dX10_function_153 f_TallySlateModel_359 (by decide) rfl rfl rfl rfl hW hF ?_
      intro h hW hF
      refine x_aload_n dX10_function_156 rfl rfl rfl ?_
      refine m_inv (vs := []) dX10_function_157 oX10_take q2558 q2556 qs69 rfl rfl (Nat.le_of_ble_eq_true rfl) rfl hW hF hT ?_
      rintro _ s1 ⟨rfl, hT⟩ h hW hF
      refine x_aload_n dX10_function_160 rfl rfl rfl ?_
      refine m_inv (vs := []) dX10_function_161 oX10_parameters q2582 q2580 qs74 rfl rfl (Nat.le_of_ble_eq_true rfl) rfl hW hF hT ?_
      rintro _ s2 ⟨rfl, hT⟩ h hW hF
      refine x_aload_n dX10_function_164 rfl rfl rfl ?_
      refine m_geta dX10_function_165 f_TallySlateModel_109 (by decide) rfl hW ?_
      refine x_iload_n dX10_function_168 rfl rfl ?_
      refine x_aload_n dX10_function_169 rfl rfl rfl ?_
      refine m_geti (v := (s2.1 79)) dX10_function_170 f_TallySlateModel_359 (by decide) rfl hW rfl ?_
      obtain ⟨hb, hT⟩ := hT
      refine m_iast dX10_function_173 rfl hb hW hF ?_
      intro h hW hF
      refine x_aload_n dX10_function_174 rfl rfl rfl ?_
      refine m_geta dX10_function_175 f_TallySlateModel_115 (by decide) rfl hW ?_
      refine x_iload_n dX10_function_178 rfl rfl ?_
      refine x_aload_n dX10_function_179 rfl rfl rfl ?_
      refine m_inv (vs := []) dX10_function_180 oX10_here q2598 q2596 qs78 rfl rfl (Nat.le_of_ble_eq_true rfl) rfl hW hF hT ?_
      rintro _ s3 ⟨v4, rfl, hT⟩ h hW hF
      obtain ⟨hb, hT⟩ := hT
      refine m_iast dX10_function_183 rfl hb hW hF ?_
      intro h hW hF
      refine x_aload_n dX10_function_184 rfl rfl rfl ?_
      refine x_iconst (v := 0) dX10_function_185 rfl ?_
      refine x_iload_n dX10_function_186 rfl rfl ?_
      refine x_iconst (v := 0) dX10_function_187 rfl ?_
      refine m_inv (vs := [.int 0, .int a1, .int 0]) dX10_function_188 oX10_block q2602 q2600 qs79 rfl rfl (Nat.le_of_ble_eq_true rfl) rfl hW hF hT ?_
      rintro _ s5 ⟨rfl, hT⟩ h hW hF
      exact x_vret dX10_function_191 rfl ⟨_, _, rfl, hW, hF, hT⟩
    · have hT := hT.2 c
      refine x_aload_n dX10_function_111 rfl rfl rfl ?_
      refine x_iconst (v := 4) dX10_function_112 rfl ?_
      refine x_aload_n dX10_function_113 rfl rfl rfl ?_
      refine m_geti (v := (s.1 63)) dX10_function_114 f_TallySlateModel_269 (by decide) rfl hW rfl ?_
      refine m_inv (vs := [.int 4, .int (s.1 63)]) dX10_function_117 oX10_breaks q2512 q2510 qs61 rfl rfl (Nat.le_of_ble_eq_true rfl) rfl hW hF hT ?_
      rintro _ s6 ⟨rfl, hT⟩ h hW hF
      exact x_vret dX10_function_120 rfl ⟨_, _, rfl, hW, hF, hT⟩
  · have hT := hT.2 c
    refine x_iload_n dX10_function_77 rfl rfl ?_
    refine x_if_ne (tgt := 95) dX10_function_78 rfl (fun c => ?_) (fun c => ?_)
    · have hT := hT.1 c
      refine x_iconst (v := 1) dX10_function_95 rfl ?_
      refine x_goto (tgt := 100) dX10_function_96 rfl ?_
      refine x_istore_n (lo' := [some (.ref w.1), some (.int a1), some (.int 1), some (.int a3)]) dX10_function_100 rfl (Nat.le_of_ble_eq_true rfl) rfl ?_
      refine x_iinc (lo' := [some (.ref w.1), some (.int a1), some (.int 1), some (.int (a3 + 1))]) dX10_function_101 rfl (show _ = (a3 + 1) from rfl) rfl ?_
      refine x_goto (tgt := 72) dX10_function_104 rfl ?_
      exact hT h0 h hW hF
    · have hT := hT.2 c
      refine x_aload_n dX10_function_81 rfl rfl rfl ?_
      refine m_geta dX10_function_82 f_TallySlateModel_103 (by decide) rfl hW ?_
      refine x_iload_n dX10_function_85 rfl rfl ?_
      obtain ⟨hb, hT⟩ := hT
      refine m_lald (v := (s.2.2.2 73 a3.toNatClampNeg)) dX10_function_86 rfl hb hW rfl ?_
      refine x_aload_n dX10_function_87 rfl rfl rfl ?_
      refine m_getl (v := (s.2.1 64)) dX10_function_88 f_TallySlateModel_272 (by decide) rfl hW rfl ?_
      refine x_lcmp dX10_function_91 ?_
      refine x_if_ne (tgt := 99) dX10_function_92 rfl (fun c => ?_) (fun c => ?_)
      · have hT := hT.1 c
        refine x_iconst (v := 0) dX10_function_99 rfl ?_
        refine x_istore_n (lo' := [some (.ref w.1), some (.int a1), some (.int 0), some (.int a3)]) dX10_function_100 rfl (Nat.le_of_ble_eq_true rfl) rfl ?_
        refine x_iinc (lo' := [some (.ref w.1), some (.int a1), some (.int 0), some (.int (a3 + 1))]) dX10_function_101 rfl (show _ = (a3 + 1) from rfl) rfl ?_
        refine x_goto (tgt := 72) dX10_function_104 rfl ?_
        exact hT h0 h hW hF
      · have hT := hT.2 c
        refine x_iconst (v := 1) dX10_function_95 rfl ?_
        refine x_goto (tgt := 100) dX10_function_96 rfl ?_
        refine x_istore_n (lo' := [some (.ref w.1), some (.int a1), some (.int 1), some (.int a3)]) dX10_function_100 rfl (Nat.le_of_ble_eq_true rfl) rfl ?_
        refine x_iinc (lo' := [some (.ref w.1), some (.int a1), some (.int 1), some (.int (a3 + 1))]) dX10_function_101 rfl (show _ = (a3 + 1) from rfl) rfl ?_
        refine x_goto (tgt := 72) dX10_function_104 rfl ?_
        exact hT h0 h hW hF
theorem vX10_isName_0 {l : Launch} {E : EN} {w : MO} {d : Nat} {s : MS} {Q : Option Value → MS → Prop}  (hT : ((¬ (s.1 62) = 1 → Q (some (.int 0)) s) ∧ ((s.1 62) = 1 → (EvM l E w d MX10_wordHere [.ref w.1] s (fun r s1 => ∃ v2 : Int32, r = some (.int v2) ∧ ((0 ≤ v2 → Q (some (.int 0)) s1) ∧ (¬ 0 ≤ v2 → Q (some (.int 1)) s1))))))) : ExM l E w (d + 1) MX10_isName 0 [some (.ref w.1)] [] s Q := by
  intro h0 h hW hF
  refine x_aload_n dX10_isName_0 rfl rfl rfl ?_
  refine m_geti (v := (s.1 62)) dX10_isName_1 f_TallySlateModel_276 (by decide) rfl hW rfl ?_
  refine x_iconst (v := 1) dX10_isName_4 rfl ?_
  refine x_icmp_ne (tgt := 19) dX10_isName_5 rfl (fun c => ?_) (fun c => ?_)
  · have hT := hT.1 c
    refine x_iconst (v := 0) dX10_isName_19 rfl ?_
    exact x_iret dX10_isName_20 rfl rfl ⟨_, _, rfl, hW, hF, hT⟩
  · have hT := hT.2 c
    refine x_aload_n dX10_isName_8 rfl rfl rfl ?_
    refine m_inv (vs := []) dX10_isName_9 oX10_wordHere q2574 q2572 qs73 rfl rfl (Nat.le_of_ble_eq_true rfl) rfl hW hF hT ?_
    rintro _ s1 ⟨v2, rfl, hT⟩ h hW hF
    refine x_if_ge (tgt := 19) dX10_isName_12 rfl (fun c => ?_) (fun c => ?_)
    · have hT := hT.1 c
      refine x_iconst (v := 0) dX10_isName_19 rfl ?_
      exact x_iret dX10_isName_20 rfl rfl ⟨_, _, rfl, hW, hF, hT⟩
    · have hT := hT.2 c
      refine x_iconst (v := 1) dX10_isName_15 rfl ?_
      refine x_goto (tgt := 20) dX10_isName_16 rfl ?_
      exact x_iret dX10_isName_20 rfl rfl ⟨_, _, rfl, hW, hF, hT⟩
theorem eX10_isName {l : Launch} {E : EN} {w : MO} {d : Nat} {s : MS} {Q : Option Value → MS → Prop}  (hst : l.stackTraces = false) (hT : ((¬ (s.1 62) = 1 → Q (some (.int 0)) s) ∧ ((s.1 62) = 1 → (EvM l E w d MX10_wordHere [.ref w.1] s (fun r s1 => ∃ v2 : Int32, r = some (.int v2) ∧ ((0 ≤ v2 → Q (some (.int 0)) s1) ∧ (¬ 0 ≤ v2 → Q (some (.int 1)) s1))))))) : EvM l E w (d + 1) MX10_isName [.ref w.1] s Q :=
  EvM.of hst (by decide) (Nat.le_of_ble_eq_true rfl) (vX10_isName_0 hT)
theorem vX10_wordHere_0 {l : Launch} {E : EN} {w : MO} {d : Nat} {s : MS} {Q : Option Value → MS → Prop}  (hT : (((s.1 62) = 1 → ExM l E w d MX10_wordHere 12 [some (.ref w.1), some (.int 0)] [] s Q) ∧ (¬ (s.1 62) = 1 → Q (some (.int (-1))) s))) : ExM l E w d MX10_wordHere 0 [some (.ref w.1), none] [] s Q := by
  intro h0 h hW hF
  refine x_aload_n dX10_wordHere_0 rfl rfl rfl ?_
  refine m_geti (v := (s.1 62)) dX10_wordHere_1 f_TallySlateModel_276 (by decide) rfl hW rfl ?_
  refine x_iconst (v := 1) dX10_wordHere_4 rfl ?_
  refine x_icmp_eq (tgt := 10) dX10_wordHere_5 rfl (fun c => ?_) (fun c => ?_)
  · have hT := hT.1 c
    refine x_iconst (v := 0) dX10_wordHere_10 rfl ?_
    refine x_istore_n (lo' := [some (.ref w.1), some (.int 0)]) dX10_wordHere_11 rfl (Nat.le_of_ble_eq_true rfl) rfl ?_
    exact hT h0 h hW hF
  · have hT := hT.2 c
    refine x_iconst (v := (-1)) dX10_wordHere_8 rfl ?_
    exact x_iret dX10_wordHere_9 rfl rfl ⟨_, _, rfl, hW, hF, hT⟩
theorem eX10_wordHere {l : Launch} {E : EN} {w : MO} {d : Nat} {s : MS} {Q : Option Value → MS → Prop}  (hst : l.stackTraces = false) (hT : (((s.1 62) = 1 → ExM l E w d MX10_wordHere 12 [some (.ref w.1), some (.int 0)] [] s Q) ∧ (¬ (s.1 62) = 1 → Q (some (.int (-1))) s))) : EvM l E w d MX10_wordHere [.ref w.1] s Q :=
  EvM.of hst (by decide) (Nat.le_of_ble_eq_true rfl) (vX10_wordHere_0 hT)
theorem vX10_wordHere_12 {l : Launch} {E : EN} {w : MO} {d : Nat} {s : MS} {Q : Option Value → MS → Prop} {a1 : Int32} (hT : ((41 ≤ a1 → Q (some (.int (-1))) s) ∧ (¬ 41 ≤ a1 → (inB a1 41 ∧ ((¬ (lg_cmp (s.2.2.2 57 a1.toNatClampNeg) (s.2.1 64)) = 0 → ExM l E w d MX10_wordHere 12 [some (.ref w.1), some (.int (a1 + 1))] [] s Q) ∧ ((lg_cmp (s.2.2.2 57 a1.toNatClampNeg) (s.2.1 64)) = 0 → Q (some (.int a1)) s)))))) : ExM l E w d MX10_wordHere 12 [some (.ref w.1), some (.int a1)] [] s Q := by
  intro h0 h hW hF
  refine x_iload_n dX10_wordHere_12 rfl rfl ?_
  refine x_bipush (v := 41) dX10_wordHere_13 rfl ?_
  refine x_icmp_ge (tgt := 40) dX10_wordHere_15 rfl (fun c => ?_) (fun c => ?_)
  · have hT := hT.1 c
    refine x_iconst (v := (-1)) dX10_wordHere_40 rfl ?_
    exact x_iret dX10_wordHere_41 rfl rfl ⟨_, _, rfl, hW, hF, hT⟩
  · have hT := hT.2 c
    refine x_aload_n dX10_wordHere_18 rfl rfl rfl ?_
    refine m_geta dX10_wordHere_19 f_TallySlateModel_89 (by decide) rfl hW ?_
    refine x_iload_n dX10_wordHere_22 rfl rfl ?_
    obtain ⟨hb, hT⟩ := hT
    refine m_lald (v := (s.2.2.2 57 a1.toNatClampNeg)) dX10_wordHere_23 rfl hb hW rfl ?_
    refine x_aload_n dX10_wordHere_24 rfl rfl rfl ?_
    refine m_getl (v := (s.2.1 64)) dX10_wordHere_25 f_TallySlateModel_272 (by decide) rfl hW rfl ?_
    refine x_lcmp dX10_wordHere_28 ?_
    refine x_if_ne (tgt := 34) dX10_wordHere_29 rfl (fun c => ?_) (fun c => ?_)
    · have hT := hT.1 c
      refine x_iinc (lo' := [some (.ref w.1), some (.int (a1 + 1))]) dX10_wordHere_34 rfl (show _ = (a1 + 1) from rfl) rfl ?_
      refine x_goto (tgt := 12) dX10_wordHere_37 rfl ?_
      exact hT h0 h hW hF
    · have hT := hT.2 c
      refine x_iload_n dX10_wordHere_32 rfl rfl ?_
      exact x_iret dX10_wordHere_33 rfl rfl ⟨_, _, rfl, hW, hF, hT⟩
theorem vX10_isShelf_0 {l : Launch} {E : EN} {w : MO} {d : Nat} {s : MS} {Q : Option Value → MS → Prop} {x1 : Int64} (hT : (((lg_cmp x1 1) < 0 → Q (some (.int 0)) s) ∧ (¬ (lg_cmp x1 1) < 0 → ((0 < (lg_cmp x1 8) → Q (some (.int 0)) s) ∧ (¬ 0 < (lg_cmp x1 8) → Q (some (.int 1)) s))))) : ExM l E w d MX10_isShelf 0 [some (.long x1), none] [] s Q := by
  intro h0 h hW hF
  refine x_lload_n dX10_isShelf_0 rfl rfl ?_
  refine x_lconst (v := 1) dX10_isShelf_1 rfl ?_
  refine x_lcmp dX10_isShelf_2 ?_
  refine x_if_lt (tgt := 18) dX10_isShelf_3 rfl (fun c => ?_) (fun c => ?_)
  · have hT := hT.1 c
    refine x_iconst (v := 0) dX10_isShelf_18 rfl ?_
    exact x_iret dX10_isShelf_19 rfl rfl ⟨_, _, rfl, hW, hF, hT⟩
  · have hT := hT.2 c
    refine x_lload_n dX10_isShelf_6 rfl rfl ?_
    refine x_ldc2 dX10_isShelf_7 q2579 ?_
    refine x_lcmp dX10_isShelf_10 ?_
    refine x_if_gt (tgt := 18) dX10_isShelf_11 rfl (fun c => ?_) (fun c => ?_)
    · have hT := hT.1 c
      refine x_iconst (v := 0) dX10_isShelf_18 rfl ?_
      exact x_iret dX10_isShelf_19 rfl rfl ⟨_, _, rfl, hW, hF, hT⟩
    · have hT := hT.2 c
      refine x_iconst (v := 1) dX10_isShelf_14 rfl ?_
      refine x_goto (tgt := 19) dX10_isShelf_15 rfl ?_
      exact x_iret dX10_isShelf_19 rfl rfl ⟨_, _, rfl, hW, hF, hT⟩
theorem eX10_isShelf {l : Launch} {E : EN} {w : MO} {d : Nat} {s : MS} {Q : Option Value → MS → Prop} {x1 : Int64} (hst : l.stackTraces = false) (hT : (((lg_cmp x1 1) < 0 → Q (some (.int 0)) s) ∧ (¬ (lg_cmp x1 1) < 0 → ((0 < (lg_cmp x1 8) → Q (some (.int 0)) s) ∧ (¬ 0 < (lg_cmp x1 8) → Q (some (.int 1)) s))))) : EvM l E w d MX10_isShelf [.long x1] s Q :=
  EvM.of hst (by decide) (Nat.le_of_ble_eq_true rfl) (vX10_isShelf_0 hT)
theorem vX10_parameters_0 {l : Launch} {E : EN} {w : MO} {d : Nat} {s : MS} {Q : Option Value → MS → Prop}  (hT : (EvM l E w d MX10_opens [.ref w.1, .int 40] s (fun r s1 => r = none ∧ (((s1.1 66) ≤ 0 → (EvM l E w d MX10_isSign [.ref w.1, .int 41] s1 (fun r s2 => ∃ v3 : Int32, r = some (.int v3) ∧ ((¬ v3 = 0 → ExM l E w (d + 1) MX10_parameters 29 [some (.ref w.1), some (.int 0), none, none] [] s2 Q) ∧ (v3 = 0 → ExM l E w (d + 1) MX10_parameters 29 [some (.ref w.1), some (.int 1), none, none] [] s2 Q))))) ∧ (¬ (s1.1 66) ≤ 0 → Q none s1))))) : ExM l E w (d + 1) MX10_parameters 0 [some (.ref w.1), none, none, none] [] s Q := by
  intro h0 h hW hF
  refine x_aload_n dX10_parameters_0 rfl rfl rfl ?_
  refine x_bipush (v := 40) dX10_parameters_1 rfl ?_
  refine m_inv (vs := [.int 40]) dX10_parameters_3 oX10_opens q2586 q2584 qs75 rfl rfl (Nat.le_of_ble_eq_true rfl) rfl hW hF hT ?_
  rintro _ s1 ⟨rfl, hT⟩ h hW hF
  refine x_aload_n dX10_parameters_6 rfl rfl rfl ?_
  refine m_geti (v := (s1.1 66)) dX10_parameters_7 f_TallySlateModel_311 (by decide) rfl hW rfl ?_
  refine x_if_le (tgt := 14) dX10_parameters_10 rfl (fun c => ?_) (fun c => ?_)
  · have hT := hT.1 c
    refine x_aload_n dX10_parameters_14 rfl rfl rfl ?_
    refine x_bipush (v := 41) dX10_parameters_15 rfl ?_
    refine m_inv (vs := [.int 41]) dX10_parameters_17 oX10_isSign q2590 q2588 qs76 rfl rfl (Nat.le_of_ble_eq_true rfl) rfl hW hF hT ?_
    rintro _ s2 ⟨v3, rfl, hT⟩ h hW hF
    refine x_if_ne (tgt := 27) dX10_parameters_20 rfl (fun c => ?_) (fun c => ?_)
    · have hT := hT.1 c
      refine x_iconst (v := 0) dX10_parameters_27 rfl ?_
      refine x_istore_n (lo' := [some (.ref w.1), some (.int 0), none, none]) dX10_parameters_28 rfl (Nat.le_of_ble_eq_true rfl) rfl ?_
      exact hT h0 h hW hF
    · have hT := hT.2 c
      refine x_iconst (v := 1) dX10_parameters_23 rfl ?_
      refine x_goto (tgt := 28) dX10_parameters_24 rfl ?_
      refine x_istore_n (lo' := [some (.ref w.1), some (.int 1), none, none]) dX10_parameters_28 rfl (Nat.le_of_ble_eq_true rfl) rfl ?_
      exact hT h0 h hW hF
  · have hT := hT.2 c
    exact x_vret dX10_parameters_13 rfl ⟨_, _, rfl, hW, hF, hT⟩
theorem eX10_parameters {l : Launch} {E : EN} {w : MO} {d : Nat} {s : MS} {Q : Option Value → MS → Prop}  (hst : l.stackTraces = false) (hT : (EvM l E w d MX10_opens [.ref w.1, .int 40] s (fun r s1 => r = none ∧ (((s1.1 66) ≤ 0 → (EvM l E w d MX10_isSign [.ref w.1, .int 41] s1 (fun r s2 => ∃ v3 : Int32, r = some (.int v3) ∧ ((¬ v3 = 0 → ExM l E w (d + 1) MX10_parameters 29 [some (.ref w.1), some (.int 0), none, none] [] s2 Q) ∧ (v3 = 0 → ExM l E w (d + 1) MX10_parameters 29 [some (.ref w.1), some (.int 1), none, none] [] s2 Q))))) ∧ (¬ (s1.1 66) ≤ 0 → Q none s1))))) : EvM l E w (d + 1) MX10_parameters [.ref w.1] s Q :=
  EvM.of hst (by decide) (Nat.le_of_ble_eq_true rfl) (vX10_parameters_0 hT)
theorem vX10_parameters_29 {l : Launch} {E : EN} {w : MO} {d : Nat} {s : MS} {Q : Option Value → MS → Prop} {a1 : Int32} (hT : ((a1 = 0 → (EvM l E w d MX10_sign [.ref w.1, .int 41] s (fun r s1 => r = none ∧ Q none s1))) ∧ (¬ a1 = 0 → ((¬ (s.1 66) = 0 → (EvM l E w d MX10_sign [.ref w.1, .int 41] s (fun r s2 => r = none ∧ Q none s2))) ∧ ((s.1 66) = 0 → (EvM l E w d MX10_isName [.ref w.1] s (fun r s3 => ∃ v4 : Int32, r = some (.int v4) ∧ ((¬ v4 = 0 → ((¬ (s3.1 79) = 4 → (EvM l E w d MX10_isShelf [.long (s3.2.1 64)] s3 (fun r s5 => ∃ v6 : Int32, r = some (.int v6) ∧ ExM l E w (d + 1) MX10_parameters 80 [some (.ref w.1), none, some (.int v6), some (.int 0)] [] s5 Q))) ∧ ((s3.1 79) = 4 → (EvM l E w d MX10_breaks [.ref w.1, .int 3, .int (s3.1 63)] s3 (fun r s7 => r = none ∧ Q none s7))))) ∧ (v4 = 0 → (EvM l E w d MX10_wrong [.ref w.1] s3 (fun r s8 => r = none ∧ Q none s8))))))))))) : ExM l E w (d + 1) MX10_parameters 29 [some (.ref w.1), some (.int a1), none, none] [] s Q := by
  intro h0 h hW hF
  refine x_iload_n dX10_parameters_29 rfl rfl ?_
  refine x_if_eq (tgt := 177) dX10_parameters_30 rfl (fun c => ?_) (fun c => ?_)
  · have hT := hT.1 c
    refine x_aload_n dX10_parameters_177 rfl rfl rfl ?_
    refine x_bipush (v := 41) dX10_parameters_178 rfl ?_
    refine m_inv (vs := [.int 41]) dX10_parameters_180 oX10_sign q2594 q2592 qs77 rfl rfl (Nat.le_of_ble_eq_true rfl) rfl hW hF hT ?_
    rintro _ s1 ⟨rfl, hT⟩ h hW hF
    exact x_vret dX10_parameters_183 rfl ⟨_, _, rfl, hW, hF, hT⟩
  · have hT := hT.2 c
    refine x_aload_n dX10_parameters_33 rfl rfl rfl ?_
    refine m_geti (v := (s.1 66)) dX10_parameters_34 f_TallySlateModel_311 (by decide) rfl hW rfl ?_
    refine x_if_ne (tgt := 177) dX10_parameters_37 rfl (fun c => ?_) (fun c => ?_)
    · have hT := hT.1 c
      refine x_aload_n dX10_parameters_177 rfl rfl rfl ?_
      refine x_bipush (v := 41) dX10_parameters_178 rfl ?_
      refine m_inv (vs := [.int 41]) dX10_parameters_180 oX10_sign q2594 q2592 qs77 rfl rfl (Nat.le_of_ble_eq_true rfl) rfl hW hF hT ?_
      rintro _ s2 ⟨rfl, hT⟩ h hW hF
      exact x_vret dX10_parameters_183 rfl ⟨_, _, rfl, hW, hF, hT⟩
    · have hT := hT.2 c
      refine x_aload_n dX10_parameters_40 rfl rfl rfl ?_
      refine m_inv (vs := []) dX10_parameters_41 oX10_isName q2570 q2568 qs72 rfl rfl (Nat.le_of_ble_eq_true rfl) rfl hW hF hT ?_
      rintro _ s3 ⟨v4, rfl, hT⟩ h hW hF
      refine x_if_ne (tgt := 52) dX10_parameters_44 rfl (fun c => ?_) (fun c => ?_)
      · have hT := hT.1 c
        refine x_aload_n dX10_parameters_52 rfl rfl rfl ?_
        refine m_geti (v := (s3.1 79)) dX10_parameters_53 f_TallySlateModel_359 (by decide) rfl hW rfl ?_
        refine x_iconst (v := 4) dX10_parameters_56 rfl ?_
        refine x_icmp_ne (tgt := 70) dX10_parameters_57 rfl (fun c => ?_) (fun c => ?_)
        · have hT := hT.1 c
          refine x_aload_n dX10_parameters_70 rfl rfl rfl ?_
          refine m_getl (v := (s3.2.1 64)) dX10_parameters_71 f_TallySlateModel_272 (by decide) rfl hW rfl ?_
          refine m_invS (vs := [.long (s3.2.1 64)]) dX10_parameters_74 oX10_isShelf q2577 q2576 rfl rfl (Nat.le_of_ble_eq_true rfl) rfl hW hF hT ?_
          rintro _ s5 ⟨v6, rfl, hT⟩ h hW hF
          refine x_istore_n (lo' := [some (.ref w.1), some (.int a1), some (.int v6), none]) dX10_parameters_77 rfl (Nat.le_of_ble_eq_true rfl) rfl ?_
          refine x_iconst (v := 0) dX10_parameters_78 rfl ?_
          refine x_istore_n (lo' := [some (.ref w.1), some (.int a1), some (.int v6), some (.int 0)]) dX10_parameters_79 rfl (Nat.le_of_ble_eq_true rfl) rfl ?_
          refine Ex.wkl (lo' := [some (.ref w.1), none, some (.int v6), some (.int 0)]) ⟨rfl, rfl, rfl, trivial⟩ ?_
          exact hT h0 h hW hF
        · have hT := hT.2 c
          refine x_aload_n dX10_parameters_60 rfl rfl rfl ?_
          refine x_iconst (v := 3) dX10_parameters_61 rfl ?_
          refine x_aload_n dX10_parameters_62 rfl rfl rfl ?_
          refine m_geti (v := (s3.1 63)) dX10_parameters_63 f_TallySlateModel_269 (by decide) rfl hW rfl ?_
          refine m_inv (vs := [.int 3, .int (s3.1 63)]) dX10_parameters_66 oX10_breaks q2512 q2510 qs61 rfl rfl (Nat.le_of_ble_eq_true rfl) rfl hW hF hT ?_
          rintro _ s7 ⟨rfl, hT⟩ h hW hF
          exact x_vret dX10_parameters_69 rfl ⟨_, _, rfl, hW, hF, hT⟩
      · have hT := hT.2 c
        refine x_aload_n dX10_parameters_47 rfl rfl rfl ?_
        refine m_inv (vs := []) dX10_parameters_48 oX10_wrong q2562 q2560 qs70 rfl rfl (Nat.le_of_ble_eq_true rfl) rfl hW hF hT ?_
        rintro _ s8 ⟨rfl, hT⟩ h hW hF
        exact x_vret dX10_parameters_51 rfl ⟨_, _, rfl, hW, hF, hT⟩
set_option maxHeartbeats 16000000 in
theorem vX10_parameters_80 {l : Launch} {E : EN} {w : MO} {d : Nat} {s : MS} {Q : Option Value → MS → Prop} {a2 : Int32} {a3 : Int32} (hT : (((s.1 79) ≤ a3 → ((a2 = 0 → (inB (s.1 79) 14 ∧ (EvM l E w d MX10_take [.ref w.1] (sI (sB s 78 (s.1 79).toNatClampNeg (s.2.1 64)) 79 ((s.1 79) + 1)) (fun r s1 => r = none ∧ (EvM l E w d MX10_isSign [.ref w.1, .int 44] s1 (fun r s2 => ∃ v3 : Int32, r = some (.int v3) ∧ ((v3 = 0 → ExM l E w (d + 1) MX10_parameters 29 [some (.ref w.1), some (.int v3), none, none] [] s2 Q) ∧ (¬ v3 = 0 → (EvM l E w d MX10_take [.ref w.1] s2 (fun r s4 => r = none ∧ ExM l E w (d + 1) MX10_parameters 29 [some (.ref w.1), some (.int v3), none, none] [] s4 Q)))))))))) ∧ (¬ a2 = 0 → (EvM l E w d MX10_breaks [.ref w.1, .int 4, .int (s.1 63)] s (fun r s5 => r = none ∧ Q none s5))))) ∧ (¬ (s.1 79) ≤ a3 → ((¬ a2 = 0 → ExM l E w (d + 1) MX10_parameters 80 [some (.ref w.1), none, some (.int 1), some (.int (a3 + 1))] [] s Q) ∧ (a2 = 0 → (inB a3 14 ∧ ((¬ (lg_cmp (s.2.2.2 78 a3.toNatClampNeg) (s.2.1 64)) = 0 → ExM l E w (d + 1) MX10_parameters 80 [some (.ref w.1), none, some (.int 0), some (.int (a3 + 1))] [] s Q) ∧ ((lg_cmp (s.2.2.2 78 a3.toNatClampNeg) (s.2.1 64)) = 0 → ExM l E w (d + 1) MX10_parameters 80 [some (.ref w.1), none, some (.int 1), some (.int (a3 + 1))] [] s Q)))))))) : ExM l E w (d + 1) MX10_parameters 80 [some (.ref w.1), none, some (.int a2), some (.int a3)] [] s Q := by
  intro h0 h hW hF
  refine x_iload_n dX10_parameters_80 rfl rfl ?_
  refine x_aload_n dX10_parameters_81 rfl rfl rfl ?_
  refine m_geti (v := (s.1 79)) dX10_parameters_82 f_TallySlateModel_359 (by decide) rfl hW rfl ?_
  refine x_icmp_ge (tgt := 118) dX10_parameters_85 rfl (fun c => ?_) (fun c => ?_)
  · have hT := hT.1 c
    refine x_iload_n dX10_parameters_118 rfl rfl ?_
    refine x_if_eq (tgt := 132) dX10_parameters_119 rfl (fun c => ?_) (fun c => ?_)
    · have hT := hT.1 c
      refine x_aload_n dX10_parameters_132 rfl rfl rfl ?_
      refine m_geta dX10_parameters_133 f_TallySlateModel_118 (by decide) rfl hW ?_
      refine x_aload_n dX10_parameters_136 rfl rfl rfl ?_
      refine m_geti (v := (s.1 79)) dX10_parameters_137 f_TallySlateModel_359 (by decide) rfl hW rfl ?_
      refine x_aload_n dX10_parameters_140 rfl rfl rfl ?_
      refine m_getl (v := (s.2.1 64)) dX10_parameters_141 f_TallySlateModel_272 (by decide) rfl hW rfl ?_
      obtain ⟨hb, hT⟩ := hT
      refine m_last dX10_parameters_144 rfl hb hW hF ?_
      intro h hW hF
      refine x_aload_n dX10_parameters_145 rfl rfl rfl ?_
      refine x_dup dX10_parameters_146 rfl ?_
      refine m_geti (v := (s.1 79)) dX10_parameters_147 f_TallySlateModel_359 (by decide) rfl hW rfl ?_
      refine x_iconst (v := 1) dX10_parameters_150 rfl ?_
      refine x_iadd dX10_parameters_151 ?_
      refine m_puti dX10_parameters_152 f_TallySlateModel_359 (by decide) rfl rfl rfl rfl hW hF ?_
      intro h hW hF
      refine x_aload_n dX10_parameters_155 rfl rfl rfl ?_
      refine m_inv (vs := []) dX10_parameters_156 oX10_take q2558 q2556 qs69 rfl rfl (Nat.le_of_ble_eq_true rfl) rfl hW hF hT ?_
      rintro _ s1 ⟨rfl, hT⟩ h hW hF
      refine x_aload_n dX10_parameters_159 rfl rfl rfl ?_
      refine x_bipush (v := 44) dX10_parameters_160 rfl ?_
      refine m_inv (vs := [.int 44]) dX10_parameters_162 oX10_isSign q2590 q2588 qs76 rfl rfl (Nat.le_of_ble_eq_true rfl) rfl hW hF hT ?_
      rintro _ s2 ⟨v3, rfl, hT⟩ h hW hF
      refine x_istore_n (lo' := [some (.ref w.1), some (.int v3), some (.int a2), some (.int a3)]) dX10_parameters_165 rfl (Nat.le_of_ble_eq_true rfl) rfl ?_
      refine x_iload_n dX10_parameters_166 rfl rfl ?_
      refine x_if_eq (tgt := 174) dX10_parameters_167 rfl (fun c => ?_) (fun c => ?_)
      · have hT := hT.1 c
        refine x_goto (tgt := 29) dX10_parameters_174 rfl ?_
        refine Ex.wkl (lo' := [some (.ref w.1), some (.int v3), none, none]) ⟨rfl, rfl, trivial⟩ ?_
        exact hT h0 h hW hF
      · have hT := hT.2 c
        refine x_aload_n dX10_parameters_170 rfl rfl rfl ?_
        refine m_inv (vs := []) dX10_parameters_171 oX10_take q2558 q2556 qs69 rfl rfl (Nat.le_of_ble_eq_true rfl) rfl hW hF hT ?_
        rintro _ s4 ⟨rfl, hT⟩ h hW hF
        refine x_goto (tgt := 29) dX10_parameters_174 rfl ?_
        refine Ex.wkl (lo' := [some (.ref w.1), some (.int v3), none, none]) ⟨rfl, rfl, trivial⟩ ?_
        exact hT h0 h hW hF
    · have hT := hT.2 c
      refine x_aload_n dX10_parameters_122 rfl rfl rfl ?_
      refine x_iconst (v := 4) dX10_parameters_123 rfl ?_
      refine x_aload_n dX10_parameters_124 rfl rfl rfl ?_
      refine m_geti (v := (s.1 63)) dX10_parameters_125 f_TallySlateModel_269 (by decide) rfl hW rfl ?_
      refine m_inv (vs := [.int 4, .int (s.1 63)]) dX10_parameters_128 oX10_breaks q2512 q2510 qs61 rfl rfl (Nat.le_of_ble_eq_true rfl) rfl hW hF hT ?_
      rintro _ s5 ⟨rfl, hT⟩ h hW hF
      exact x_vret dX10_parameters_131 rfl ⟨_, _, rfl, hW, hF, hT⟩
  · have hT := hT.2 c
    refine x_iload_n dX10_parameters_88 rfl rfl ?_
    refine x_if_ne (tgt := 106) dX10_parameters_89 rfl (fun c => ?_) (fun c => ?_)
    · have hT := hT.1 c
      refine x_iconst (v := 1) dX10_parameters_106 rfl ?_
      refine x_goto (tgt := 111) dX10_parameters_107 rfl ?_
      refine x_istore_n (lo' := [some (.ref w.1), none, some (.int 1), some (.int a3)]) dX10_parameters_111 rfl (Nat.le_of_ble_eq_true rfl) rfl ?_
      refine x_iinc (lo' := [some (.ref w.1), none, some (.int 1), some (.int (a3 + 1))]) dX10_parameters_112 rfl (show _ = (a3 + 1) from rfl) rfl ?_
      refine x_goto (tgt := 80) dX10_parameters_115 rfl ?_
      exact hT h0 h hW hF
    · have hT := hT.2 c
      refine x_aload_n dX10_parameters_92 rfl rfl rfl ?_
      refine m_geta dX10_parameters_93 f_TallySlateModel_118 (by decide) rfl hW ?_
      refine x_iload_n dX10_parameters_96 rfl rfl ?_
      obtain ⟨hb, hT⟩ := hT
      refine m_lald (v := (s.2.2.2 78 a3.toNatClampNeg)) dX10_parameters_97 rfl hb hW rfl ?_
      refine x_aload_n dX10_parameters_98 rfl rfl rfl ?_
      refine m_getl (v := (s.2.1 64)) dX10_parameters_99 f_TallySlateModel_272 (by decide) rfl hW rfl ?_
      refine x_lcmp dX10_parameters_102 ?_
      refine x_if_ne (tgt := 110) dX10_parameters_103 rfl (fun c => ?_) (fun c => ?_)
      · have hT := hT.1 c
        refine x_iconst (v := 0) dX10_parameters_110 rfl ?_
        refine x_istore_n (lo' := [some (.ref w.1), none, some (.int 0), some (.int a3)]) dX10_parameters_111 rfl (Nat.le_of_ble_eq_true rfl) rfl ?_
        refine x_iinc (lo' := [some (.ref w.1), none, some (.int 0), some (.int (a3 + 1))]) dX10_parameters_112 rfl (show _ = (a3 + 1) from rfl) rfl ?_
        refine x_goto (tgt := 80) dX10_parameters_115 rfl ?_
        exact hT h0 h hW hF
      · have hT := hT.2 c
        refine x_iconst (v := 1) dX10_parameters_106 rfl ?_
        refine x_goto (tgt := 111) dX10_parameters_107 rfl ?_
        refine x_istore_n (lo' := [some (.ref w.1), none, some (.int 1), some (.int a3)]) dX10_parameters_111 rfl (Nat.le_of_ble_eq_true rfl) rfl ?_
        refine x_iinc (lo' := [some (.ref w.1), none, some (.int 1), some (.int (a3 + 1))]) dX10_parameters_112 rfl (show _ = (a3 + 1) from rfl) rfl ?_
        refine x_goto (tgt := 80) dX10_parameters_115 rfl ?_
        exact hT h0 h hW hF
theorem vX10_opens_0 {l : Launch} {E : EN} {w : MO} {d : Nat} {s : MS} {Q : Option Value → MS → Prop} {x1 : Int32} (hT : (((s.1 66) ≤ 0 → (EvM l E w d MX10_isSign [.ref w.1, .int x1] s (fun r s1 => ∃ v2 : Int32, r = some (.int v2) ∧ ((¬ v2 = 0 → ((((s1.1 68) + 1) ≤ 10 → (EvM l E w d MX10_take [.ref w.1] (sI s1 68 ((s1.1 68) + 1)) (fun r s3 => r = none ∧ Q none s3))) ∧ (¬ ((s1.1 68) + 1) ≤ 10 → (EvM l E w d MX10_breaks [.ref w.1, .int 3, .int (s1.1 63)] (sI s1 68 ((s1.1 68) + 1)) (fun r s4 => r = none ∧ Q none s4))))) ∧ (v2 = 0 → (EvM l E w d MX10_wrong [.ref w.1] s1 (fun r s5 => r = none ∧ Q none s5))))))) ∧ (¬ (s.1 66) ≤ 0 → Q none s))) : ExM l E w (d + 1) MX10_opens 0 [some (.ref w.1), some (.int x1)] [] s Q := by
  intro h0 h hW hF
  refine x_aload_n dX10_opens_0 rfl rfl rfl ?_
  refine m_geti (v := (s.1 66)) dX10_opens_1 f_TallySlateModel_311 (by decide) rfl hW rfl ?_
  refine x_if_le (tgt := 8) dX10_opens_4 rfl (fun c => ?_) (fun c => ?_)
  · have hT := hT.1 c
    refine x_aload_n dX10_opens_8 rfl rfl rfl ?_
    refine x_iload_n dX10_opens_9 rfl rfl ?_
    refine m_inv (vs := [.int x1]) dX10_opens_10 oX10_isSign q2590 q2588 qs76 rfl rfl (Nat.le_of_ble_eq_true rfl) rfl hW hF hT ?_
    rintro _ s1 ⟨v2, rfl, hT⟩ h hW hF
    refine x_if_ne (tgt := 21) dX10_opens_13 rfl (fun c => ?_) (fun c => ?_)
    · have hT := hT.1 c
      refine x_aload_n dX10_opens_21 rfl rfl rfl ?_
      refine x_dup dX10_opens_22 rfl ?_
      refine m_geti (v := (s1.1 68)) dX10_opens_23 f_TallySlateModel_328 (by decide) rfl hW rfl ?_
      refine x_iconst (v := 1) dX10_opens_26 rfl ?_
      refine x_iadd dX10_opens_27 ?_
      refine m_puti dX10_opens_28 f_TallySlateModel_328 (by decide) rfl rfl rfl rfl hW hF ?_
      intro h hW hF
      refine x_aload_n dX10_opens_31 rfl rfl rfl ?_
      refine m_geti (v := ((s1.1 68) + 1)) dX10_opens_32 f_TallySlateModel_328 (by decide) rfl hW rfl ?_
      refine x_bipush (v := 10) dX10_opens_35 rfl ?_
      refine x_icmp_le (tgt := 52) dX10_opens_37 rfl (fun c => ?_) (fun c => ?_)
      · have hT := hT.1 c
        refine x_aload_n dX10_opens_52 rfl rfl rfl ?_
        refine m_inv (vs := []) dX10_opens_53 oX10_take q2558 q2556 qs69 rfl rfl (Nat.le_of_ble_eq_true rfl) rfl hW hF hT ?_
        rintro _ s3 ⟨rfl, hT⟩ h hW hF
        exact x_vret dX10_opens_56 rfl ⟨_, _, rfl, hW, hF, hT⟩
      · have hT := hT.2 c
        refine x_aload_n dX10_opens_40 rfl rfl rfl ?_
        refine x_iconst (v := 3) dX10_opens_41 rfl ?_
        refine x_aload_n dX10_opens_42 rfl rfl rfl ?_
        refine m_geti (v := (s1.1 63)) dX10_opens_43 f_TallySlateModel_269 (by decide) rfl hW rfl ?_
        refine m_inv (vs := [.int 3, .int (s1.1 63)]) dX10_opens_46 oX10_breaks q2512 q2510 qs61 rfl rfl (Nat.le_of_ble_eq_true rfl) rfl hW hF hT ?_
        rintro _ s4 ⟨rfl, hT⟩ h hW hF
        refine x_goto (tgt := 56) dX10_opens_49 rfl ?_
        exact x_vret dX10_opens_56 rfl ⟨_, _, rfl, hW, hF, hT⟩
    · have hT := hT.2 c
      refine x_aload_n dX10_opens_16 rfl rfl rfl ?_
      refine m_inv (vs := []) dX10_opens_17 oX10_wrong q2562 q2560 qs70 rfl rfl (Nat.le_of_ble_eq_true rfl) rfl hW hF hT ?_
      rintro _ s5 ⟨rfl, hT⟩ h hW hF
      exact x_vret dX10_opens_20 rfl ⟨_, _, rfl, hW, hF, hT⟩
  · have hT := hT.2 c
    exact x_vret dX10_opens_7 rfl ⟨_, _, rfl, hW, hF, hT⟩
theorem eX10_opens {l : Launch} {E : EN} {w : MO} {d : Nat} {s : MS} {Q : Option Value → MS → Prop} {x1 : Int32} (hst : l.stackTraces = false) (hT : (((s.1 66) ≤ 0 → (EvM l E w d MX10_isSign [.ref w.1, .int x1] s (fun r s1 => ∃ v2 : Int32, r = some (.int v2) ∧ ((¬ v2 = 0 → ((((s1.1 68) + 1) ≤ 10 → (EvM l E w d MX10_take [.ref w.1] (sI s1 68 ((s1.1 68) + 1)) (fun r s3 => r = none ∧ Q none s3))) ∧ (¬ ((s1.1 68) + 1) ≤ 10 → (EvM l E w d MX10_breaks [.ref w.1, .int 3, .int (s1.1 63)] (sI s1 68 ((s1.1 68) + 1)) (fun r s4 => r = none ∧ Q none s4))))) ∧ (v2 = 0 → (EvM l E w d MX10_wrong [.ref w.1] s1 (fun r s5 => r = none ∧ Q none s5))))))) ∧ (¬ (s.1 66) ≤ 0 → Q none s))) : EvM l E w (d + 1) MX10_opens [.ref w.1, .int x1] s Q :=
  EvM.of hst (by decide) (Nat.le_of_ble_eq_true rfl) (vX10_opens_0 hT)
theorem vX10_isSign_0 {l : Launch} {E : EN} {w : MO} {d : Nat} {s : MS} {Q : Option Value → MS → Prop} {x1 : Int32} (hT : ((¬ (s.1 62) = 3 → Q (some (.int 0)) s) ∧ ((s.1 62) = 3 → ((¬ (lg_cmp (s.2.1 64) x1.toInt64) = 0 → Q (some (.int 0)) s) ∧ ((lg_cmp (s.2.1 64) x1.toInt64) = 0 → Q (some (.int 1)) s))))) : ExM l E w d MX10_isSign 0 [some (.ref w.1), some (.int x1)] [] s Q := by
  intro h0 h hW hF
  refine x_aload_n dX10_isSign_0 rfl rfl rfl ?_
  refine m_geti (v := (s.1 62)) dX10_isSign_1 f_TallySlateModel_276 (by decide) rfl hW rfl ?_
  refine x_iconst (v := 3) dX10_isSign_4 rfl ?_
  refine x_icmp_ne (tgt := 22) dX10_isSign_5 rfl (fun c => ?_) (fun c => ?_)
  · have hT := hT.1 c
    refine x_iconst (v := 0) dX10_isSign_22 rfl ?_
    exact x_iret dX10_isSign_23 rfl rfl ⟨_, _, rfl, hW, hF, hT⟩
  · have hT := hT.2 c
    refine x_aload_n dX10_isSign_8 rfl rfl rfl ?_
    refine m_getl (v := (s.2.1 64)) dX10_isSign_9 f_TallySlateModel_272 (by decide) rfl hW rfl ?_
    refine x_iload_n dX10_isSign_12 rfl rfl ?_
    refine x_i2l dX10_isSign_13 ?_
    refine x_lcmp dX10_isSign_14 ?_
    refine x_if_ne (tgt := 22) dX10_isSign_15 rfl (fun c => ?_) (fun c => ?_)
    · have hT := hT.1 c
      refine x_iconst (v := 0) dX10_isSign_22 rfl ?_
      exact x_iret dX10_isSign_23 rfl rfl ⟨_, _, rfl, hW, hF, hT⟩
    · have hT := hT.2 c
      refine x_iconst (v := 1) dX10_isSign_18 rfl ?_
      refine x_goto (tgt := 23) dX10_isSign_19 rfl ?_
      exact x_iret dX10_isSign_23 rfl rfl ⟨_, _, rfl, hW, hF, hT⟩
theorem eX10_isSign {l : Launch} {E : EN} {w : MO} {d : Nat} {s : MS} {Q : Option Value → MS → Prop} {x1 : Int32} (hst : l.stackTraces = false) (hT : ((¬ (s.1 62) = 3 → Q (some (.int 0)) s) ∧ ((s.1 62) = 3 → ((¬ (lg_cmp (s.2.1 64) x1.toInt64) = 0 → Q (some (.int 0)) s) ∧ ((lg_cmp (s.2.1 64) x1.toInt64) = 0 → Q (some (.int 1)) s))))) : EvM l E w d MX10_isSign [.ref w.1, .int x1] s Q :=
  EvM.of hst (by decide) (Nat.le_of_ble_eq_true rfl) (vX10_isSign_0 hT)
set_option maxHeartbeats 16000000 in
theorem vX10_sign_0 {l : Launch} {E : EN} {w : MO} {d : Nat} {s : MS} {Q : Option Value → MS → Prop} {x1 : Int32} (hT : (((s.1 66) ≤ 0 → (EvM l E w d MX10_isSign [.ref w.1, .int x1] s (fun r s1 => ∃ v2 : Int32, r = some (.int v2) ∧ ((v2 = 0 → (EvM l E w d MX10_wrong [.ref w.1] s1 (fun r s3 => r = none ∧ Q none s3))) ∧ (¬ v2 = 0 → ((x1 = 41 → (EvM l E w d MX10_take [.ref w.1] (sI s1 68 ((s1.1 68) - 1)) (fun r s4 => r = none ∧ Q none s4))) ∧ (¬ x1 = 41 → ((x1 = 93 → (EvM l E w d MX10_take [.ref w.1] (sI s1 68 ((s1.1 68) - 1)) (fun r s5 => r = none ∧ Q none s5))) ∧ (¬ x1 = 93 → ((¬ x1 = 125 → (EvM l E w d MX10_take [.ref w.1] s1 (fun r s6 => r = none ∧ Q none s6))) ∧ (x1 = 125 → (EvM l E w d MX10_take [.ref w.1] (sI s1 68 ((s1.1 68) - 1)) (fun r s7 => r = none ∧ Q none s7))))))))))))) ∧ (¬ (s.1 66) ≤ 0 → Q none s))) : ExM l E w (d + 1) MX10_sign 0 [some (.ref w.1), some (.int x1)] [] s Q := by
  intro h0 h hW hF
  refine x_aload_n dX10_sign_0 rfl rfl rfl ?_
  refine m_geti (v := (s.1 66)) dX10_sign_1 f_TallySlateModel_311 (by decide) rfl hW rfl ?_
  refine x_if_le (tgt := 8) dX10_sign_4 rfl (fun c => ?_) (fun c => ?_)
  · have hT := hT.1 c
    refine x_aload_n dX10_sign_8 rfl rfl rfl ?_
    refine x_iload_n dX10_sign_9 rfl rfl ?_
    refine m_inv (vs := [.int x1]) dX10_sign_10 oX10_isSign q2590 q2588 qs76 rfl rfl (Nat.le_of_ble_eq_true rfl) rfl hW hF hT ?_
    rintro _ s1 ⟨v2, rfl, hT⟩ h hW hF
    refine x_if_eq (tgt := 51) dX10_sign_13 rfl (fun c => ?_) (fun c => ?_)
    · have hT := hT.1 c
      refine x_aload_n dX10_sign_51 rfl rfl rfl ?_
      refine m_inv (vs := []) dX10_sign_52 oX10_wrong q2562 q2560 qs70 rfl rfl (Nat.le_of_ble_eq_true rfl) rfl hW hF hT ?_
      rintro _ s3 ⟨rfl, hT⟩ h hW hF
      exact x_vret dX10_sign_55 rfl ⟨_, _, rfl, hW, hF, hT⟩
    · have hT := hT.2 c
      refine x_iload_n dX10_sign_16 rfl rfl ?_
      refine x_bipush (v := 41) dX10_sign_17 rfl ?_
      refine x_icmp_eq (tgt := 34) dX10_sign_19 rfl (fun c => ?_) (fun c => ?_)
      · have hT := hT.1 c
        refine x_aload_n dX10_sign_34 rfl rfl rfl ?_
        refine x_dup dX10_sign_35 rfl ?_
        refine m_geti (v := (s1.1 68)) dX10_sign_36 f_TallySlateModel_328 (by decide) rfl hW rfl ?_
        refine x_iconst (v := 1) dX10_sign_39 rfl ?_
        refine x_isub dX10_sign_40 ?_
        refine m_puti dX10_sign_41 f_TallySlateModel_328 (by decide) rfl rfl rfl rfl hW hF ?_
        intro h hW hF
        refine x_aload_n dX10_sign_44 rfl rfl rfl ?_
        refine m_inv (vs := []) dX10_sign_45 oX10_take q2558 q2556 qs69 rfl rfl (Nat.le_of_ble_eq_true rfl) rfl hW hF hT ?_
        rintro _ s4 ⟨rfl, hT⟩ h hW hF
        refine x_goto (tgt := 55) dX10_sign_48 rfl ?_
        exact x_vret dX10_sign_55 rfl ⟨_, _, rfl, hW, hF, hT⟩
      · have hT := hT.2 c
        refine x_iload_n dX10_sign_22 rfl rfl ?_
        refine x_bipush (v := 93) dX10_sign_23 rfl ?_
        refine x_icmp_eq (tgt := 34) dX10_sign_25 rfl (fun c => ?_) (fun c => ?_)
        · have hT := hT.1 c
          refine x_aload_n dX10_sign_34 rfl rfl rfl ?_
          refine x_dup dX10_sign_35 rfl ?_
          refine m_geti (v := (s1.1 68)) dX10_sign_36 f_TallySlateModel_328 (by decide) rfl hW rfl ?_
          refine x_iconst (v := 1) dX10_sign_39 rfl ?_
          refine x_isub dX10_sign_40 ?_
          refine m_puti dX10_sign_41 f_TallySlateModel_328 (by decide) rfl rfl rfl rfl hW hF ?_
          intro h hW hF
          refine x_aload_n dX10_sign_44 rfl rfl rfl ?_
          refine m_inv (vs := []) dX10_sign_45 oX10_take q2558 q2556 qs69 rfl rfl (Nat.le_of_ble_eq_true rfl) rfl hW hF hT ?_
          rintro _ s5 ⟨rfl, hT⟩ h hW hF
          refine x_goto (tgt := 55) dX10_sign_48 rfl ?_
          exact x_vret dX10_sign_55 rfl ⟨_, _, rfl, hW, hF, hT⟩
        · have hT := hT.2 c
          refine x_iload_n dX10_sign_28 rfl rfl ?_
          refine x_bipush (v := 125) dX10_sign_29 rfl ?_
          refine x_icmp_ne (tgt := 44) dX10_sign_31 rfl (fun c => ?_) (fun c => ?_)
          · have hT := hT.1 c
            refine x_aload_n dX10_sign_44 rfl rfl rfl ?_
            refine m_inv (vs := []) dX10_sign_45 oX10_take q2558 q2556 qs69 rfl rfl (Nat.le_of_ble_eq_true rfl) rfl hW hF hT ?_
            rintro _ s6 ⟨rfl, hT⟩ h hW hF
            refine x_goto (tgt := 55) dX10_sign_48 rfl ?_
            exact x_vret dX10_sign_55 rfl ⟨_, _, rfl, hW, hF, hT⟩
          · have hT := hT.2 c
            refine x_aload_n dX10_sign_34 rfl rfl rfl ?_
            refine x_dup dX10_sign_35 rfl ?_
            refine m_geti (v := (s1.1 68)) dX10_sign_36 f_TallySlateModel_328 (by decide) rfl hW rfl ?_
            refine x_iconst (v := 1) dX10_sign_39 rfl ?_
            refine x_isub dX10_sign_40 ?_
            refine m_puti dX10_sign_41 f_TallySlateModel_328 (by decide) rfl rfl rfl rfl hW hF ?_
            intro h hW hF
            refine x_aload_n dX10_sign_44 rfl rfl rfl ?_
            refine m_inv (vs := []) dX10_sign_45 oX10_take q2558 q2556 qs69 rfl rfl (Nat.le_of_ble_eq_true rfl) rfl hW hF hT ?_
            rintro _ s7 ⟨rfl, hT⟩ h hW hF
            refine x_goto (tgt := 55) dX10_sign_48 rfl ?_
            exact x_vret dX10_sign_55 rfl ⟨_, _, rfl, hW, hF, hT⟩
  · have hT := hT.2 c
    exact x_vret dX10_sign_7 rfl ⟨_, _, rfl, hW, hF, hT⟩
theorem eX10_sign {l : Launch} {E : EN} {w : MO} {d : Nat} {s : MS} {Q : Option Value → MS → Prop} {x1 : Int32} (hst : l.stackTraces = false) (hT : (((s.1 66) ≤ 0 → (EvM l E w d MX10_isSign [.ref w.1, .int x1] s (fun r s1 => ∃ v2 : Int32, r = some (.int v2) ∧ ((v2 = 0 → (EvM l E w d MX10_wrong [.ref w.1] s1 (fun r s3 => r = none ∧ Q none s3))) ∧ (¬ v2 = 0 → ((x1 = 41 → (EvM l E w d MX10_take [.ref w.1] (sI s1 68 ((s1.1 68) - 1)) (fun r s4 => r = none ∧ Q none s4))) ∧ (¬ x1 = 41 → ((x1 = 93 → (EvM l E w d MX10_take [.ref w.1] (sI s1 68 ((s1.1 68) - 1)) (fun r s5 => r = none ∧ Q none s5))) ∧ (¬ x1 = 93 → ((¬ x1 = 125 → (EvM l E w d MX10_take [.ref w.1] s1 (fun r s6 => r = none ∧ Q none s6))) ∧ (x1 = 125 → (EvM l E w d MX10_take [.ref w.1] (sI s1 68 ((s1.1 68) - 1)) (fun r s7 => r = none ∧ Q none s7))))))))))))) ∧ (¬ (s.1 66) ≤ 0 → Q none s))) : EvM l E w (d + 1) MX10_sign [.ref w.1, .int x1] s Q :=
  EvM.of hst (by decide) (Nat.le_of_ble_eq_true rfl) (vX10_sign_0 hT)
theorem vX10_here_0 {l : Launch} {E : EN} {w : MO} {d : Nat} {s : MS} {Q : Option Value → MS → Prop}  (hT : Q (some (.int ((4000 * (1 - (s.1 69))) + (s.1 85)))) s) : ExM l E w d MX10_here 0 [some (.ref w.1)] [] s Q := by
  intro h0 h hW hF
  refine x_sipush (v := 4000) dX10_here_0 rfl ?_
  refine x_iconst (v := 1) dX10_here_3 rfl ?_
  refine x_aload_n dX10_here_4 rfl rfl rfl ?_
  refine m_geti (v := (s.1 69)) dX10_here_5 f_TallySlateModel_340 (by decide) rfl hW rfl ?_
  refine x_isub dX10_here_8 ?_
  refine x_imul dX10_here_9 ?_
  refine x_aload_n dX10_here_10 rfl rfl rfl ?_
  refine m_geti (v := (s.1 85)) dX10_here_11 f_TallySlateModel_343 (by decide) rfl hW rfl ?_
  refine x_iadd dX10_here_14 ?_
  exact x_iret dX10_here_15 rfl rfl ⟨_, _, rfl, hW, hF, hT⟩
theorem eX10_here {l : Launch} {E : EN} {w : MO} {d : Nat} {s : MS} {Q : Option Value → MS → Prop}  (hst : l.stackTraces = false) (hT : Q (some (.int ((4000 * (1 - (s.1 69))) + (s.1 85)))) s) : EvM l E w d MX10_here [.ref w.1] s Q :=
  EvM.of hst (by decide) (Nat.le_of_ble_eq_true rfl) (vX10_here_0 hT)
theorem vX10_block_0 {l : Launch} {E : EN} {w : MO} {d : Nat} {s : MS} {Q : Option Value → MS → Prop} {x1 : Int32} {x2 : Int32} {x3 : Int32} (hT : (EvM l E w d MX10_opens [.ref w.1, .int 123] s (fun r s1 => r = none ∧ (inB (s1.1 94) 12 ∧ (inB (s1.1 94) 12 ∧ (inB (s1.1 94) 12 ∧ Q none (sI (sA (sA (sA s1 91 (s1.1 94).toNatClampNeg x1) 92 (s1.1 94).toNatClampNeg x2) 93 (s1.1 94).toNatClampNeg x3) 94 ((s1.1 94) + 1)))))))) : ExM l E w (d + 1) MX10_block 0 [some (.ref w.1), some (.int x1), some (.int x2), some (.int x3)] [] s Q := by
  intro h0 h hW hF
  refine x_aload_n dX10_block_0 rfl rfl rfl ?_
  refine x_bipush (v := 123) dX10_block_1 rfl ?_
  refine m_inv (vs := [.int 123]) dX10_block_3 oX10_opens q2586 q2584 qs75 rfl rfl (Nat.le_of_ble_eq_true rfl) rfl hW hF hT ?_
  rintro _ s1 ⟨rfl, hT⟩ h hW hF
  refine x_aload_n dX10_block_6 rfl rfl rfl ?_
  refine m_geta dX10_block_7 f_TallySlateModel_148 (by decide) rfl hW ?_
  refine x_aload_n dX10_block_10 rfl rfl rfl ?_
  refine m_geti (v := (s1.1 94)) dX10_block_11 f_TallySlateModel_362 (by decide) rfl hW rfl ?_
  refine x_iload_n dX10_block_14 rfl rfl ?_
  obtain ⟨hb, hT⟩ := hT
  refine m_iast dX10_block_15 rfl hb hW hF ?_
  intro h hW hF
  refine x_aload_n dX10_block_16 rfl rfl rfl ?_
  refine m_geta dX10_block_17 f_TallySlateModel_151 (by decide) rfl hW ?_
  refine x_aload_n dX10_block_20 rfl rfl rfl ?_
  refine m_geti (v := (s1.1 94)) dX10_block_21 f_TallySlateModel_362 (by decide) rfl hW rfl ?_
  refine x_iload_n dX10_block_24 rfl rfl ?_
  obtain ⟨hb, hT⟩ := hT
  refine m_iast dX10_block_25 rfl hb hW hF ?_
  intro h hW hF
  refine x_aload_n dX10_block_26 rfl rfl rfl ?_
  refine m_geta dX10_block_27 f_TallySlateModel_154 (by decide) rfl hW ?_
  refine x_aload_n dX10_block_30 rfl rfl rfl ?_
  refine m_geti (v := (s1.1 94)) dX10_block_31 f_TallySlateModel_362 (by decide) rfl hW rfl ?_
  refine x_iload_n dX10_block_34 rfl rfl ?_
  obtain ⟨hb, hT⟩ := hT
  refine m_iast dX10_block_35 rfl hb hW hF ?_
  intro h hW hF
  refine x_aload_n dX10_block_36 rfl rfl rfl ?_
  refine x_dup dX10_block_37 rfl ?_
  refine m_geti (v := (s1.1 94)) dX10_block_38 f_TallySlateModel_362 (by decide) rfl hW rfl ?_
  refine x_iconst (v := 1) dX10_block_41 rfl ?_
  refine x_iadd dX10_block_42 ?_
  refine m_puti dX10_block_43 f_TallySlateModel_362 (by decide) rfl rfl rfl rfl hW hF ?_
  intro h hW hF
  exact x_vret dX10_block_46 rfl ⟨_, _, rfl, hW, hF, hT⟩
theorem eX10_block {l : Launch} {E : EN} {w : MO} {d : Nat} {s : MS} {Q : Option Value → MS → Prop} {x1 : Int32} {x2 : Int32} {x3 : Int32} (hst : l.stackTraces = false) (hT : (EvM l E w d MX10_opens [.ref w.1, .int 123] s (fun r s1 => r = none ∧ (inB (s1.1 94) 12 ∧ (inB (s1.1 94) 12 ∧ (inB (s1.1 94) 12 ∧ Q none (sI (sA (sA (sA s1 91 (s1.1 94).toNatClampNeg x1) 92 (s1.1 94).toNatClampNeg x2) 93 (s1.1 94).toNatClampNeg x3) 94 ((s1.1 94) + 1)))))))) : EvM l E w (d + 1) MX10_block [.ref w.1, .int x1, .int x2, .int x3] s Q :=
  EvM.of hst (by decide) (Nat.le_of_ble_eq_true rfl) (vX10_block_0 hT)
set_option maxHeartbeats 16000000 in
theorem vX10_closes_0 {l : Launch} {E : EN} {w : MO} {d : Nat} {s : MS} {Q : Option Value → MS → Prop}  (hT : (EvM l E w d MX10_sign [.ref w.1, .int 125] s (fun r s1 => r = none ∧ (inB ((s1.1 94) - 1) 12 ∧ (∀ y2 : Int32, y2 = (s1.2.2.1 92 ((s1.1 94) - 1).toNatClampNeg) → (inB ((s1.1 94) - 1) 12 ∧ (((s1.2.2.1 91 ((s1.1 94) - 1).toNatClampNeg) = 0 → (EvM l E w d MX10_order [.ref w.1, .int 2, .int 0, .int 0, .int 0] (sI s1 94 ((s1.1 94) - 1)) (fun r s3 => ∃ v4 : Int32, r = some (.int v4) ∧ (EvM l E w d MX10_order [.ref w.1, .int 20, .int 0, .int 0, .int 0] s3 (fun r s5 => ∃ v6 : Int32, r = some (.int v6) ∧ (inB y2 24 ∧ Q none (sA s5 76 y2.toNatClampNeg (s5.1 79)))))))) ∧ (¬ ((s1.2.2.1 91 ((s1.1 94) - 1).toNatClampNeg) = 0) → (((s1.2.2.1 91 ((s1.1 94) - 1).toNatClampNeg) = 1 → (EvM l E w d MX10_isWord [.ref w.1, .int 2] (sI s1 94 ((s1.1 94) - 1)) (fun r s7 => ∃ v8 : Int32, r = some (.int v8) ∧ ((v8 = 0 → (EvM l E w d MX10_here [.ref w.1] s7 (fun r s9 => ∃ v10 : Int32, r = some (.int v10) ∧ (inB y2 8000 ∧ Q none (sA s9 81 y2.toNatClampNeg v10))))) ∧ (¬ v8 = 0 → (EvM l E w d MX10_order [.ref w.1, .int 15, .int 0, .int 0, .int 0] s7 (fun r s11 => ∃ v12 : Int32, r = some (.int v12) ∧ (EvM l E w d MX10_here [.ref w.1] s11 (fun r s13 => ∃ v14 : Int32, r = some (.int v14) ∧ (inB y2 8000 ∧ (EvM l E w d MX10_take [.ref w.1] (sA s13 81 y2.toNatClampNeg v14) (fun r s15 => r = none ∧ (EvM l E w d MX10_block [.ref w.1, .int 2, .int v12, .int 0] s15 (fun r s16 => r = none ∧ Q none s16)))))))))))))) ∧ (¬ ((s1.2.2.1 91 ((s1.1 94) - 1).toNatClampNeg) = 1) → (((s1.2.2.1 91 ((s1.1 94) - 1).toNatClampNeg) = 3 ∨ (s1.2.2.1 91 ((s1.1 94) - 1).toNatClampNeg) = 4 → (inB ((s1.1 94) - 1) 12 ∧ (EvM l E w d MX10_order [.ref w.1, .int 15, .int (s1.2.2.1 93 ((s1.1 94) - 1).toNatClampNeg), .int 0, .int 0] (sI s1 94 ((s1.1 94) - 1)) (fun r s17 => ∃ v18 : Int32, r = some (.int v18) ∧ (EvM l E w d MX10_here [.ref w.1] s17 (fun r s19 => ∃ v20 : Int32, r = some (.int v20) ∧ (inB y2 8000 ∧ Q none (sA s19 81 y2.toNatClampNeg v20)))))))) ∧ (¬ ((s1.2.2.1 91 ((s1.1 94) - 1).toNatClampNeg) = 3 ∨ (s1.2.2.1 91 ((s1.1 94) - 1).toNatClampNeg) = 4) → (((s1.2.2.1 91 ((s1.1 94) - 1).toNatClampNeg) = 5 → (EvM l E w d MX10_order [.ref w.1, .int 24, .int 0, .int 0, .int 0] (sI s1 94 ((s1.1 94) - 1)) (fun r s21 => ∃ v22 : Int32, r = some (.int v22) ∧ (inB y2 8000 ∧ (EvM l E w d MX10_word [.ref w.1, .int 10] (sA s21 84 y2.toNatClampNeg (s21.1 63)) (fun r s23 => r = none ∧ (EvM l E w d MX10_name [.ref w.1] s23 (fun r s24 => ∃ v25 : Int32, r = some (.int v25) ∧ (inB y2 8000 ∧ (EvM l E w d MX10_here [.ref w.1] (sA s24 82 y2.toNatClampNeg v25) (fun r s26 => ∃ v27 : Int32, r = some (.int v27) ∧ (inB y2 8000 ∧ (EvM l E w d MX10_block [.ref w.1, .int 6, .int v22, .int 0] (sA s26 81 y2.toNatClampNeg v27) (fun r s28 => r = none ∧ Q none s28)))))))))))))) ∧ (¬ ((s1.2.2.1 91 ((s1.1 94) - 1).toNatClampNeg) = 5) → ((EvM l E w d MX10_here [.ref w.1] (sI s1 94 ((s1.1 94) - 1)) (fun r s29 => ∃ v30 : Int32, r = some (.int v30) ∧ (inB y2 8000 ∧ Q none (sA s29 81 y2.toNatClampNeg v30))))))))))))))))))) : ExM l E w (d + 1) MX10_closes 0 [some (.ref w.1), none, none] [] s Q := by
  intro h0 h hW hF
  refine x_aload_n dX10_closes_0 rfl rfl rfl ?_
  refine x_bipush (v := 125) dX10_closes_1 rfl ?_
  refine m_inv (vs := [.int 125]) dX10_closes_3 oX10_sign q2594 q2592 qs77 rfl rfl (Nat.le_of_ble_eq_true rfl) rfl hW hF hT ?_
  rintro _ s1 ⟨rfl, hT⟩ h hW hF
  refine x_aload_n dX10_closes_6 rfl rfl rfl ?_
  refine x_dup dX10_closes_7 rfl ?_
  refine m_geti (v := (s1.1 94)) dX10_closes_8 f_TallySlateModel_362 (by decide) rfl hW rfl ?_
  refine x_iconst (v := 1) dX10_closes_11 rfl ?_
  refine x_isub dX10_closes_12 ?_
  refine m_puti dX10_closes_13 f_TallySlateModel_362 (by decide) rfl rfl rfl rfl hW hF ?_
  intro h hW hF
  refine x_aload_n dX10_closes_16 rfl rfl rfl ?_
  refine m_geta dX10_closes_17 f_TallySlateModel_151 (by decide) rfl hW ?_
  refine x_aload_n dX10_closes_20 rfl rfl rfl ?_
  refine m_geti (v := ((s1.1 94) - 1)) dX10_closes_21 f_TallySlateModel_362 (by decide) rfl hW rfl ?_
  obtain ⟨hb, hT⟩ := hT
  refine m_iald (v := (s1.2.2.1 92 ((s1.1 94) - 1).toNatClampNeg)) dX10_closes_24 rfl hb hW rfl ?_
  obtain ⟨y2, ey2⟩ : ∃ z : Int32, z = (s1.2.2.1 92 ((s1.1 94) - 1).toNatClampNeg) := ⟨_, rfl⟩
  have hT := hT y2 ey2
  refine x_istore_n (lo' := [some (.ref w.1), some (.int y2), none]) dX10_closes_25 rfl (Nat.le_of_ble_eq_true rfl) (by rw [ey2]; rfl) ?_
  refine x_aload_n dX10_closes_26 rfl rfl rfl ?_
  refine m_geta dX10_closes_27 f_TallySlateModel_148 (by decide) rfl hW ?_
  refine x_aload_n dX10_closes_30 rfl rfl rfl ?_
  refine m_geti (v := ((s1.1 94) - 1)) dX10_closes_31 f_TallySlateModel_362 (by decide) rfl hW rfl ?_
  obtain ⟨hb, hT⟩ := hT
  refine m_iald (v := (s1.2.2.1 91 ((s1.1 94) - 1).toNatClampNeg)) dX10_closes_34 rfl hb hW rfl ?_
  by_cases c : (s1.2.2.1 91 ((s1.1 94) - 1).toNatClampNeg) = 0
  · have hT := hT.1 c
    refine x_tableIn (tgt := 72) (off := 37) dX10_closes_35 (by rw [c]; decide) (by rw [c]; decide) (by rw [c]; rfl) rfl ?_
    refine x_aload_n dX10_closes_72 rfl rfl rfl ?_
    refine x_iconst (v := 2) dX10_closes_73 rfl ?_
    refine x_iconst (v := 0) dX10_closes_74 rfl ?_
    refine x_iconst (v := 0) dX10_closes_75 rfl ?_
    refine x_iconst (v := 0) dX10_closes_76 rfl ?_
    refine m_inv (vs := [.int 2, .int 0, .int 0, .int 0]) dX10_closes_77 oX10_order q2610 q2608 qs81 rfl rfl (Nat.le_of_ble_eq_true rfl) rfl hW hF hT ?_
    rintro _ s3 ⟨v4, rfl, hT⟩ h hW hF
    refine x_pop dX10_closes_80 rfl ?_
    refine x_aload_n dX10_closes_81 rfl rfl rfl ?_
    refine x_bipush (v := 20) dX10_closes_82 rfl ?_
    refine x_iconst (v := 0) dX10_closes_84 rfl ?_
    refine x_iconst (v := 0) dX10_closes_85 rfl ?_
    refine x_iconst (v := 0) dX10_closes_86 rfl ?_
    refine m_inv (vs := [.int 20, .int 0, .int 0, .int 0]) dX10_closes_87 oX10_order q2610 q2608 qs81 rfl rfl (Nat.le_of_ble_eq_true rfl) rfl hW hF hT ?_
    rintro _ s5 ⟨v6, rfl, hT⟩ h hW hF
    refine x_pop dX10_closes_90 rfl ?_
    refine x_aload_n dX10_closes_91 rfl rfl rfl ?_
    refine m_geta dX10_closes_92 f_TallySlateModel_112 (by decide) rfl hW ?_
    refine x_iload_n dX10_closes_95 rfl rfl ?_
    refine x_aload_n dX10_closes_96 rfl rfl rfl ?_
    refine m_geti (v := (s5.1 79)) dX10_closes_97 f_TallySlateModel_359 (by decide) rfl hW rfl ?_
    obtain ⟨hb, hT⟩ := hT
    refine m_iast dX10_closes_100 rfl hb hW hF ?_
    intro h hW hF
    exact x_vret dX10_closes_101 rfl ⟨_, _, rfl, hW, hF, hT⟩
  · have hT := hT.2 c
    have cs0 := c
    by_cases c : (s1.2.2.1 91 ((s1.1 94) - 1).toNatClampNeg) = 1
    · have hT := hT.1 c
      refine x_tableIn (tgt := 102) (off := 67) dX10_closes_35 (by rw [c]; decide) (by rw [c]; decide) (by rw [c]; rfl) rfl ?_
      refine x_aload_n dX10_closes_102 rfl rfl rfl ?_
      refine x_iconst (v := 2) dX10_closes_103 rfl ?_
      refine m_inv (vs := [.int 2]) dX10_closes_104 oX10_isWord q2554 q2552 qs68 rfl rfl (Nat.le_of_ble_eq_true rfl) rfl hW hF hT ?_
      rintro _ s7 ⟨v8, rfl, hT⟩ h hW hF
      refine x_if_eq (tgt := 144) dX10_closes_107 rfl (fun c => ?_) (fun c => ?_)
      · have hT := hT.1 c
        refine x_aload_n dX10_closes_144 rfl rfl rfl ?_
        refine m_geta dX10_closes_145 f_TallySlateModel_124 (by decide) rfl hW ?_
        refine x_iload_n dX10_closes_148 rfl rfl ?_
        refine x_aload_n dX10_closes_149 rfl rfl rfl ?_
        refine m_inv (vs := []) dX10_closes_150 oX10_here q2598 q2596 qs78 rfl rfl (Nat.le_of_ble_eq_true rfl) rfl hW hF hT ?_
        rintro _ s9 ⟨v10, rfl, hT⟩ h hW hF
        obtain ⟨hb, hT⟩ := hT
        refine m_iast dX10_closes_153 rfl hb hW hF ?_
        intro h hW hF
        exact x_vret dX10_closes_154 rfl ⟨_, _, rfl, hW, hF, hT⟩
      · have hT := hT.2 c
        refine x_aload_n dX10_closes_110 rfl rfl rfl ?_
        refine x_bipush (v := 15) dX10_closes_111 rfl ?_
        refine x_iconst (v := 0) dX10_closes_113 rfl ?_
        refine x_iconst (v := 0) dX10_closes_114 rfl ?_
        refine x_iconst (v := 0) dX10_closes_115 rfl ?_
        refine m_inv (vs := [.int 15, .int 0, .int 0, .int 0]) dX10_closes_116 oX10_order q2610 q2608 qs81 rfl rfl (Nat.le_of_ble_eq_true rfl) rfl hW hF hT ?_
        rintro _ s11 ⟨v12, rfl, hT⟩ h hW hF
        refine x_istore_n (lo' := [some (.ref w.1), some (.int y2), some (.int v12)]) dX10_closes_119 rfl (Nat.le_of_ble_eq_true rfl) rfl ?_
        refine x_aload_n dX10_closes_120 rfl rfl rfl ?_
        refine m_geta dX10_closes_121 f_TallySlateModel_124 (by decide) rfl hW ?_
        refine x_iload_n dX10_closes_124 rfl rfl ?_
        refine x_aload_n dX10_closes_125 rfl rfl rfl ?_
        refine m_inv (vs := []) dX10_closes_126 oX10_here q2598 q2596 qs78 rfl rfl (Nat.le_of_ble_eq_true rfl) rfl hW hF hT ?_
        rintro _ s13 ⟨v14, rfl, hT⟩ h hW hF
        obtain ⟨hb, hT⟩ := hT
        refine m_iast dX10_closes_129 rfl hb hW hF ?_
        intro h hW hF
        refine x_aload_n dX10_closes_130 rfl rfl rfl ?_
        refine m_inv (vs := []) dX10_closes_131 oX10_take q2558 q2556 qs69 rfl rfl (Nat.le_of_ble_eq_true rfl) rfl hW hF hT ?_
        rintro _ s15 ⟨rfl, hT⟩ h hW hF
        refine x_aload_n dX10_closes_134 rfl rfl rfl ?_
        refine x_iconst (v := 2) dX10_closes_135 rfl ?_
        refine x_iload_n dX10_closes_136 rfl rfl ?_
        refine x_iconst (v := 0) dX10_closes_137 rfl ?_
        refine m_inv (vs := [.int 2, .int v12, .int 0]) dX10_closes_138 oX10_block q2602 q2600 qs79 rfl rfl (Nat.le_of_ble_eq_true rfl) rfl hW hF hT ?_
        rintro _ s16 ⟨rfl, hT⟩ h hW hF
        refine x_goto (tgt := 154) dX10_closes_141 rfl ?_
        exact x_vret dX10_closes_154 rfl ⟨_, _, rfl, hW, hF, hT⟩
    · have hT := hT.2 c
      have cs1 := c
      by_cases c : (s1.2.2.1 91 ((s1.1 94) - 1).toNatClampNeg) = 3 ∨ (s1.2.2.1 91 ((s1.1 94) - 1).toNatClampNeg) = 4
      · have hT := hT.1 c
        rcases c with c | c
        · refine x_tableIn (tgt := 155) (off := 120) dX10_closes_35 (by rw [c]; decide) (by rw [c]; decide) (by rw [c]; rfl) rfl ?_
          refine x_aload_n dX10_closes_155 rfl rfl rfl ?_
          refine x_bipush (v := 15) dX10_closes_156 rfl ?_
          refine x_aload_n dX10_closes_158 rfl rfl rfl ?_
          refine m_geta dX10_closes_159 f_TallySlateModel_154 (by decide) rfl hW ?_
          refine x_aload_n dX10_closes_162 rfl rfl rfl ?_
          refine m_geti (v := ((s1.1 94) - 1)) dX10_closes_163 f_TallySlateModel_362 (by decide) rfl hW rfl ?_
          obtain ⟨hb, hT⟩ := hT
          refine m_iald (v := (s1.2.2.1 93 ((s1.1 94) - 1).toNatClampNeg)) dX10_closes_166 rfl hb hW rfl ?_
          refine x_iconst (v := 0) dX10_closes_167 rfl ?_
          refine x_iconst (v := 0) dX10_closes_168 rfl ?_
          refine m_inv (vs := [.int 15, .int (s1.2.2.1 93 ((s1.1 94) - 1).toNatClampNeg), .int 0, .int 0]) dX10_closes_169 oX10_order q2610 q2608 qs81 rfl rfl (Nat.le_of_ble_eq_true rfl) rfl hW hF hT ?_
          rintro _ s17 ⟨v18, rfl, hT⟩ h hW hF
          refine x_pop dX10_closes_172 rfl ?_
          refine x_aload_n dX10_closes_173 rfl rfl rfl ?_
          refine m_geta dX10_closes_174 f_TallySlateModel_124 (by decide) rfl hW ?_
          refine x_iload_n dX10_closes_177 rfl rfl ?_
          refine x_aload_n dX10_closes_178 rfl rfl rfl ?_
          refine m_inv (vs := []) dX10_closes_179 oX10_here q2598 q2596 qs78 rfl rfl (Nat.le_of_ble_eq_true rfl) rfl hW hF hT ?_
          rintro _ s19 ⟨v20, rfl, hT⟩ h hW hF
          obtain ⟨hb, hT⟩ := hT
          refine m_iast dX10_closes_182 rfl hb hW hF ?_
          intro h hW hF
          exact x_vret dX10_closes_183 rfl ⟨_, _, rfl, hW, hF, hT⟩
        · refine x_tableIn (tgt := 155) (off := 120) dX10_closes_35 (by rw [c]; decide) (by rw [c]; decide) (by rw [c]; rfl) rfl ?_
          refine x_aload_n dX10_closes_155 rfl rfl rfl ?_
          refine x_bipush (v := 15) dX10_closes_156 rfl ?_
          refine x_aload_n dX10_closes_158 rfl rfl rfl ?_
          refine m_geta dX10_closes_159 f_TallySlateModel_154 (by decide) rfl hW ?_
          refine x_aload_n dX10_closes_162 rfl rfl rfl ?_
          refine m_geti (v := ((s1.1 94) - 1)) dX10_closes_163 f_TallySlateModel_362 (by decide) rfl hW rfl ?_
          obtain ⟨hb, hT⟩ := hT
          refine m_iald (v := (s1.2.2.1 93 ((s1.1 94) - 1).toNatClampNeg)) dX10_closes_166 rfl hb hW rfl ?_
          refine x_iconst (v := 0) dX10_closes_167 rfl ?_
          refine x_iconst (v := 0) dX10_closes_168 rfl ?_
          refine m_inv (vs := [.int 15, .int (s1.2.2.1 93 ((s1.1 94) - 1).toNatClampNeg), .int 0, .int 0]) dX10_closes_169 oX10_order q2610 q2608 qs81 rfl rfl (Nat.le_of_ble_eq_true rfl) rfl hW hF hT ?_
          rintro _ s17 ⟨v18, rfl, hT⟩ h hW hF
          refine x_pop dX10_closes_172 rfl ?_
          refine x_aload_n dX10_closes_173 rfl rfl rfl ?_
          refine m_geta dX10_closes_174 f_TallySlateModel_124 (by decide) rfl hW ?_
          refine x_iload_n dX10_closes_177 rfl rfl ?_
          refine x_aload_n dX10_closes_178 rfl rfl rfl ?_
          refine m_inv (vs := []) dX10_closes_179 oX10_here q2598 q2596 qs78 rfl rfl (Nat.le_of_ble_eq_true rfl) rfl hW hF hT ?_
          rintro _ s19 ⟨v20, rfl, hT⟩ h hW hF
          obtain ⟨hb, hT⟩ := hT
          refine m_iast dX10_closes_182 rfl hb hW hF ?_
          intro h hW hF
          exact x_vret dX10_closes_183 rfl ⟨_, _, rfl, hW, hF, hT⟩
      · have hT := hT.2 c
        have cs2 := c
        by_cases c : (s1.2.2.1 91 ((s1.1 94) - 1).toNatClampNeg) = 5
        · have hT := hT.1 c
          refine x_tableIn (tgt := 184) (off := 149) dX10_closes_35 (by rw [c]; decide) (by rw [c]; decide) (by rw [c]; rfl) rfl ?_
          refine x_aload_n dX10_closes_184 rfl rfl rfl ?_
          refine x_bipush (v := 24) dX10_closes_185 rfl ?_
          refine x_iconst (v := 0) dX10_closes_187 rfl ?_
          refine x_iconst (v := 0) dX10_closes_188 rfl ?_
          refine x_iconst (v := 0) dX10_closes_189 rfl ?_
          refine m_inv (vs := [.int 24, .int 0, .int 0, .int 0]) dX10_closes_190 oX10_order q2610 q2608 qs81 rfl rfl (Nat.le_of_ble_eq_true rfl) rfl hW hF hT ?_
          rintro _ s21 ⟨v22, rfl, hT⟩ h hW hF
          refine x_istore_n (lo' := [some (.ref w.1), some (.int y2), some (.int v22)]) dX10_closes_193 rfl (Nat.le_of_ble_eq_true rfl) rfl ?_
          refine x_aload_n dX10_closes_194 rfl rfl rfl ?_
          refine m_geta dX10_closes_195 f_TallySlateModel_133 (by decide) rfl hW ?_
          refine x_iload_n dX10_closes_198 rfl rfl ?_
          refine x_aload_n dX10_closes_199 rfl rfl rfl ?_
          refine m_geti (v := (s21.1 63)) dX10_closes_200 f_TallySlateModel_269 (by decide) rfl hW rfl ?_
          obtain ⟨hb, hT⟩ := hT
          refine m_iast dX10_closes_203 rfl hb hW hF ?_
          intro h hW hF
          refine x_aload_n dX10_closes_204 rfl rfl rfl ?_
          refine x_bipush (v := 10) dX10_closes_205 rfl ?_
          refine m_inv (vs := [.int 10]) dX10_closes_207 oX10_word q2550 q2548 qs67 rfl rfl (Nat.le_of_ble_eq_true rfl) rfl hW hF hT ?_
          rintro _ s23 ⟨rfl, hT⟩ h hW hF
          refine x_aload_n dX10_closes_210 rfl rfl rfl ?_
          refine m_geta dX10_closes_211 f_TallySlateModel_127 (by decide) rfl hW ?_
          refine x_iload_n dX10_closes_214 rfl rfl ?_
          refine x_aload_n dX10_closes_215 rfl rfl rfl ?_
          refine m_inv (vs := []) dX10_closes_216 oX10_name q2614 q2612 qs82 rfl rfl (Nat.le_of_ble_eq_true rfl) rfl hW hF hT ?_
          rintro _ s24 ⟨v25, rfl, hT⟩ h hW hF
          obtain ⟨hb, hT⟩ := hT
          refine m_iast dX10_closes_219 rfl hb hW hF ?_
          intro h hW hF
          refine x_aload_n dX10_closes_220 rfl rfl rfl ?_
          refine m_geta dX10_closes_221 f_TallySlateModel_124 (by decide) rfl hW ?_
          refine x_iload_n dX10_closes_224 rfl rfl ?_
          refine x_aload_n dX10_closes_225 rfl rfl rfl ?_
          refine m_inv (vs := []) dX10_closes_226 oX10_here q2598 q2596 qs78 rfl rfl (Nat.le_of_ble_eq_true rfl) rfl hW hF hT ?_
          rintro _ s26 ⟨v27, rfl, hT⟩ h hW hF
          obtain ⟨hb, hT⟩ := hT
          refine m_iast dX10_closes_229 rfl hb hW hF ?_
          intro h hW hF
          refine x_aload_n dX10_closes_230 rfl rfl rfl ?_
          refine x_bipush (v := 6) dX10_closes_231 rfl ?_
          refine x_iload_n dX10_closes_233 rfl rfl ?_
          refine x_iconst (v := 0) dX10_closes_234 rfl ?_
          refine m_inv (vs := [.int 6, .int v22, .int 0]) dX10_closes_235 oX10_block q2602 q2600 qs79 rfl rfl (Nat.le_of_ble_eq_true rfl) rfl hW hF hT ?_
          rintro _ s28 ⟨rfl, hT⟩ h hW hF
          exact x_vret dX10_closes_238 rfl ⟨_, _, rfl, hW, hF, hT⟩
        · have hT := hT.2 c
          have cs3 := c
          refine x_tableD (tgt := 239) [0, 1, 3, 4, 5] dX10_closes_35 (List.forall_mem_cons.mpr ⟨fun h => cs0 (i32_of (h.trans (show (0 : Int) = (0 : Int32).toInt from by decide))), List.forall_mem_cons.mpr ⟨fun h => cs1 (i32_of (h.trans (show (1 : Int) = (1 : Int32).toInt from by decide))), List.forall_mem_cons.mpr ⟨fun h => cs2 (Or.inl (i32_of (h.trans (show (3 : Int) = (3 : Int32).toInt from by decide)))), List.forall_mem_cons.mpr ⟨fun h => cs2 (Or.inr (i32_of (h.trans (show (4 : Int) = (4 : Int32).toInt from by decide)))), List.forall_mem_cons.mpr ⟨fun h => cs3 (i32_of (h.trans (show (5 : Int) = (5 : Int32).toInt from by decide))), fun _ h => absurd h List.not_mem_nil⟩⟩⟩⟩⟩) (by decide) (by decide) rfl ?_
          refine x_aload_n dX10_closes_239 rfl rfl rfl ?_
          refine m_geta dX10_closes_240 f_TallySlateModel_124 (by decide) rfl hW ?_
          refine x_iload_n dX10_closes_243 rfl rfl ?_
          refine x_aload_n dX10_closes_244 rfl rfl rfl ?_
          refine m_inv (vs := []) dX10_closes_245 oX10_here q2598 q2596 qs78 rfl rfl (Nat.le_of_ble_eq_true rfl) rfl hW hF hT ?_
          rintro _ s29 ⟨v30, rfl, hT⟩ h hW hF
          obtain ⟨hb, hT⟩ := hT
          refine m_iast dX10_closes_248 rfl hb hW hF ?_
          intro h hW hF
          exact x_vret dX10_closes_249 rfl ⟨_, _, rfl, hW, hF, hT⟩
theorem eX10_closes {l : Launch} {E : EN} {w : MO} {d : Nat} {s : MS} {Q : Option Value → MS → Prop}  (hst : l.stackTraces = false) (hT : (EvM l E w d MX10_sign [.ref w.1, .int 125] s (fun r s1 => r = none ∧ (inB ((s1.1 94) - 1) 12 ∧ (∀ y2 : Int32, y2 = (s1.2.2.1 92 ((s1.1 94) - 1).toNatClampNeg) → (inB ((s1.1 94) - 1) 12 ∧ (((s1.2.2.1 91 ((s1.1 94) - 1).toNatClampNeg) = 0 → (EvM l E w d MX10_order [.ref w.1, .int 2, .int 0, .int 0, .int 0] (sI s1 94 ((s1.1 94) - 1)) (fun r s3 => ∃ v4 : Int32, r = some (.int v4) ∧ (EvM l E w d MX10_order [.ref w.1, .int 20, .int 0, .int 0, .int 0] s3 (fun r s5 => ∃ v6 : Int32, r = some (.int v6) ∧ (inB y2 24 ∧ Q none (sA s5 76 y2.toNatClampNeg (s5.1 79)))))))) ∧ (¬ ((s1.2.2.1 91 ((s1.1 94) - 1).toNatClampNeg) = 0) → (((s1.2.2.1 91 ((s1.1 94) - 1).toNatClampNeg) = 1 → (EvM l E w d MX10_isWord [.ref w.1, .int 2] (sI s1 94 ((s1.1 94) - 1)) (fun r s7 => ∃ v8 : Int32, r = some (.int v8) ∧ ((v8 = 0 → (EvM l E w d MX10_here [.ref w.1] s7 (fun r s9 => ∃ v10 : Int32, r = some (.int v10) ∧ (inB y2 8000 ∧ Q none (sA s9 81 y2.toNatClampNeg v10))))) ∧ (¬ v8 = 0 → (EvM l E w d MX10_order [.ref w.1, .int 15, .int 0, .int 0, .int 0] s7 (fun r s11 => ∃ v12 : Int32, r = some (.int v12) ∧ (EvM l E w d MX10_here [.ref w.1] s11 (fun r s13 => ∃ v14 : Int32, r = some (.int v14) ∧ (inB y2 8000 ∧ (EvM l E w d MX10_take [.ref w.1] (sA s13 81 y2.toNatClampNeg v14) (fun r s15 => r = none ∧ (EvM l E w d MX10_block [.ref w.1, .int 2, .int v12, .int 0] s15 (fun r s16 => r = none ∧ Q none s16)))))))))))))) ∧ (¬ ((s1.2.2.1 91 ((s1.1 94) - 1).toNatClampNeg) = 1) → (((s1.2.2.1 91 ((s1.1 94) - 1).toNatClampNeg) = 3 ∨ (s1.2.2.1 91 ((s1.1 94) - 1).toNatClampNeg) = 4 → (inB ((s1.1 94) - 1) 12 ∧ (EvM l E w d MX10_order [.ref w.1, .int 15, .int (s1.2.2.1 93 ((s1.1 94) - 1).toNatClampNeg), .int 0, .int 0] (sI s1 94 ((s1.1 94) - 1)) (fun r s17 => ∃ v18 : Int32, r = some (.int v18) ∧ (EvM l E w d MX10_here [.ref w.1] s17 (fun r s19 => ∃ v20 : Int32, r = some (.int v20) ∧ (inB y2 8000 ∧ Q none (sA s19 81 y2.toNatClampNeg v20)))))))) ∧ (¬ ((s1.2.2.1 91 ((s1.1 94) - 1).toNatClampNeg) = 3 ∨ (s1.2.2.1 91 ((s1.1 94) - 1).toNatClampNeg) = 4) → (((s1.2.2.1 91 ((s1.1 94) - 1).toNatClampNeg) = 5 → (EvM l E w d MX10_order [.ref w.1, .int 24, .int 0, .int 0, .int 0] (sI s1 94 ((s1.1 94) - 1)) (fun r s21 => ∃ v22 : Int32, r = some (.int v22) ∧ (inB y2 8000 ∧ (EvM l E w d MX10_word [.ref w.1, .int 10] (sA s21 84 y2.toNatClampNeg (s21.1 63)) (fun r s23 => r = none ∧ (EvM l E w d MX10_name [.ref w.1] s23 (fun r s24 => ∃ v25 : Int32, r = some (.int v25) ∧ (inB y2 8000 ∧ (EvM l E w d MX10_here [.ref w.1] (sA s24 82 y2.toNatClampNeg v25) (fun r s26 => ∃ v27 : Int32, r = some (.int v27) ∧ (inB y2 8000 ∧ (EvM l E w d MX10_block [.ref w.1, .int 6, .int v22, .int 0] (sA s26 81 y2.toNatClampNeg v27) (fun r s28 => r = none ∧ Q none s28)))))))))))))) ∧ (¬ ((s1.2.2.1 91 ((s1.1 94) - 1).toNatClampNeg) = 5) → ((EvM l E w d MX10_here [.ref w.1] (sI s1 94 ((s1.1 94) - 1)) (fun r s29 => ∃ v30 : Int32, r = some (.int v30) ∧ (inB y2 8000 ∧ Q none (sA s29 81 y2.toNatClampNeg v30))))))))))))))))))) : EvM l E w (d + 1) MX10_closes [.ref w.1] s Q :=
  EvM.of hst (by decide) (Nat.le_of_ble_eq_true rfl) (vX10_closes_0 hT)
theorem vX10_order_0 {l : Launch} {E : EN} {w : MO} {d : Nat} {s : MS} {Q : Option Value → MS → Prop} {x1 : Int32} {x2 : Int32} {x3 : Int32} {x4 : Int32} (hT : (∀ y1 : Int32, y1 = ((4000 * (1 - (s.1 69))) + (s.1 85)) → (inB y1 8000 ∧ (inB y1 8000 ∧ (inB y1 8000 ∧ (inB y1 8000 ∧ (inB y1 8000 ∧ Q (some (.int y1)) (sI (sA (sA (sA (sA (sA s 80 y1.toNatClampNeg x1) 81 y1.toNatClampNeg x2) 82 y1.toNatClampNeg x3) 83 y1.toNatClampNeg 0) 84 y1.toNatClampNeg x4) 85 ((s.1 85) + 1))))))))) : ExM l E w d MX10_order 0 [some (.ref w.1), some (.int x1), some (.int x2), some (.int x3), some (.int x4), none] [] s Q := by
  intro h0 h hW hF
  refine x_sipush (v := 4000) dX10_order_0 rfl ?_
  refine x_iconst (v := 1) dX10_order_3 rfl ?_
  refine x_aload_n dX10_order_4 rfl rfl rfl ?_
  refine m_geti (v := (s.1 69)) dX10_order_5 f_TallySlateModel_340 (by decide) rfl hW rfl ?_
  refine x_isub dX10_order_8 ?_
  refine x_imul dX10_order_9 ?_
  refine x_aload_n dX10_order_10 rfl rfl rfl ?_
  refine m_geti (v := (s.1 85)) dX10_order_11 f_TallySlateModel_343 (by decide) rfl hW rfl ?_
  refine x_iadd dX10_order_14 ?_
  obtain ⟨y1, ey1⟩ : ∃ z : Int32, z = ((4000 * (1 - (s.1 69))) + (s.1 85)) := ⟨_, rfl⟩
  have hT := hT y1 ey1
  refine x_istore (lo' := [some (.ref w.1), some (.int x1), some (.int x2), some (.int x3), some (.int x4), some (.int y1)]) dX10_order_15 (Nat.le_of_ble_eq_true rfl) (by rw [ey1]; rfl) ?_
  refine x_aload_n dX10_order_17 rfl rfl rfl ?_
  refine m_geta dX10_order_18 f_TallySlateModel_121 (by decide) rfl hW ?_
  refine x_iload dX10_order_21 rfl ?_
  refine x_iload_n dX10_order_23 rfl rfl ?_
  obtain ⟨hb, hT⟩ := hT
  refine m_iast dX10_order_24 rfl hb hW hF ?_
  intro h hW hF
  refine x_aload_n dX10_order_25 rfl rfl rfl ?_
  refine m_geta dX10_order_26 f_TallySlateModel_124 (by decide) rfl hW ?_
  refine x_iload dX10_order_29 rfl ?_
  refine x_iload_n dX10_order_31 rfl rfl ?_
  obtain ⟨hb, hT⟩ := hT
  refine m_iast dX10_order_32 rfl hb hW hF ?_
  intro h hW hF
  refine x_aload_n dX10_order_33 rfl rfl rfl ?_
  refine m_geta dX10_order_34 f_TallySlateModel_127 (by decide) rfl hW ?_
  refine x_iload dX10_order_37 rfl ?_
  refine x_iload_n dX10_order_39 rfl rfl ?_
  obtain ⟨hb, hT⟩ := hT
  refine m_iast dX10_order_40 rfl hb hW hF ?_
  intro h hW hF
  refine x_aload_n dX10_order_41 rfl rfl rfl ?_
  refine m_geta dX10_order_42 f_TallySlateModel_130 (by decide) rfl hW ?_
  refine x_iload dX10_order_45 rfl ?_
  refine x_iconst (v := 0) dX10_order_47 rfl ?_
  obtain ⟨hb, hT⟩ := hT
  refine m_iast dX10_order_48 rfl hb hW hF ?_
  intro h hW hF
  refine x_aload_n dX10_order_49 rfl rfl rfl ?_
  refine m_geta dX10_order_50 f_TallySlateModel_133 (by decide) rfl hW ?_
  refine x_iload dX10_order_53 rfl ?_
  refine x_iload dX10_order_55 rfl ?_
  obtain ⟨hb, hT⟩ := hT
  refine m_iast dX10_order_57 rfl hb hW hF ?_
  intro h hW hF
  refine x_aload_n dX10_order_58 rfl rfl rfl ?_
  refine x_dup dX10_order_59 rfl ?_
  refine m_geti (v := (s.1 85)) dX10_order_60 f_TallySlateModel_343 (by decide) rfl hW rfl ?_
  refine x_iconst (v := 1) dX10_order_63 rfl ?_
  refine x_iadd dX10_order_64 ?_
  refine m_puti dX10_order_65 f_TallySlateModel_343 (by decide) rfl rfl rfl rfl hW hF ?_
  intro h hW hF
  refine x_iload dX10_order_68 rfl ?_
  exact x_iret dX10_order_70 rfl rfl ⟨_, _, rfl, hW, hF, hT⟩
theorem eX10_order {l : Launch} {E : EN} {w : MO} {d : Nat} {s : MS} {Q : Option Value → MS → Prop} {x1 : Int32} {x2 : Int32} {x3 : Int32} {x4 : Int32} (hst : l.stackTraces = false) (hT : (∀ y1 : Int32, y1 = ((4000 * (1 - (s.1 69))) + (s.1 85)) → (inB y1 8000 ∧ (inB y1 8000 ∧ (inB y1 8000 ∧ (inB y1 8000 ∧ (inB y1 8000 ∧ Q (some (.int y1)) (sI (sA (sA (sA (sA (sA s 80 y1.toNatClampNeg x1) 81 y1.toNatClampNeg x2) 82 y1.toNatClampNeg x3) 83 y1.toNatClampNeg 0) 84 y1.toNatClampNeg x4) 85 ((s.1 85) + 1))))))))) : EvM l E w d MX10_order [.ref w.1, .int x1, .int x2, .int x3, .int x4] s Q :=
  EvM.of hst (by decide) (Nat.le_of_ble_eq_true rfl) (vX10_order_0 hT)
