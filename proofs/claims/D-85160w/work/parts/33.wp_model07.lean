/-! weakest preconditions of methods of the model: printed by wp.py -/
set_option maxRecDepth 100000
set_option maxHeartbeats 16000000 in
theorem vX10_areSame_0 {l : Launch} {E : EN} {w : MO} {d : Nat} {s : MS} {Q : Option Value → MS → Prop} {x1 : Int32} {x2 : Int32} (hT : (inB x1 166300 ∧ (inB x2 166300 ∧ (((s.2.2.1 104 x1.toNatClampNeg) = (s.2.2.1 104 x2.toNatClampNeg) → (inB x1 166300 ∧ (((s.2.2.1 104 x1.toNatClampNeg) = 3 → (EvM l E w d MX10_sizeAt [.ref w.1, .int x1] s (fun r s1 => ∃ v2 : Int32, r = some (.int v2) ∧ (EvM l E w d MX10_sizeAt [.ref w.1, .int x2] s1 (fun r s3 => ∃ v4 : Int32, r = some (.int v4) ∧ ((¬ v2 = v4 → (EvM l E w d MX10_goesIn [.ref w.1, .int x1, .int x2] (sI s3 112 0) (fun r s5 => r = none ∧ ExM l E w (d + 1) MX10_areSame 64 [some (.ref w.1), none, none, some (.int 0), none, none, none, none, none] [] s5 Q))) ∧ (v2 = v4 → (EvM l E w d MX10_goesIn [.ref w.1, .int x1, .int x2] (sI s3 112 0) (fun r s6 => r = none ∧ ExM l E w (d + 1) MX10_areSame 64 [some (.ref w.1), none, none, some (.int 1), none, none, none, none, none] [] s6 Q))))))))) ∧ (¬ (s.2.2.1 104 x1.toNatClampNeg) = 3 → (EvM l E w d MX10_arePlainSame [.ref w.1, .int x1, .int x2] s (fun r s7 => ∃ v8 : Int32, r = some (.int v8) ∧ (narrow .boolean (.int v8) = .int v8 ∧ Q (some (.int v8)) s7))))))) ∧ (¬ (s.2.2.1 104 x1.toNatClampNeg) = (s.2.2.1 104 x2.toNatClampNeg) → Q (some (.int 0)) s))))) : ExM l E w (d + 1) MX10_areSame 0 [some (.ref w.1), some (.int x1), some (.int x2), none, none, none, none, none, none] [] s Q := by
  intro h0 h hW hF
  refine x_aload_n dX10_areSame_0 rfl rfl rfl ?_
  refine m_geta dX10_areSame_1 f_TallySlateModel_183 (by decide) rfl hW ?_
  refine x_iload_n dX10_areSame_4 rfl rfl ?_
  obtain ⟨hb, hT⟩ := hT
  refine m_iald (v := (s.2.2.1 104 x1.toNatClampNeg)) dX10_areSame_5 rfl hb hW rfl ?_
  refine x_aload_n dX10_areSame_6 rfl rfl rfl ?_
  refine m_geta dX10_areSame_7 f_TallySlateModel_183 (by decide) rfl hW ?_
  refine x_iload_n dX10_areSame_10 rfl rfl ?_
  obtain ⟨hb, hT⟩ := hT
  refine m_iald (v := (s.2.2.1 104 x2.toNatClampNeg)) dX10_areSame_11 rfl hb hW rfl ?_
  refine x_icmp_eq (tgt := 17) dX10_areSame_12 rfl (fun c => ?_) (fun c => ?_)
  · have hT := hT.1 c
    refine x_aload_n dX10_areSame_17 rfl rfl rfl ?_
    refine m_geta dX10_areSame_18 f_TallySlateModel_183 (by decide) rfl hW ?_
    refine x_iload_n dX10_areSame_21 rfl rfl ?_
    obtain ⟨hb, hT⟩ := hT
    refine m_iald (v := (s.2.2.1 104 x1.toNatClampNeg)) dX10_areSame_22 rfl hb hW rfl ?_
    refine x_iconst (v := 3) dX10_areSame_23 rfl ?_
    refine x_icmp_eq (tgt := 34) dX10_areSame_24 rfl (fun c => ?_) (fun c => ?_)
    · have hT := hT.1 c
      refine x_aload_n dX10_areSame_34 rfl rfl rfl ?_
      refine x_iload_n dX10_areSame_35 rfl rfl ?_
      refine m_inv (vs := [.int x1]) dX10_areSame_36 oX10_sizeAt q2735 q2733 qs107 rfl rfl (Nat.le_of_ble_eq_true rfl) rfl hW hF hT ?_
      rintro _ s1 ⟨v2, rfl, hT⟩ h hW hF
      refine x_aload_n dX10_areSame_39 rfl rfl rfl ?_
      refine x_iload_n dX10_areSame_40 rfl rfl ?_
      refine m_inv (vs := [.int x2]) dX10_areSame_41 oX10_sizeAt q2735 q2733 qs107 rfl rfl (Nat.le_of_ble_eq_true rfl) rfl hW hF hT ?_
      rintro _ s3 ⟨v4, rfl, hT⟩ h hW hF
      refine x_icmp_ne (tgt := 51) dX10_areSame_44 rfl (fun c => ?_) (fun c => ?_)
      · have hT := hT.1 c
        refine x_iconst (v := 0) dX10_areSame_51 rfl ?_
        refine x_istore_n (lo' := [some (.ref w.1), some (.int x1), some (.int x2), some (.int 0), none, none, none, none, none]) dX10_areSame_52 rfl (Nat.le_of_ble_eq_true rfl) rfl ?_
        refine x_aload_n dX10_areSame_53 rfl rfl rfl ?_
        refine x_iconst (v := 0) dX10_areSame_54 rfl ?_
        refine m_puti dX10_areSame_55 f_TallySlateModel_474 (by decide) rfl rfl rfl rfl hW hF ?_
        intro h hW hF
        refine x_aload_n dX10_areSame_58 rfl rfl rfl ?_
        refine x_iload_n dX10_areSame_59 rfl rfl ?_
        refine x_iload_n dX10_areSame_60 rfl rfl ?_
        refine m_inv (vs := [.int x1, .int x2]) dX10_areSame_61 oX10_goesIn q2755 q2753 qs112 rfl rfl (Nat.le_of_ble_eq_true rfl) rfl hW hF hT ?_
        rintro _ s5 ⟨rfl, hT⟩ h hW hF
        refine Ex.wkl (lo' := [some (.ref w.1), none, none, some (.int 0), none, none, none, none, none]) ⟨rfl, rfl, trivial⟩ ?_
        exact hT h0 h hW hF
      · have hT := hT.2 c
        refine x_iconst (v := 1) dX10_areSame_47 rfl ?_
        refine x_goto (tgt := 52) dX10_areSame_48 rfl ?_
        refine x_istore_n (lo' := [some (.ref w.1), some (.int x1), some (.int x2), some (.int 1), none, none, none, none, none]) dX10_areSame_52 rfl (Nat.le_of_ble_eq_true rfl) rfl ?_
        refine x_aload_n dX10_areSame_53 rfl rfl rfl ?_
        refine x_iconst (v := 0) dX10_areSame_54 rfl ?_
        refine m_puti dX10_areSame_55 f_TallySlateModel_474 (by decide) rfl rfl rfl rfl hW hF ?_
        intro h hW hF
        refine x_aload_n dX10_areSame_58 rfl rfl rfl ?_
        refine x_iload_n dX10_areSame_59 rfl rfl ?_
        refine x_iload_n dX10_areSame_60 rfl rfl ?_
        refine m_inv (vs := [.int x1, .int x2]) dX10_areSame_61 oX10_goesIn q2755 q2753 qs112 rfl rfl (Nat.le_of_ble_eq_true rfl) rfl hW hF hT ?_
        rintro _ s6 ⟨rfl, hT⟩ h hW hF
        refine Ex.wkl (lo' := [some (.ref w.1), none, none, some (.int 1), none, none, none, none, none]) ⟨rfl, rfl, trivial⟩ ?_
        exact hT h0 h hW hF
    · have hT := hT.2 c
      refine x_aload_n dX10_areSame_27 rfl rfl rfl ?_
      refine x_iload_n dX10_areSame_28 rfl rfl ?_
      refine x_iload_n dX10_areSame_29 rfl rfl ?_
      refine m_inv (vs := [.int x1, .int x2]) dX10_areSame_30 oX10_arePlainSame q2883 q2881 qs141 rfl rfl (Nat.le_of_ble_eq_true rfl) rfl hW hF hT ?_
      rintro _ s7 ⟨v8, rfl, hT⟩ h hW hF
      exact x_iret dX10_areSame_33 rfl hT.1 ⟨_, _, rfl, hW, hF, hT.2⟩
  · have hT := hT.2 c
    refine x_iconst (v := 0) dX10_areSame_15 rfl ?_
    exact x_iret dX10_areSame_16 rfl rfl ⟨_, _, rfl, hW, hF, hT⟩
theorem eX10_areSame {l : Launch} {E : EN} {w : MO} {d : Nat} {s : MS} {Q : Option Value → MS → Prop} {x1 : Int32} {x2 : Int32} (hst : l.stackTraces = false) (hT : (inB x1 166300 ∧ (inB x2 166300 ∧ (((s.2.2.1 104 x1.toNatClampNeg) = (s.2.2.1 104 x2.toNatClampNeg) → (inB x1 166300 ∧ (((s.2.2.1 104 x1.toNatClampNeg) = 3 → (EvM l E w d MX10_sizeAt [.ref w.1, .int x1] s (fun r s1 => ∃ v2 : Int32, r = some (.int v2) ∧ (EvM l E w d MX10_sizeAt [.ref w.1, .int x2] s1 (fun r s3 => ∃ v4 : Int32, r = some (.int v4) ∧ ((¬ v2 = v4 → (EvM l E w d MX10_goesIn [.ref w.1, .int x1, .int x2] (sI s3 112 0) (fun r s5 => r = none ∧ ExM l E w (d + 1) MX10_areSame 64 [some (.ref w.1), none, none, some (.int 0), none, none, none, none, none] [] s5 Q))) ∧ (v2 = v4 → (EvM l E w d MX10_goesIn [.ref w.1, .int x1, .int x2] (sI s3 112 0) (fun r s6 => r = none ∧ ExM l E w (d + 1) MX10_areSame 64 [some (.ref w.1), none, none, some (.int 1), none, none, none, none, none] [] s6 Q))))))))) ∧ (¬ (s.2.2.1 104 x1.toNatClampNeg) = 3 → (EvM l E w d MX10_arePlainSame [.ref w.1, .int x1, .int x2] s (fun r s7 => ∃ v8 : Int32, r = some (.int v8) ∧ (narrow .boolean (.int v8) = .int v8 ∧ Q (some (.int v8)) s7))))))) ∧ (¬ (s.2.2.1 104 x1.toNatClampNeg) = (s.2.2.1 104 x2.toNatClampNeg) → Q (some (.int 0)) s))))) : EvM l E w (d + 1) MX10_areSame [.ref w.1, .int x1, .int x2] s Q :=
  EvM.of hst (by decide) (Nat.le_of_ble_eq_true rfl) (vX10_areSame_0 hT)
set_option maxHeartbeats 16000000 in
theorem vX10_areSame_64 {l : Launch} {E : EN} {w : MO} {d : Nat} {s : MS} {Q : Option Value → MS → Prop} {a3 : Int32} (hT : ((a3 = 0 → (narrow .boolean (.int a3) = .int a3 ∧ Q (some (.int a3)) s)) ∧ (¬ a3 = 0 → (((s.1 112) ≤ 0 → (narrow .boolean (.int a3) = .int a3 ∧ Q (some (.int a3)) s)) ∧ (¬ (s.1 112) ≤ 0 → (inB ((s.1 112) - 1) 8 ∧ (∀ y1 : Int32, y1 = (s.2.2.1 109 ((s.1 112) - 1).toNatClampNeg) → (inB ((s.1 112) - 1) 8 ∧ (∀ y2 : Int32, y2 = (s.2.2.1 110 ((s.1 112) - 1).toNatClampNeg) → (inB ((s.1 112) - 1) 8 ∧ (∀ y3 : Int32, y3 = (s.2.2.1 111 ((s.1 112) - 1).toNatClampNeg) → (EvM l E w d MX10_sizeAt [.ref w.1, .int y1] s (fun r s4 => ∃ v5 : Int32, r = some (.int v5) ∧ ((¬ y3 = v5 → (inB ((s4.1 112) - 1) 8 ∧ (inB ((s4.1 112) - 1) 8 ∧ (EvM l E w d MX10_isInt [.ref w.1, .int y1, .int y3] (sA s4 111 ((s4.1 112) - 1).toNatClampNeg ((s4.2.2.1 111 ((s4.1 112) - 1).toNatClampNeg) + 1)) (fun r s6 => ∃ v7 : Int32, r = some (.int v7) ∧ ((¬ v7 = 0 → (EvM l E w d MX10_isInt [.ref w.1, .int y1, .int y3] s6 (fun r s8 => ∃ v9 : Int32, r = some (.int v9) ∧ ((v9 = 0 → ExM l E w (d + 1) MX10_areSame 64 [some (.ref w.1), none, none, some (.int 0), none, none, none, none, none] [] s8 Q) ∧ (¬ v9 = 0 → (EvM l E w d MX10_isInt [.ref w.1, .int y2, .int y3] s8 (fun r s10 => ∃ v11 : Int32, r = some (.int v11) ∧ ((v11 = 0 → ExM l E w (d + 1) MX10_areSame 64 [some (.ref w.1), none, none, some (.int 0), none, none, none, none, none] [] s10 Q) ∧ (¬ v11 = 0 → (inB ((y1 + 3) + (2 * y3)) 166300 ∧ (inB ((y2 + 3) + (2 * y3)) 166300 ∧ ((¬ (s10.2.2.1 104 ((y1 + 3) + (2 * y3)).toNatClampNeg) = (s10.2.2.1 104 ((y2 + 3) + (2 * y3)).toNatClampNeg) → ExM l E w (d + 1) MX10_areSame 64 [some (.ref w.1), none, none, some (.int 0), none, none, none, none, none] [] s10 Q) ∧ ((s10.2.2.1 104 ((y1 + 3) + (2 * y3)).toNatClampNeg) = (s10.2.2.1 104 ((y2 + 3) + (2 * y3)).toNatClampNeg) → ExM l E w (d + 1) MX10_areSame 64 [some (.ref w.1), none, none, some (.int 1), none, none, none, none, none] [] s10 Q))))))))))))) ∧ (v7 = 0 → (EvM l E w d MX10_isInt [.ref w.1, .int y2, .int y3] s6 (fun r s12 => ∃ v13 : Int32, r = some (.int v13) ∧ ((v13 = 0 → (EvM l E w d MX10_partAt [.ref w.1, .int y1, .int y3] s12 (fun r s14 => ∃ v15 : Int32, r = some (.int v15) ∧ (EvM l E w d MX10_partAt [.ref w.1, .int y2, .int y3] s14 (fun r s16 => ∃ v17 : Int32, r = some (.int v17) ∧ (inB v15 166300 ∧ (inB v17 166300 ∧ ((¬ (s16.2.2.1 104 v15.toNatClampNeg) = (s16.2.2.1 104 v17.toNatClampNeg) → (inB v15 166300 ∧ ((¬ (s16.2.2.1 104 v15.toNatClampNeg) = 3 → ExM l E w (d + 1) MX10_areSame 64 [some (.ref w.1), none, none, some (.int 0), none, none, none, none, none] [] s16 Q) ∧ ((s16.2.2.1 104 v15.toNatClampNeg) = 3 → (EvM l E w d MX10_goesIn [.ref w.1, .int v15, .int v17] s16 (fun r s18 => r = none ∧ ExM l E w (d + 1) MX10_areSame 64 [some (.ref w.1), none, none, some (.int 0), none, none, none, none, none] [] s18 Q)))))) ∧ ((s16.2.2.1 104 v15.toNatClampNeg) = (s16.2.2.1 104 v17.toNatClampNeg) → (inB v15 166300 ∧ ((¬ (s16.2.2.1 104 v15.toNatClampNeg) = 3 → (EvM l E w d MX10_arePlainSame [.ref w.1, .int v15, .int v17] s16 (fun r s19 => ∃ v20 : Int32, r = some (.int v20) ∧ ((v20 = 0 → (inB v15 166300 ∧ ((¬ (s19.2.2.1 104 v15.toNatClampNeg) = 3 → ExM l E w (d + 1) MX10_areSame 64 [some (.ref w.1), none, none, some (.int 0), none, none, none, none, none] [] s19 Q) ∧ ((s19.2.2.1 104 v15.toNatClampNeg) = 3 → (EvM l E w d MX10_goesIn [.ref w.1, .int v15, .int v17] s19 (fun r s21 => r = none ∧ ExM l E w (d + 1) MX10_areSame 64 [some (.ref w.1), none, none, some (.int 0), none, none, none, none, none] [] s21 Q)))))) ∧ (¬ v20 = 0 → (inB v15 166300 ∧ ((¬ (s19.2.2.1 104 v15.toNatClampNeg) = 3 → ExM l E w (d + 1) MX10_areSame 64 [some (.ref w.1), none, none, some (.int 1), none, none, none, none, none] [] s19 Q) ∧ ((s19.2.2.1 104 v15.toNatClampNeg) = 3 → (EvM l E w d MX10_goesIn [.ref w.1, .int v15, .int v17] s19 (fun r s22 => r = none ∧ ExM l E w (d + 1) MX10_areSame 64 [some (.ref w.1), none, none, some (.int 1), none, none, none, none, none] [] s22 Q)))))))))) ∧ ((s16.2.2.1 104 v15.toNatClampNeg) = 3 → (EvM l E w d MX10_sizeAt [.ref w.1, .int v15] s16 (fun r s23 => ∃ v24 : Int32, r = some (.int v24) ∧ (EvM l E w d MX10_sizeAt [.ref w.1, .int v17] s23 (fun r s25 => ∃ v26 : Int32, r = some (.int v26) ∧ ((¬ v24 = v26 → (inB v15 166300 ∧ ((¬ (s25.2.2.1 104 v15.toNatClampNeg) = 3 → ExM l E w (d + 1) MX10_areSame 64 [some (.ref w.1), none, none, some (.int 0), none, none, none, none, none] [] s25 Q) ∧ ((s25.2.2.1 104 v15.toNatClampNeg) = 3 → (EvM l E w d MX10_goesIn [.ref w.1, .int v15, .int v17] s25 (fun r s27 => r = none ∧ ExM l E w (d + 1) MX10_areSame 64 [some (.ref w.1), none, none, some (.int 0), none, none, none, none, none] [] s27 Q)))))) ∧ (v24 = v26 → (inB v15 166300 ∧ ((¬ (s25.2.2.1 104 v15.toNatClampNeg) = 3 → ExM l E w (d + 1) MX10_areSame 64 [some (.ref w.1), none, none, some (.int 1), none, none, none, none, none] [] s25 Q) ∧ ((s25.2.2.1 104 v15.toNatClampNeg) = 3 → (EvM l E w d MX10_goesIn [.ref w.1, .int v15, .int v17] s25 (fun r s28 => r = none ∧ ExM l E w (d + 1) MX10_areSame 64 [some (.ref w.1), none, none, some (.int 1), none, none, none, none, none] [] s28 Q))))))))))))))))))))))) ∧ (¬ v13 = 0 → (EvM l E w d MX10_isInt [.ref w.1, .int y1, .int y3] s12 (fun r s29 => ∃ v30 : Int32, r = some (.int v30) ∧ ((v30 = 0 → ExM l E w (d + 1) MX10_areSame 64 [some (.ref w.1), none, none, some (.int 0), none, none, none, none, none] [] s29 Q) ∧ (¬ v30 = 0 → (EvM l E w d MX10_isInt [.ref w.1, .int y2, .int y3] s29 (fun r s31 => ∃ v32 : Int32, r = some (.int v32) ∧ ((v32 = 0 → ExM l E w (d + 1) MX10_areSame 64 [some (.ref w.1), none, none, some (.int 0), none, none, none, none, none] [] s31 Q) ∧ (¬ v32 = 0 → (inB ((y1 + 3) + (2 * y3)) 166300 ∧ (inB ((y2 + 3) + (2 * y3)) 166300 ∧ ((¬ (s31.2.2.1 104 ((y1 + 3) + (2 * y3)).toNatClampNeg) = (s31.2.2.1 104 ((y2 + 3) + (2 * y3)).toNatClampNeg) → ExM l E w (d + 1) MX10_areSame 64 [some (.ref w.1), none, none, some (.int 0), none, none, none, none, none] [] s31 Q) ∧ ((s31.2.2.1 104 ((y1 + 3) + (2 * y3)).toNatClampNeg) = (s31.2.2.1 104 ((y2 + 3) + (2 * y3)).toNatClampNeg) → ExM l E w (d + 1) MX10_areSame 64 [some (.ref w.1), none, none, some (.int 1), none, none, none, none, none] [] s31 Q))))))))))))))))))))))) ∧ (y3 = v5 → ExM l E w (d + 1) MX10_areSame 64 [some (.ref w.1), none, none, some (.int a3), none, none, none, none, none] [] (sI s4 112 ((s4.1 112) - 1)) Q))))))))))))))) : ExM l E w (d + 1) MX10_areSame 64 [some (.ref w.1), none, none, some (.int a3), none, none, none, none, none] [] s Q := by
  intro h0 h hW hF
  refine x_iload_n dX10_areSame_64 rfl rfl ?_
  refine x_if_eq (tgt := 342) dX10_areSame_65 rfl (fun c => ?_) (fun c => ?_)
  · have hT := hT.1 c
    refine x_iload_n dX10_areSame_342 rfl rfl ?_
    exact x_iret dX10_areSame_343 rfl hT.1 ⟨_, _, rfl, hW, hF, hT.2⟩
  · have hT := hT.2 c
    refine x_aload_n dX10_areSame_68 rfl rfl rfl ?_
    refine m_geti (v := (s.1 112)) dX10_areSame_69 f_TallySlateModel_474 (by decide) rfl hW rfl ?_
    refine x_if_le (tgt := 342) dX10_areSame_72 rfl (fun c => ?_) (fun c => ?_)
    · have hT := hT.1 c
      refine x_iload_n dX10_areSame_342 rfl rfl ?_
      exact x_iret dX10_areSame_343 rfl hT.1 ⟨_, _, rfl, hW, hF, hT.2⟩
    · have hT := hT.2 c
      refine x_aload_n dX10_areSame_75 rfl rfl rfl ?_
      refine m_geta dX10_areSame_76 f_TallySlateModel_192 (by decide) rfl hW ?_
      refine x_aload_n dX10_areSame_79 rfl rfl rfl ?_
      refine m_geti (v := (s.1 112)) dX10_areSame_80 f_TallySlateModel_474 (by decide) rfl hW rfl ?_
      refine x_iconst (v := 1) dX10_areSame_83 rfl ?_
      refine x_isub dX10_areSame_84 ?_
      obtain ⟨hb, hT⟩ := hT
      refine m_iald (v := (s.2.2.1 109 ((s.1 112) - 1).toNatClampNeg)) dX10_areSame_85 rfl hb hW rfl ?_
      obtain ⟨y1, ey1⟩ : ∃ z : Int32, z = (s.2.2.1 109 ((s.1 112) - 1).toNatClampNeg) := ⟨_, rfl⟩
      have hT := hT y1 ey1
      refine x_istore (lo' := [some (.ref w.1), none, none, some (.int a3), some (.int y1), none, none, none, none]) dX10_areSame_86 (Nat.le_of_ble_eq_true rfl) (by rw [ey1]; rfl) ?_
      refine x_aload_n dX10_areSame_88 rfl rfl rfl ?_
      refine m_geta dX10_areSame_89 f_TallySlateModel_195 (by decide) rfl hW ?_
      refine x_aload_n dX10_areSame_92 rfl rfl rfl ?_
      refine m_geti (v := (s.1 112)) dX10_areSame_93 f_TallySlateModel_474 (by decide) rfl hW rfl ?_
      refine x_iconst (v := 1) dX10_areSame_96 rfl ?_
      refine x_isub dX10_areSame_97 ?_
      obtain ⟨hb, hT⟩ := hT
      refine m_iald (v := (s.2.2.1 110 ((s.1 112) - 1).toNatClampNeg)) dX10_areSame_98 rfl hb hW rfl ?_
      obtain ⟨y2, ey2⟩ : ∃ z : Int32, z = (s.2.2.1 110 ((s.1 112) - 1).toNatClampNeg) := ⟨_, rfl⟩
      have hT := hT y2 ey2
      refine x_istore (lo' := [some (.ref w.1), none, none, some (.int a3), some (.int y1), some (.int y2), none, none, none]) dX10_areSame_99 (Nat.le_of_ble_eq_true rfl) (by rw [ey2]; rfl) ?_
      refine x_aload_n dX10_areSame_101 rfl rfl rfl ?_
      refine m_geta dX10_areSame_102 f_TallySlateModel_198 (by decide) rfl hW ?_
      refine x_aload_n dX10_areSame_105 rfl rfl rfl ?_
      refine m_geti (v := (s.1 112)) dX10_areSame_106 f_TallySlateModel_474 (by decide) rfl hW rfl ?_
      refine x_iconst (v := 1) dX10_areSame_109 rfl ?_
      refine x_isub dX10_areSame_110 ?_
      obtain ⟨hb, hT⟩ := hT
      refine m_iald (v := (s.2.2.1 111 ((s.1 112) - 1).toNatClampNeg)) dX10_areSame_111 rfl hb hW rfl ?_
      obtain ⟨y3, ey3⟩ : ∃ z : Int32, z = (s.2.2.1 111 ((s.1 112) - 1).toNatClampNeg) := ⟨_, rfl⟩
      have hT := hT y3 ey3
      refine x_istore (lo' := [some (.ref w.1), none, none, some (.int a3), some (.int y1), some (.int y2), some (.int y3), none, none]) dX10_areSame_112 (Nat.le_of_ble_eq_true rfl) (by rw [ey3]; rfl) ?_
      refine x_iload dX10_areSame_114 rfl ?_
      refine x_aload_n dX10_areSame_116 rfl rfl rfl ?_
      refine x_iload dX10_areSame_117 rfl ?_
      refine m_inv (vs := [.int y1]) dX10_areSame_119 oX10_sizeAt q2735 q2733 qs107 rfl rfl (Nat.le_of_ble_eq_true rfl) rfl hW hF hT ?_
      rintro _ s4 ⟨v5, rfl, hT⟩ h hW hF
      refine x_icmp_ne (tgt := 138) dX10_areSame_122 rfl (fun c => ?_) (fun c => ?_)
      · have hT := hT.1 c
        refine x_aload_n dX10_areSame_138 rfl rfl rfl ?_
        refine m_geta dX10_areSame_139 f_TallySlateModel_198 (by decide) rfl hW ?_
        refine x_aload_n dX10_areSame_142 rfl rfl rfl ?_
        refine m_geti (v := (s4.1 112)) dX10_areSame_143 f_TallySlateModel_474 (by decide) rfl hW rfl ?_
        refine x_iconst (v := 1) dX10_areSame_146 rfl ?_
        refine x_isub dX10_areSame_147 ?_
        refine x_dup2 dX10_areSame_148 rfl rfl ?_
        obtain ⟨hb, hT⟩ := hT
        refine m_iald (v := (s4.2.2.1 111 ((s4.1 112) - 1).toNatClampNeg)) dX10_areSame_149 rfl hb hW rfl ?_
        refine x_iconst (v := 1) dX10_areSame_150 rfl ?_
        refine x_iadd dX10_areSame_151 ?_
        obtain ⟨hb, hT⟩ := hT
        refine m_iast dX10_areSame_152 rfl hb hW hF ?_
        intro h hW hF
        refine x_aload_n dX10_areSame_153 rfl rfl rfl ?_
        refine x_iload dX10_areSame_154 rfl ?_
        refine x_iload dX10_areSame_156 rfl ?_
        refine m_inv (vs := [.int y1, .int y3]) dX10_areSame_158 oX10_isInt q2759 q2757 qs113 rfl rfl (Nat.le_of_ble_eq_true rfl) rfl hW hF hT ?_
        rintro _ s6 ⟨v7, rfl, hT⟩ h hW hF
        refine x_if_ne (tgt := 175) dX10_areSame_161 rfl (fun c => ?_) (fun c => ?_)
        · have hT := hT.1 c
          refine x_aload_n dX10_areSame_175 rfl rfl rfl ?_
          refine x_iload dX10_areSame_176 rfl ?_
          refine x_iload dX10_areSame_178 rfl ?_
          refine m_inv (vs := [.int y1, .int y3]) dX10_areSame_180 oX10_isInt q2759 q2757 qs113 rfl rfl (Nat.le_of_ble_eq_true rfl) rfl hW hF hT ?_
          rintro _ s8 ⟨v9, rfl, hT⟩ h hW hF
          refine x_if_eq (tgt := 232) dX10_areSame_183 rfl (fun c => ?_) (fun c => ?_)
          · have hT := hT.1 c
            refine x_iconst (v := 0) dX10_areSame_232 rfl ?_
            refine x_istore_n (lo' := [some (.ref w.1), none, none, some (.int 0), some (.int y1), some (.int y2), some (.int y3), none, none]) dX10_areSame_233 rfl (Nat.le_of_ble_eq_true rfl) rfl ?_
            refine x_goto (tgt := 64) dX10_areSame_234 rfl ?_
            refine Ex.wkl (lo' := [some (.ref w.1), none, none, some (.int 0), none, none, none, none, none]) ⟨rfl, rfl, trivial⟩ ?_
            exact hT h0 h hW hF
          · have hT := hT.2 c
            refine x_aload_n dX10_areSame_186 rfl rfl rfl ?_
            refine x_iload dX10_areSame_187 rfl ?_
            refine x_iload dX10_areSame_189 rfl ?_
            refine m_inv (vs := [.int y2, .int y3]) dX10_areSame_191 oX10_isInt q2759 q2757 qs113 rfl rfl (Nat.le_of_ble_eq_true rfl) rfl hW hF hT ?_
            rintro _ s10 ⟨v11, rfl, hT⟩ h hW hF
            refine x_if_eq (tgt := 232) dX10_areSame_194 rfl (fun c => ?_) (fun c => ?_)
            · have hT := hT.1 c
              refine x_iconst (v := 0) dX10_areSame_232 rfl ?_
              refine x_istore_n (lo' := [some (.ref w.1), none, none, some (.int 0), some (.int y1), some (.int y2), some (.int y3), none, none]) dX10_areSame_233 rfl (Nat.le_of_ble_eq_true rfl) rfl ?_
              refine x_goto (tgt := 64) dX10_areSame_234 rfl ?_
              refine Ex.wkl (lo' := [some (.ref w.1), none, none, some (.int 0), none, none, none, none, none]) ⟨rfl, rfl, trivial⟩ ?_
              exact hT h0 h hW hF
            · have hT := hT.2 c
              refine x_aload_n dX10_areSame_197 rfl rfl rfl ?_
              refine m_geta dX10_areSame_198 f_TallySlateModel_183 (by decide) rfl hW ?_
              refine x_iload dX10_areSame_201 rfl ?_
              refine x_iconst (v := 3) dX10_areSame_203 rfl ?_
              refine x_iadd dX10_areSame_204 ?_
              refine x_iconst (v := 2) dX10_areSame_205 rfl ?_
              refine x_iload dX10_areSame_206 rfl ?_
              refine x_imul dX10_areSame_208 ?_
              refine x_iadd dX10_areSame_209 ?_
              obtain ⟨hb, hT⟩ := hT
              refine m_iald (v := (s10.2.2.1 104 ((y1 + 3) + (2 * y3)).toNatClampNeg)) dX10_areSame_210 rfl hb hW rfl ?_
              refine x_aload_n dX10_areSame_211 rfl rfl rfl ?_
              refine m_geta dX10_areSame_212 f_TallySlateModel_183 (by decide) rfl hW ?_
              refine x_iload dX10_areSame_215 rfl ?_
              refine x_iconst (v := 3) dX10_areSame_217 rfl ?_
              refine x_iadd dX10_areSame_218 ?_
              refine x_iconst (v := 2) dX10_areSame_219 rfl ?_
              refine x_iload dX10_areSame_220 rfl ?_
              refine x_imul dX10_areSame_222 ?_
              refine x_iadd dX10_areSame_223 ?_
              obtain ⟨hb, hT⟩ := hT
              refine m_iald (v := (s10.2.2.1 104 ((y2 + 3) + (2 * y3)).toNatClampNeg)) dX10_areSame_224 rfl hb hW rfl ?_
              refine x_icmp_ne (tgt := 232) dX10_areSame_225 rfl (fun c => ?_) (fun c => ?_)
              · have hT := hT.1 c
                refine x_iconst (v := 0) dX10_areSame_232 rfl ?_
                refine x_istore_n (lo' := [some (.ref w.1), none, none, some (.int 0), some (.int y1), some (.int y2), some (.int y3), none, none]) dX10_areSame_233 rfl (Nat.le_of_ble_eq_true rfl) rfl ?_
                refine x_goto (tgt := 64) dX10_areSame_234 rfl ?_
                refine Ex.wkl (lo' := [some (.ref w.1), none, none, some (.int 0), none, none, none, none, none]) ⟨rfl, rfl, trivial⟩ ?_
                exact hT h0 h hW hF
              · have hT := hT.2 c
                refine x_iconst (v := 1) dX10_areSame_228 rfl ?_
                refine x_goto (tgt := 233) dX10_areSame_229 rfl ?_
                refine x_istore_n (lo' := [some (.ref w.1), none, none, some (.int 1), some (.int y1), some (.int y2), some (.int y3), none, none]) dX10_areSame_233 rfl (Nat.le_of_ble_eq_true rfl) rfl ?_
                refine x_goto (tgt := 64) dX10_areSame_234 rfl ?_
                refine Ex.wkl (lo' := [some (.ref w.1), none, none, some (.int 1), none, none, none, none, none]) ⟨rfl, rfl, trivial⟩ ?_
                exact hT h0 h hW hF
        · have hT := hT.2 c
          refine x_aload_n dX10_areSame_164 rfl rfl rfl ?_
          refine x_iload dX10_areSame_165 rfl ?_
          refine x_iload dX10_areSame_167 rfl ?_
          refine m_inv (vs := [.int y2, .int y3]) dX10_areSame_169 oX10_isInt q2759 q2757 qs113 rfl rfl (Nat.le_of_ble_eq_true rfl) rfl hW hF hT ?_
          rintro _ s12 ⟨v13, rfl, hT⟩ h hW hF
          refine x_if_eq (tgt := 237) dX10_areSame_172 rfl (fun c => ?_) (fun c => ?_)
          · have hT := hT.1 c
            refine x_aload_n dX10_areSame_237 rfl rfl rfl ?_
            refine x_iload dX10_areSame_238 rfl ?_
            refine x_iload dX10_areSame_240 rfl ?_
            refine m_inv (vs := [.int y1, .int y3]) dX10_areSame_242 oX10_partAt q2751 q2749 qs111 rfl rfl (Nat.le_of_ble_eq_true rfl) rfl hW hF hT ?_
            rintro _ s14 ⟨v15, rfl, hT⟩ h hW hF
            refine x_istore (lo' := [some (.ref w.1), none, none, some (.int a3), some (.int y1), some (.int y2), some (.int y3), some (.int v15), none]) dX10_areSame_245 (Nat.le_of_ble_eq_true rfl) rfl ?_
            refine x_aload_n dX10_areSame_247 rfl rfl rfl ?_
            refine x_iload dX10_areSame_248 rfl ?_
            refine x_iload dX10_areSame_250 rfl ?_
            refine m_inv (vs := [.int y2, .int y3]) dX10_areSame_252 oX10_partAt q2751 q2749 qs111 rfl rfl (Nat.le_of_ble_eq_true rfl) rfl hW hF hT ?_
            rintro _ s16 ⟨v17, rfl, hT⟩ h hW hF
            refine x_istore (lo' := [some (.ref w.1), none, none, some (.int a3), some (.int y1), some (.int y2), some (.int y3), some (.int v15), some (.int v17)]) dX10_areSame_255 (Nat.le_of_ble_eq_true rfl) rfl ?_
            refine x_aload_n dX10_areSame_257 rfl rfl rfl ?_
            refine m_geta dX10_areSame_258 f_TallySlateModel_183 (by decide) rfl hW ?_
            refine x_iload dX10_areSame_261 rfl ?_
            obtain ⟨hb, hT⟩ := hT
            refine m_iald (v := (s16.2.2.1 104 v15.toNatClampNeg)) dX10_areSame_263 rfl hb hW rfl ?_
            refine x_aload_n dX10_areSame_264 rfl rfl rfl ?_
            refine m_geta dX10_areSame_265 f_TallySlateModel_183 (by decide) rfl hW ?_
            refine x_iload dX10_areSame_268 rfl ?_
            obtain ⟨hb, hT⟩ := hT
            refine m_iald (v := (s16.2.2.1 104 v17.toNatClampNeg)) dX10_areSame_270 rfl hb hW rfl ?_
            refine x_icmp_ne (tgt := 318) dX10_areSame_271 rfl (fun c => ?_) (fun c => ?_)
            · have hT := hT.1 c
              refine x_iconst (v := 0) dX10_areSame_318 rfl ?_
              refine x_istore_n (lo' := [some (.ref w.1), none, none, some (.int 0), some (.int y1), some (.int y2), some (.int y3), some (.int v15), some (.int v17)]) dX10_areSame_319 rfl (Nat.le_of_ble_eq_true rfl) rfl ?_
              refine x_aload_n dX10_areSame_320 rfl rfl rfl ?_
              refine m_geta dX10_areSame_321 f_TallySlateModel_183 (by decide) rfl hW ?_
              refine x_iload dX10_areSame_324 rfl ?_
              obtain ⟨hb, hT⟩ := hT
              refine m_iald (v := (s16.2.2.1 104 v15.toNatClampNeg)) dX10_areSame_326 rfl hb hW rfl ?_
              refine x_iconst (v := 3) dX10_areSame_327 rfl ?_
              refine x_icmp_ne (tgt := 339) dX10_areSame_328 rfl (fun c => ?_) (fun c => ?_)
              · have hT := hT.1 c
                refine x_goto (tgt := 64) dX10_areSame_339 rfl ?_
                refine Ex.wkl (lo' := [some (.ref w.1), none, none, some (.int 0), none, none, none, none, none]) ⟨rfl, rfl, trivial⟩ ?_
                exact hT h0 h hW hF
              · have hT := hT.2 c
                refine x_aload_n dX10_areSame_331 rfl rfl rfl ?_
                refine x_iload dX10_areSame_332 rfl ?_
                refine x_iload dX10_areSame_334 rfl ?_
                refine m_inv (vs := [.int v15, .int v17]) dX10_areSame_336 oX10_goesIn q2755 q2753 qs112 rfl rfl (Nat.le_of_ble_eq_true rfl) rfl hW hF hT ?_
                rintro _ s18 ⟨rfl, hT⟩ h hW hF
                refine x_goto (tgt := 64) dX10_areSame_339 rfl ?_
                refine Ex.wkl (lo' := [some (.ref w.1), none, none, some (.int 0), none, none, none, none, none]) ⟨rfl, rfl, trivial⟩ ?_
                exact hT h0 h hW hF
            · have hT := hT.2 c
              refine x_aload_n dX10_areSame_274 rfl rfl rfl ?_
              refine m_geta dX10_areSame_275 f_TallySlateModel_183 (by decide) rfl hW ?_
              refine x_iload dX10_areSame_278 rfl ?_
              obtain ⟨hb, hT⟩ := hT
              refine m_iald (v := (s16.2.2.1 104 v15.toNatClampNeg)) dX10_areSame_280 rfl hb hW rfl ?_
              refine x_iconst (v := 3) dX10_areSame_281 rfl ?_
              refine x_icmp_ne (tgt := 303) dX10_areSame_282 rfl (fun c => ?_) (fun c => ?_)
              · have hT := hT.1 c
                refine x_aload_n dX10_areSame_303 rfl rfl rfl ?_
                refine x_iload dX10_areSame_304 rfl ?_
                refine x_iload dX10_areSame_306 rfl ?_
                refine m_inv (vs := [.int v15, .int v17]) dX10_areSame_308 oX10_arePlainSame q2883 q2881 qs141 rfl rfl (Nat.le_of_ble_eq_true rfl) rfl hW hF hT ?_
                rintro _ s19 ⟨v20, rfl, hT⟩ h hW hF
                refine x_if_eq (tgt := 318) dX10_areSame_311 rfl (fun c => ?_) (fun c => ?_)
                · have hT := hT.1 c
                  refine x_iconst (v := 0) dX10_areSame_318 rfl ?_
                  refine x_istore_n (lo' := [some (.ref w.1), none, none, some (.int 0), some (.int y1), some (.int y2), some (.int y3), some (.int v15), some (.int v17)]) dX10_areSame_319 rfl (Nat.le_of_ble_eq_true rfl) rfl ?_
                  refine x_aload_n dX10_areSame_320 rfl rfl rfl ?_
                  refine m_geta dX10_areSame_321 f_TallySlateModel_183 (by decide) rfl hW ?_
                  refine x_iload dX10_areSame_324 rfl ?_
                  obtain ⟨hb, hT⟩ := hT
                  refine m_iald (v := (s19.2.2.1 104 v15.toNatClampNeg)) dX10_areSame_326 rfl hb hW rfl ?_
                  refine x_iconst (v := 3) dX10_areSame_327 rfl ?_
                  refine x_icmp_ne (tgt := 339) dX10_areSame_328 rfl (fun c => ?_) (fun c => ?_)
                  · have hT := hT.1 c
                    refine x_goto (tgt := 64) dX10_areSame_339 rfl ?_
                    refine Ex.wkl (lo' := [some (.ref w.1), none, none, some (.int 0), none, none, none, none, none]) ⟨rfl, rfl, trivial⟩ ?_
                    exact hT h0 h hW hF
                  · have hT := hT.2 c
                    refine x_aload_n dX10_areSame_331 rfl rfl rfl ?_
                    refine x_iload dX10_areSame_332 rfl ?_
                    refine x_iload dX10_areSame_334 rfl ?_
                    refine m_inv (vs := [.int v15, .int v17]) dX10_areSame_336 oX10_goesIn q2755 q2753 qs112 rfl rfl (Nat.le_of_ble_eq_true rfl) rfl hW hF hT ?_
                    rintro _ s21 ⟨rfl, hT⟩ h hW hF
                    refine x_goto (tgt := 64) dX10_areSame_339 rfl ?_
                    refine Ex.wkl (lo' := [some (.ref w.1), none, none, some (.int 0), none, none, none, none, none]) ⟨rfl, rfl, trivial⟩ ?_
                    exact hT h0 h hW hF
                · have hT := hT.2 c
                  refine x_iconst (v := 1) dX10_areSame_314 rfl ?_
                  refine x_goto (tgt := 319) dX10_areSame_315 rfl ?_
                  refine x_istore_n (lo' := [some (.ref w.1), none, none, some (.int 1), some (.int y1), some (.int y2), some (.int y3), some (.int v15), some (.int v17)]) dX10_areSame_319 rfl (Nat.le_of_ble_eq_true rfl) rfl ?_
                  refine x_aload_n dX10_areSame_320 rfl rfl rfl ?_
                  refine m_geta dX10_areSame_321 f_TallySlateModel_183 (by decide) rfl hW ?_
                  refine x_iload dX10_areSame_324 rfl ?_
                  obtain ⟨hb, hT⟩ := hT
                  refine m_iald (v := (s19.2.2.1 104 v15.toNatClampNeg)) dX10_areSame_326 rfl hb hW rfl ?_
                  refine x_iconst (v := 3) dX10_areSame_327 rfl ?_
                  refine x_icmp_ne (tgt := 339) dX10_areSame_328 rfl (fun c => ?_) (fun c => ?_)
                  · have hT := hT.1 c
                    refine x_goto (tgt := 64) dX10_areSame_339 rfl ?_
                    refine Ex.wkl (lo' := [some (.ref w.1), none, none, some (.int 1), none, none, none, none, none]) ⟨rfl, rfl, trivial⟩ ?_
                    exact hT h0 h hW hF
                  · have hT := hT.2 c
                    refine x_aload_n dX10_areSame_331 rfl rfl rfl ?_
                    refine x_iload dX10_areSame_332 rfl ?_
                    refine x_iload dX10_areSame_334 rfl ?_
                    refine m_inv (vs := [.int v15, .int v17]) dX10_areSame_336 oX10_goesIn q2755 q2753 qs112 rfl rfl (Nat.le_of_ble_eq_true rfl) rfl hW hF hT ?_
                    rintro _ s22 ⟨rfl, hT⟩ h hW hF
                    refine x_goto (tgt := 64) dX10_areSame_339 rfl ?_
                    refine Ex.wkl (lo' := [some (.ref w.1), none, none, some (.int 1), none, none, none, none, none]) ⟨rfl, rfl, trivial⟩ ?_
                    exact hT h0 h hW hF
              · have hT := hT.2 c
                refine x_aload_n dX10_areSame_285 rfl rfl rfl ?_
                refine x_iload dX10_areSame_286 rfl ?_
                refine m_inv (vs := [.int v15]) dX10_areSame_288 oX10_sizeAt q2735 q2733 qs107 rfl rfl (Nat.le_of_ble_eq_true rfl) rfl hW hF hT ?_
                rintro _ s23 ⟨v24, rfl, hT⟩ h hW hF
                refine x_aload_n dX10_areSame_291 rfl rfl rfl ?_
                refine x_iload dX10_areSame_292 rfl ?_
                refine m_inv (vs := [.int v17]) dX10_areSame_294 oX10_sizeAt q2735 q2733 qs107 rfl rfl (Nat.le_of_ble_eq_true rfl) rfl hW hF hT ?_
                rintro _ s25 ⟨v26, rfl, hT⟩ h hW hF
                refine x_icmp_ne (tgt := 318) dX10_areSame_297 rfl (fun c => ?_) (fun c => ?_)
                · have hT := hT.1 c
                  refine x_iconst (v := 0) dX10_areSame_318 rfl ?_
                  refine x_istore_n (lo' := [some (.ref w.1), none, none, some (.int 0), some (.int y1), some (.int y2), some (.int y3), some (.int v15), some (.int v17)]) dX10_areSame_319 rfl (Nat.le_of_ble_eq_true rfl) rfl ?_
                  refine x_aload_n dX10_areSame_320 rfl rfl rfl ?_
                  refine m_geta dX10_areSame_321 f_TallySlateModel_183 (by decide) rfl hW ?_
                  refine x_iload dX10_areSame_324 rfl ?_
                  obtain ⟨hb, hT⟩ := hT
                  refine m_iald (v := (s25.2.2.1 104 v15.toNatClampNeg)) dX10_areSame_326 rfl hb hW rfl ?_
                  refine x_iconst (v := 3) dX10_areSame_327 rfl ?_
                  refine x_icmp_ne (tgt := 339) dX10_areSame_328 rfl (fun c => ?_) (fun c => ?_)
                  · have hT := hT.1 c
                    refine x_goto (tgt := 64) dX10_areSame_339 rfl ?_
                    refine Ex.wkl (lo' := [some (.ref w.1), none, none, some (.int 0), none, none, none, none, none]) ⟨rfl, rfl, trivial⟩ ?_
                    exact hT h0 h hW hF
                  · have hT := hT.2 c
                    refine x_aload_n dX10_areSame_331 rfl rfl rfl ?_
                    refine x_iload dX10_areSame_332 rfl ?_
                    refine x_iload dX10_areSame_334 rfl ?_
                    refine m_inv (vs := [.int v15, .int v17]) dX10_areSame_336 oX10_goesIn q2755 q2753 qs112 rfl rfl (Nat.le_of_ble_eq_true rfl) rfl hW hF hT ?_
                    rintro _ s27 ⟨rfl, hT⟩ h hW hF
                    refine x_goto (tgt := 64) dX10_areSame_339 rfl ?_
                    refine Ex.wkl (lo' := [some (.ref w.1), none, none, some (.int 0), none, none, none, none, none]) ⟨rfl, rfl, trivial⟩ ?_
                    exact hT h0 h hW hF
                · have hT := hT.2 c
                  refine x_goto (tgt := 314) dX10_areSame_300 rfl ?_
                  refine x_iconst (v := 1) dX10_areSame_314 rfl ?_
                  refine x_goto (tgt := 319) dX10_areSame_315 rfl ?_
                  refine x_istore_n (lo' := [some (.ref w.1), none, none, some (.int 1), some (.int y1), some (.int y2), some (.int y3), some (.int v15), some (.int v17)]) dX10_areSame_319 rfl (Nat.le_of_ble_eq_true rfl) rfl ?_
                  refine x_aload_n dX10_areSame_320 rfl rfl rfl ?_
                  refine m_geta dX10_areSame_321 f_TallySlateModel_183 (by decide) rfl hW ?_
                  refine x_iload dX10_areSame_324 rfl ?_
                  obtain ⟨hb, hT⟩ := hT
                  refine m_iald (v := (s25.2.2.1 104 v15.toNatClampNeg)) dX10_areSame_326 rfl hb hW rfl ?_
                  refine x_iconst (v := 3) dX10_areSame_327 rfl ?_
                  refine x_icmp_ne (tgt := 339) dX10_areSame_328 rfl (fun c => ?_) (fun c => ?_)
                  · have hT := hT.1 c
                    refine x_goto (tgt := 64) dX10_areSame_339 rfl ?_
                    refine Ex.wkl (lo' := [some (.ref w.1), none, none, some (.int 1), none, none, none, none, none]) ⟨rfl, rfl, trivial⟩ ?_
                    exact hT h0 h hW hF
                  · have hT := hT.2 c
                    refine x_aload_n dX10_areSame_331 rfl rfl rfl ?_
                    refine x_iload dX10_areSame_332 rfl ?_
                    refine x_iload dX10_areSame_334 rfl ?_
                    refine m_inv (vs := [.int v15, .int v17]) dX10_areSame_336 oX10_goesIn q2755 q2753 qs112 rfl rfl (Nat.le_of_ble_eq_true rfl) rfl hW hF hT ?_
                    rintro _ s28 ⟨rfl, hT⟩ h hW hF
                    refine x_goto (tgt := 64) dX10_areSame_339 rfl ?_
                    refine Ex.wkl (lo' := [some (.ref w.1), none, none, some (.int 1), none, none, none, none, none]) ⟨rfl, rfl, trivial⟩ ?_
                    exact hT h0 h hW hF
          · have hT := hT.2 c
            refine x_aload_n dX10_areSame_175 rfl rfl rfl ?_
            refine x_iload dX10_areSame_176 rfl ?_
            refine x_iload dX10_areSame_178 rfl ?_
            refine m_inv (vs := [.int y1, .int y3]) dX10_areSame_180 oX10_isInt q2759 q2757 qs113 rfl rfl (Nat.le_of_ble_eq_true rfl) rfl hW hF hT ?_
            rintro _ s29 ⟨v30, rfl, hT⟩ h hW hF
            refine x_if_eq (tgt := 232) dX10_areSame_183 rfl (fun c => ?_) (fun c => ?_)
            · have hT := hT.1 c
              refine x_iconst (v := 0) dX10_areSame_232 rfl ?_
              refine x_istore_n (lo' := [some (.ref w.1), none, none, some (.int 0), some (.int y1), some (.int y2), some (.int y3), none, none]) dX10_areSame_233 rfl (Nat.le_of_ble_eq_true rfl) rfl ?_
              refine x_goto (tgt := 64) dX10_areSame_234 rfl ?_
              refine Ex.wkl (lo' := [some (.ref w.1), none, none, some (.int 0), none, none, none, none, none]) ⟨rfl, rfl, trivial⟩ ?_
              exact hT h0 h hW hF
            · have hT := hT.2 c
              refine x_aload_n dX10_areSame_186 rfl rfl rfl ?_
              refine x_iload dX10_areSame_187 rfl ?_
              refine x_iload dX10_areSame_189 rfl ?_
              refine m_inv (vs := [.int y2, .int y3]) dX10_areSame_191 oX10_isInt q2759 q2757 qs113 rfl rfl (Nat.le_of_ble_eq_true rfl) rfl hW hF hT ?_
              rintro _ s31 ⟨v32, rfl, hT⟩ h hW hF
              refine x_if_eq (tgt := 232) dX10_areSame_194 rfl (fun c => ?_) (fun c => ?_)
              · have hT := hT.1 c
                refine x_iconst (v := 0) dX10_areSame_232 rfl ?_
                refine x_istore_n (lo' := [some (.ref w.1), none, none, some (.int 0), some (.int y1), some (.int y2), some (.int y3), none, none]) dX10_areSame_233 rfl (Nat.le_of_ble_eq_true rfl) rfl ?_
                refine x_goto (tgt := 64) dX10_areSame_234 rfl ?_
                refine Ex.wkl (lo' := [some (.ref w.1), none, none, some (.int 0), none, none, none, none, none]) ⟨rfl, rfl, trivial⟩ ?_
                exact hT h0 h hW hF
              · have hT := hT.2 c
                refine x_aload_n dX10_areSame_197 rfl rfl rfl ?_
                refine m_geta dX10_areSame_198 f_TallySlateModel_183 (by decide) rfl hW ?_
                refine x_iload dX10_areSame_201 rfl ?_
                refine x_iconst (v := 3) dX10_areSame_203 rfl ?_
                refine x_iadd dX10_areSame_204 ?_
                refine x_iconst (v := 2) dX10_areSame_205 rfl ?_
                refine x_iload dX10_areSame_206 rfl ?_
                refine x_imul dX10_areSame_208 ?_
                refine x_iadd dX10_areSame_209 ?_
                obtain ⟨hb, hT⟩ := hT
                refine m_iald (v := (s31.2.2.1 104 ((y1 + 3) + (2 * y3)).toNatClampNeg)) dX10_areSame_210 rfl hb hW rfl ?_
                refine x_aload_n dX10_areSame_211 rfl rfl rfl ?_
                refine m_geta dX10_areSame_212 f_TallySlateModel_183 (by decide) rfl hW ?_
                refine x_iload dX10_areSame_215 rfl ?_
                refine x_iconst (v := 3) dX10_areSame_217 rfl ?_
                refine x_iadd dX10_areSame_218 ?_
                refine x_iconst (v := 2) dX10_areSame_219 rfl ?_
                refine x_iload dX10_areSame_220 rfl ?_
                refine x_imul dX10_areSame_222 ?_
                refine x_iadd dX10_areSame_223 ?_
                obtain ⟨hb, hT⟩ := hT
                refine m_iald (v := (s31.2.2.1 104 ((y2 + 3) + (2 * y3)).toNatClampNeg)) dX10_areSame_224 rfl hb hW rfl ?_
                refine x_icmp_ne (tgt := 232) dX10_areSame_225 rfl (fun c => ?_) (fun c => ?_)
                · have hT := hT.1 c
                  refine x_iconst (v := 0) dX10_areSame_232 rfl ?_
                  refine x_istore_n (lo' := [some (.ref w.1), none, none, some (.int 0), some (.int y1), some (.int y2), some (.int y3), none, none]) dX10_areSame_233 rfl (Nat.le_of_ble_eq_true rfl) rfl ?_
                  refine x_goto (tgt := 64) dX10_areSame_234 rfl ?_
                  refine Ex.wkl (lo' := [some (.ref w.1), none, none, some (.int 0), none, none, none, none, none]) ⟨rfl, rfl, trivial⟩ ?_
                  exact hT h0 h hW hF
                · have hT := hT.2 c
                  refine x_iconst (v := 1) dX10_areSame_228 rfl ?_
                  refine x_goto (tgt := 233) dX10_areSame_229 rfl ?_
                  refine x_istore_n (lo' := [some (.ref w.1), none, none, some (.int 1), some (.int y1), some (.int y2), some (.int y3), none, none]) dX10_areSame_233 rfl (Nat.le_of_ble_eq_true rfl) rfl ?_
                  refine x_goto (tgt := 64) dX10_areSame_234 rfl ?_
                  refine Ex.wkl (lo' := [some (.ref w.1), none, none, some (.int 1), none, none, none, none, none]) ⟨rfl, rfl, trivial⟩ ?_
                  exact hT h0 h hW hF
      · have hT := hT.2 c
        refine x_aload_n dX10_areSame_125 rfl rfl rfl ?_
        refine x_dup dX10_areSame_126 rfl ?_
        refine m_geti (v := (s4.1 112)) dX10_areSame_127 f_TallySlateModel_474 (by decide) rfl hW rfl ?_
        refine x_iconst (v := 1) dX10_areSame_130 rfl ?_
        refine x_isub dX10_areSame_131 ?_
        refine m_puti dX10_areSame_132 f_TallySlateModel_474 (by decide) rfl rfl rfl rfl hW hF ?_
        intro h hW hF
        refine x_goto (tgt := 64) dX10_areSame_135 rfl ?_
        refine Ex.wkl (lo' := [some (.ref w.1), none, none, some (.int a3), none, none, none, none, none]) ⟨rfl, rfl, trivial⟩ ?_
        exact hT h0 h hW hF
theorem vX10_arePlainSame_0 {l : Launch} {E : EN} {w : MO} {d : Nat} {s : MS} {Q : Option Value → MS → Prop} {x1 : Int32} {x2 : Int32} (hT : (inB x1 166300 ∧ ((¬ (s.2.2.1 104 x1.toNatClampNeg) = 1 → (EvM l E w d MX10_sizeAt [.ref w.1, .int x1] s (fun r s1 => ∃ v2 : Int32, r = some (.int v2) ∧ (EvM l E w d MX10_sizeAt [.ref w.1, .int x2] s1 (fun r s3 => ∃ v4 : Int32, r = some (.int v4) ∧ ((¬ v2 = v4 → ExM l E w (d + 1) MX10_arePlainSame 39 [some (.ref w.1), some (.int x1), some (.int x2), some (.int 0), some (.int 0)] [] s3 Q) ∧ (v2 = v4 → ExM l E w (d + 1) MX10_arePlainSame 39 [some (.ref w.1), some (.int x1), some (.int x2), some (.int 1), some (.int 0)] [] s3 Q))))))) ∧ ((s.2.2.1 104 x1.toNatClampNeg) = 1 → (EvM l E w d MX10_areSameRows [.ref w.1, .int x1, .int x2] s (fun r s5 => ∃ v6 : Int32, r = some (.int v6) ∧ (narrow .boolean (.int v6) = .int v6 ∧ Q (some (.int v6)) s5))))))) : ExM l E w (d + 1) MX10_arePlainSame 0 [some (.ref w.1), some (.int x1), some (.int x2), none, none] [] s Q := by
  intro h0 h hW hF
  refine x_aload_n dX10_arePlainSame_0 rfl rfl rfl ?_
  refine m_geta dX10_arePlainSame_1 f_TallySlateModel_183 (by decide) rfl hW ?_
  refine x_iload_n dX10_arePlainSame_4 rfl rfl ?_
  obtain ⟨hb, hT⟩ := hT
  refine m_iald (v := (s.2.2.1 104 x1.toNatClampNeg)) dX10_arePlainSame_5 rfl hb hW rfl ?_
  refine x_iconst (v := 1) dX10_arePlainSame_6 rfl ?_
  refine x_icmp_ne (tgt := 17) dX10_arePlainSame_7 rfl (fun c => ?_) (fun c => ?_)
  · have hT := hT.1 c
    refine x_aload_n dX10_arePlainSame_17 rfl rfl rfl ?_
    refine x_iload_n dX10_arePlainSame_18 rfl rfl ?_
    refine m_inv (vs := [.int x1]) dX10_arePlainSame_19 oX10_sizeAt q2735 q2733 qs107 rfl rfl (Nat.le_of_ble_eq_true rfl) rfl hW hF hT ?_
    rintro _ s1 ⟨v2, rfl, hT⟩ h hW hF
    refine x_aload_n dX10_arePlainSame_22 rfl rfl rfl ?_
    refine x_iload_n dX10_arePlainSame_23 rfl rfl ?_
    refine m_inv (vs := [.int x2]) dX10_arePlainSame_24 oX10_sizeAt q2735 q2733 qs107 rfl rfl (Nat.le_of_ble_eq_true rfl) rfl hW hF hT ?_
    rintro _ s3 ⟨v4, rfl, hT⟩ h hW hF
    refine x_icmp_ne (tgt := 34) dX10_arePlainSame_27 rfl (fun c => ?_) (fun c => ?_)
    · have hT := hT.1 c
      refine x_iconst (v := 0) dX10_arePlainSame_34 rfl ?_
      refine x_istore_n (lo' := [some (.ref w.1), some (.int x1), some (.int x2), some (.int 0), none]) dX10_arePlainSame_35 rfl (Nat.le_of_ble_eq_true rfl) rfl ?_
      refine x_iconst (v := 0) dX10_arePlainSame_36 rfl ?_
      refine x_istore (lo' := [some (.ref w.1), some (.int x1), some (.int x2), some (.int 0), some (.int 0)]) dX10_arePlainSame_37 (Nat.le_of_ble_eq_true rfl) rfl ?_
      exact hT h0 h hW hF
    · have hT := hT.2 c
      refine x_iconst (v := 1) dX10_arePlainSame_30 rfl ?_
      refine x_goto (tgt := 35) dX10_arePlainSame_31 rfl ?_
      refine x_istore_n (lo' := [some (.ref w.1), some (.int x1), some (.int x2), some (.int 1), none]) dX10_arePlainSame_35 rfl (Nat.le_of_ble_eq_true rfl) rfl ?_
      refine x_iconst (v := 0) dX10_arePlainSame_36 rfl ?_
      refine x_istore (lo' := [some (.ref w.1), some (.int x1), some (.int x2), some (.int 1), some (.int 0)]) dX10_arePlainSame_37 (Nat.le_of_ble_eq_true rfl) rfl ?_
      exact hT h0 h hW hF
  · have hT := hT.2 c
    refine x_aload_n dX10_arePlainSame_10 rfl rfl rfl ?_
    refine x_iload_n dX10_arePlainSame_11 rfl rfl ?_
    refine x_iload_n dX10_arePlainSame_12 rfl rfl ?_
    refine m_inv (vs := [.int x1, .int x2]) dX10_arePlainSame_13 oX10_areSameRows q2887 q2885 qs142 rfl rfl (Nat.le_of_ble_eq_true rfl) rfl hW hF hT ?_
    rintro _ s5 ⟨v6, rfl, hT⟩ h hW hF
    exact x_iret dX10_arePlainSame_16 rfl hT.1 ⟨_, _, rfl, hW, hF, hT.2⟩
theorem eX10_arePlainSame {l : Launch} {E : EN} {w : MO} {d : Nat} {s : MS} {Q : Option Value → MS → Prop} {x1 : Int32} {x2 : Int32} (hst : l.stackTraces = false) (hT : (inB x1 166300 ∧ ((¬ (s.2.2.1 104 x1.toNatClampNeg) = 1 → (EvM l E w d MX10_sizeAt [.ref w.1, .int x1] s (fun r s1 => ∃ v2 : Int32, r = some (.int v2) ∧ (EvM l E w d MX10_sizeAt [.ref w.1, .int x2] s1 (fun r s3 => ∃ v4 : Int32, r = some (.int v4) ∧ ((¬ v2 = v4 → ExM l E w (d + 1) MX10_arePlainSame 39 [some (.ref w.1), some (.int x1), some (.int x2), some (.int 0), some (.int 0)] [] s3 Q) ∧ (v2 = v4 → ExM l E w (d + 1) MX10_arePlainSame 39 [some (.ref w.1), some (.int x1), some (.int x2), some (.int 1), some (.int 0)] [] s3 Q))))))) ∧ ((s.2.2.1 104 x1.toNatClampNeg) = 1 → (EvM l E w d MX10_areSameRows [.ref w.1, .int x1, .int x2] s (fun r s5 => ∃ v6 : Int32, r = some (.int v6) ∧ (narrow .boolean (.int v6) = .int v6 ∧ Q (some (.int v6)) s5))))))) : EvM l E w (d + 1) MX10_arePlainSame [.ref w.1, .int x1, .int x2] s Q :=
  EvM.of hst (by decide) (Nat.le_of_ble_eq_true rfl) (vX10_arePlainSame_0 hT)
theorem vX10_arePlainSame_39 {l : Launch} {E : EN} {w : MO} {d : Nat} {s : MS} {Q : Option Value → MS → Prop} {a1 : Int32} {a2 : Int32} {a3 : Int32} {a4 : Int32} (hT : ((a3 = 0 → (narrow .boolean (.int a3) = .int a3 ∧ Q (some (.int a3)) s)) ∧ (¬ a3 = 0 → (EvM l E w d MX10_sizeAt [.ref w.1, .int a1] s (fun r s1 => ∃ v2 : Int32, r = some (.int v2) ∧ ((v2 ≤ a4 → (narrow .boolean (.int a3) = .int a3 ∧ Q (some (.int a3)) s1)) ∧ (¬ v2 ≤ a4 → (EvM l E w d MX10_partAt [.ref w.1, .int a1, .int a4] s1 (fun r s3 => ∃ v4 : Int32, r = some (.int v4) ∧ (EvM l E w d MX10_partAt [.ref w.1, .int a2, .int a4] s3 (fun r s5 => ∃ v6 : Int32, r = some (.int v6) ∧ (EvM l E w d MX10_areSameRows [.ref w.1, .int v4, .int v6] s5 (fun r s7 => ∃ v8 : Int32, r = some (.int v8) ∧ ExM l E w (d + 1) MX10_arePlainSame 39 [some (.ref w.1), some (.int a1), some (.int a2), some (.int v8), some (.int (a4 + 1))] [] s7 Q))))))))))))) : ExM l E w (d + 1) MX10_arePlainSame 39 [some (.ref w.1), some (.int a1), some (.int a2), some (.int a3), some (.int a4)] [] s Q := by
  intro h0 h hW hF
  refine x_iload_n dX10_arePlainSame_39 rfl rfl ?_
  refine x_if_eq (tgt := 78) dX10_arePlainSame_40 rfl (fun c => ?_) (fun c => ?_)
  · have hT := hT.1 c
    refine x_iload_n dX10_arePlainSame_78 rfl rfl ?_
    exact x_iret dX10_arePlainSame_79 rfl hT.1 ⟨_, _, rfl, hW, hF, hT.2⟩
  · have hT := hT.2 c
    refine x_iload dX10_arePlainSame_43 rfl ?_
    refine x_aload_n dX10_arePlainSame_45 rfl rfl rfl ?_
    refine x_iload_n dX10_arePlainSame_46 rfl rfl ?_
    refine m_inv (vs := [.int a1]) dX10_arePlainSame_47 oX10_sizeAt q2735 q2733 qs107 rfl rfl (Nat.le_of_ble_eq_true rfl) rfl hW hF hT ?_
    rintro _ s1 ⟨v2, rfl, hT⟩ h hW hF
    refine x_icmp_ge (tgt := 78) dX10_arePlainSame_50 rfl (fun c => ?_) (fun c => ?_)
    · have hT := hT.1 c
      refine x_iload_n dX10_arePlainSame_78 rfl rfl ?_
      exact x_iret dX10_arePlainSame_79 rfl hT.1 ⟨_, _, rfl, hW, hF, hT.2⟩
    · have hT := hT.2 c
      refine x_aload_n dX10_arePlainSame_53 rfl rfl rfl ?_
      refine x_aload_n dX10_arePlainSame_54 rfl rfl rfl ?_
      refine x_iload_n dX10_arePlainSame_55 rfl rfl ?_
      refine x_iload dX10_arePlainSame_56 rfl ?_
      refine m_inv (vs := [.int a1, .int a4]) dX10_arePlainSame_58 oX10_partAt q2751 q2749 qs111 rfl rfl (Nat.le_of_ble_eq_true rfl) rfl hW hF hT ?_
      rintro _ s3 ⟨v4, rfl, hT⟩ h hW hF
      refine x_aload_n dX10_arePlainSame_61 rfl rfl rfl ?_
      refine x_iload_n dX10_arePlainSame_62 rfl rfl ?_
      refine x_iload dX10_arePlainSame_63 rfl ?_
      refine m_inv (vs := [.int a2, .int a4]) dX10_arePlainSame_65 oX10_partAt q2751 q2749 qs111 rfl rfl (Nat.le_of_ble_eq_true rfl) rfl hW hF hT ?_
      rintro _ s5 ⟨v6, rfl, hT⟩ h hW hF
      refine m_inv (vs := [.int v4, .int v6]) dX10_arePlainSame_68 oX10_areSameRows q2887 q2885 qs142 rfl rfl (Nat.le_of_ble_eq_true rfl) rfl hW hF hT ?_
      rintro _ s7 ⟨v8, rfl, hT⟩ h hW hF
      refine x_istore_n (lo' := [some (.ref w.1), some (.int a1), some (.int a2), some (.int v8), some (.int a4)]) dX10_arePlainSame_71 rfl (Nat.le_of_ble_eq_true rfl) rfl ?_
      refine x_iinc (lo' := [some (.ref w.1), some (.int a1), some (.int a2), some (.int v8), some (.int (a4 + 1))]) dX10_arePlainSame_72 rfl (show _ = (a4 + 1) from rfl) rfl ?_
      refine x_goto (tgt := 39) dX10_arePlainSame_75 rfl ?_
      exact hT h0 h hW hF
theorem vX10_areSameRows_0 {l : Launch} {E : EN} {w : MO} {d : Nat} {s : MS} {Q : Option Value → MS → Prop} {x1 : Int32} {x2 : Int32} (hT : (EvM l E w d MX10_sizeAt [.ref w.1, .int x1] s (fun r s1 => ∃ v2 : Int32, r = some (.int v2) ∧ (EvM l E w d MX10_sizeAt [.ref w.1, .int x2] s1 (fun r s3 => ∃ v4 : Int32, r = some (.int v4) ∧ ((¬ v2 = v4 → ExM l E w (d + 1) MX10_areSameRows 22 [some (.ref w.1), some (.int x1), some (.int x2), some (.int 0), some (.int 0)] [] s3 Q) ∧ (v2 = v4 → ExM l E w (d + 1) MX10_areSameRows 22 [some (.ref w.1), some (.int x1), some (.int x2), some (.int 1), some (.int 0)] [] s3 Q))))))) : ExM l E w (d + 1) MX10_areSameRows 0 [some (.ref w.1), some (.int x1), some (.int x2), none, none] [] s Q := by
  intro h0 h hW hF
  refine x_aload_n dX10_areSameRows_0 rfl rfl rfl ?_
  refine x_iload_n dX10_areSameRows_1 rfl rfl ?_
  refine m_inv (vs := [.int x1]) dX10_areSameRows_2 oX10_sizeAt q2735 q2733 qs107 rfl rfl (Nat.le_of_ble_eq_true rfl) rfl hW hF hT ?_
  rintro _ s1 ⟨v2, rfl, hT⟩ h hW hF
  refine x_aload_n dX10_areSameRows_5 rfl rfl rfl ?_
  refine x_iload_n dX10_areSameRows_6 rfl rfl ?_
  refine m_inv (vs := [.int x2]) dX10_areSameRows_7 oX10_sizeAt q2735 q2733 qs107 rfl rfl (Nat.le_of_ble_eq_true rfl) rfl hW hF hT ?_
  rintro _ s3 ⟨v4, rfl, hT⟩ h hW hF
  refine x_icmp_ne (tgt := 17) dX10_areSameRows_10 rfl (fun c => ?_) (fun c => ?_)
  · have hT := hT.1 c
    refine x_iconst (v := 0) dX10_areSameRows_17 rfl ?_
    refine x_istore_n (lo' := [some (.ref w.1), some (.int x1), some (.int x2), some (.int 0), none]) dX10_areSameRows_18 rfl (Nat.le_of_ble_eq_true rfl) rfl ?_
    refine x_iconst (v := 0) dX10_areSameRows_19 rfl ?_
    refine x_istore (lo' := [some (.ref w.1), some (.int x1), some (.int x2), some (.int 0), some (.int 0)]) dX10_areSameRows_20 (Nat.le_of_ble_eq_true rfl) rfl ?_
    exact hT h0 h hW hF
  · have hT := hT.2 c
    refine x_iconst (v := 1) dX10_areSameRows_13 rfl ?_
    refine x_goto (tgt := 18) dX10_areSameRows_14 rfl ?_
    refine x_istore_n (lo' := [some (.ref w.1), some (.int x1), some (.int x2), some (.int 1), none]) dX10_areSameRows_18 rfl (Nat.le_of_ble_eq_true rfl) rfl ?_
    refine x_iconst (v := 0) dX10_areSameRows_19 rfl ?_
    refine x_istore (lo' := [some (.ref w.1), some (.int x1), some (.int x2), some (.int 1), some (.int 0)]) dX10_areSameRows_20 (Nat.le_of_ble_eq_true rfl) rfl ?_
    exact hT h0 h hW hF
theorem eX10_areSameRows {l : Launch} {E : EN} {w : MO} {d : Nat} {s : MS} {Q : Option Value → MS → Prop} {x1 : Int32} {x2 : Int32} (hst : l.stackTraces = false) (hT : (EvM l E w d MX10_sizeAt [.ref w.1, .int x1] s (fun r s1 => ∃ v2 : Int32, r = some (.int v2) ∧ (EvM l E w d MX10_sizeAt [.ref w.1, .int x2] s1 (fun r s3 => ∃ v4 : Int32, r = some (.int v4) ∧ ((¬ v2 = v4 → ExM l E w (d + 1) MX10_areSameRows 22 [some (.ref w.1), some (.int x1), some (.int x2), some (.int 0), some (.int 0)] [] s3 Q) ∧ (v2 = v4 → ExM l E w (d + 1) MX10_areSameRows 22 [some (.ref w.1), some (.int x1), some (.int x2), some (.int 1), some (.int 0)] [] s3 Q))))))) : EvM l E w (d + 1) MX10_areSameRows [.ref w.1, .int x1, .int x2] s Q :=
  EvM.of hst (by decide) (Nat.le_of_ble_eq_true rfl) (vX10_areSameRows_0 hT)
theorem vX10_areSameRows_22 {l : Launch} {E : EN} {w : MO} {d : Nat} {s : MS} {Q : Option Value → MS → Prop} {a1 : Int32} {a2 : Int32} {a3 : Int32} {a4 : Int32} (hT : ((a3 = 0 → (narrow .boolean (.int a3) = .int a3 ∧ Q (some (.int a3)) s)) ∧ (¬ a3 = 0 → (EvM l E w d MX10_sizeAt [.ref w.1, .int a1] s (fun r s1 => ∃ v2 : Int32, r = some (.int v2) ∧ ((v2 ≤ a4 → (narrow .boolean (.int a3) = .int a3 ∧ Q (some (.int a3)) s1)) ∧ (¬ v2 ≤ a4 → (inB ((a1 + 2) + a4) 166300 ∧ (inB ((a2 + 2) + a4) 166300 ∧ ((¬ (s1.2.2.1 104 ((a1 + 2) + a4).toNatClampNeg) = (s1.2.2.1 104 ((a2 + 2) + a4).toNatClampNeg) → ExM l E w (d + 1) MX10_areSameRows 22 [some (.ref w.1), some (.int a1), some (.int a2), some (.int 0), some (.int (a4 + 1))] [] s1 Q) ∧ ((s1.2.2.1 104 ((a1 + 2) + a4).toNatClampNeg) = (s1.2.2.1 104 ((a2 + 2) + a4).toNatClampNeg) → ExM l E w (d + 1) MX10_areSameRows 22 [some (.ref w.1), some (.int a1), some (.int a2), some (.int 1), some (.int (a4 + 1))] [] s1 Q))))))))))) : ExM l E w (d + 1) MX10_areSameRows 22 [some (.ref w.1), some (.int a1), some (.int a2), some (.int a3), some (.int a4)] [] s Q := by
  intro h0 h hW hF
  refine x_iload_n dX10_areSameRows_22 rfl rfl ?_
  refine x_if_eq (tgt := 73) dX10_areSameRows_23 rfl (fun c => ?_) (fun c => ?_)
  · have hT := hT.1 c
    refine x_iload_n dX10_areSameRows_73 rfl rfl ?_
    exact x_iret dX10_areSameRows_74 rfl hT.1 ⟨_, _, rfl, hW, hF, hT.2⟩
  · have hT := hT.2 c
    refine x_iload dX10_areSameRows_26 rfl ?_
    refine x_aload_n dX10_areSameRows_28 rfl rfl rfl ?_
    refine x_iload_n dX10_areSameRows_29 rfl rfl ?_
    refine m_inv (vs := [.int a1]) dX10_areSameRows_30 oX10_sizeAt q2735 q2733 qs107 rfl rfl (Nat.le_of_ble_eq_true rfl) rfl hW hF hT ?_
    rintro _ s1 ⟨v2, rfl, hT⟩ h hW hF
    refine x_icmp_ge (tgt := 73) dX10_areSameRows_33 rfl (fun c => ?_) (fun c => ?_)
    · have hT := hT.1 c
      refine x_iload_n dX10_areSameRows_73 rfl rfl ?_
      exact x_iret dX10_areSameRows_74 rfl hT.1 ⟨_, _, rfl, hW, hF, hT.2⟩
    · have hT := hT.2 c
      refine x_aload_n dX10_areSameRows_36 rfl rfl rfl ?_
      refine m_geta dX10_areSameRows_37 f_TallySlateModel_183 (by decide) rfl hW ?_
      refine x_iload_n dX10_areSameRows_40 rfl rfl ?_
      refine x_iconst (v := 2) dX10_areSameRows_41 rfl ?_
      refine x_iadd dX10_areSameRows_42 ?_
      refine x_iload dX10_areSameRows_43 rfl ?_
      refine x_iadd dX10_areSameRows_45 ?_
      obtain ⟨hb, hT⟩ := hT
      refine m_iald (v := (s1.2.2.1 104 ((a1 + 2) + a4).toNatClampNeg)) dX10_areSameRows_46 rfl hb hW rfl ?_
      refine x_aload_n dX10_areSameRows_47 rfl rfl rfl ?_
      refine m_geta dX10_areSameRows_48 f_TallySlateModel_183 (by decide) rfl hW ?_
      refine x_iload_n dX10_areSameRows_51 rfl rfl ?_
      refine x_iconst (v := 2) dX10_areSameRows_52 rfl ?_
      refine x_iadd dX10_areSameRows_53 ?_
      refine x_iload dX10_areSameRows_54 rfl ?_
      refine x_iadd dX10_areSameRows_56 ?_
      obtain ⟨hb, hT⟩ := hT
      refine m_iald (v := (s1.2.2.1 104 ((a2 + 2) + a4).toNatClampNeg)) dX10_areSameRows_57 rfl hb hW rfl ?_
      refine x_icmp_ne (tgt := 65) dX10_areSameRows_58 rfl (fun c => ?_) (fun c => ?_)
      · have hT := hT.1 c
        refine x_iconst (v := 0) dX10_areSameRows_65 rfl ?_
        refine x_istore_n (lo' := [some (.ref w.1), some (.int a1), some (.int a2), some (.int 0), some (.int a4)]) dX10_areSameRows_66 rfl (Nat.le_of_ble_eq_true rfl) rfl ?_
        refine x_iinc (lo' := [some (.ref w.1), some (.int a1), some (.int a2), some (.int 0), some (.int (a4 + 1))]) dX10_areSameRows_67 rfl (show _ = (a4 + 1) from rfl) rfl ?_
        refine x_goto (tgt := 22) dX10_areSameRows_70 rfl ?_
        exact hT h0 h hW hF
      · have hT := hT.2 c
        refine x_iconst (v := 1) dX10_areSameRows_61 rfl ?_
        refine x_goto (tgt := 66) dX10_areSameRows_62 rfl ?_
        refine x_istore_n (lo' := [some (.ref w.1), some (.int a1), some (.int a2), some (.int 1), some (.int a4)]) dX10_areSameRows_66 rfl (Nat.le_of_ble_eq_true rfl) rfl ?_
        refine x_iinc (lo' := [some (.ref w.1), some (.int a1), some (.int a2), some (.int 1), some (.int (a4 + 1))]) dX10_areSameRows_67 rfl (show _ = (a4 + 1) from rfl) rfl ?_
        refine x_goto (tgt := 22) dX10_areSameRows_70 rfl ?_
        exact hT h0 h hW hF
theorem vX10_way_0 {l : Launch} {E : EN} {w : MO} {d : Nat} {s : MS} {Q : Option Value → MS → Prop} {x1 : Int32} {x2 : Int32} {x3 : Int32} {x4 : Int32} (hT : (inB (s.1 136) 400 ∧ (inB (s.1 136) 400 ∧ (inB (s.1 136) 400 ∧ (inB (s.1 136) 400 ∧ (inB (s.1 136) 400 ∧ (inB (s.1 136) 400 ∧ Q none (sI (sA (sA (sA (sA (sA (sA s 137 (s.1 136).toNatClampNeg x1) 138 (s.1 136).toNatClampNeg x2) 139 (s.1 136).toNatClampNeg 0) 140 (s.1 136).toNatClampNeg x3) 141 (s.1 136).toNatClampNeg x4) 142 (s.1 136).toNatClampNeg (s.1 130)) 136 ((s.1 136) + 1))))))))) : ExM l E w d MX10_way 0 [some (.ref w.1), some (.int x1), some (.int x2), some (.int x3), some (.int x4)] [] s Q := by
  intro h0 h hW hF
  refine x_aload_n dX10_way_0 rfl rfl rfl ?_
  refine m_geta dX10_way_1 f_TallySlateModel_231 (by decide) rfl hW ?_
  refine x_aload_n dX10_way_4 rfl rfl rfl ?_
  refine m_geti (v := (s.1 136)) dX10_way_5 f_TallySlateModel_534 (by decide) rfl hW rfl ?_
  refine x_iload_n dX10_way_8 rfl rfl ?_
  obtain ⟨hb, hT⟩ := hT
  refine m_iast dX10_way_9 rfl hb hW hF ?_
  intro h hW hF
  refine x_aload_n dX10_way_10 rfl rfl rfl ?_
  refine m_geta dX10_way_11 f_TallySlateModel_234 (by decide) rfl hW ?_
  refine x_aload_n dX10_way_14 rfl rfl rfl ?_
  refine m_geti (v := (s.1 136)) dX10_way_15 f_TallySlateModel_534 (by decide) rfl hW rfl ?_
  refine x_iload_n dX10_way_18 rfl rfl ?_
  obtain ⟨hb, hT⟩ := hT
  refine m_iast dX10_way_19 rfl hb hW hF ?_
  intro h hW hF
  refine x_aload_n dX10_way_20 rfl rfl rfl ?_
  refine m_geta dX10_way_21 f_TallySlateModel_237 (by decide) rfl hW ?_
  refine x_aload_n dX10_way_24 rfl rfl rfl ?_
  refine m_geti (v := (s.1 136)) dX10_way_25 f_TallySlateModel_534 (by decide) rfl hW rfl ?_
  refine x_iconst (v := 0) dX10_way_28 rfl ?_
  obtain ⟨hb, hT⟩ := hT
  refine m_iast dX10_way_29 rfl hb hW hF ?_
  intro h hW hF
  refine x_aload_n dX10_way_30 rfl rfl rfl ?_
  refine m_geta dX10_way_31 f_TallySlateModel_240 (by decide) rfl hW ?_
  refine x_aload_n dX10_way_34 rfl rfl rfl ?_
  refine m_geti (v := (s.1 136)) dX10_way_35 f_TallySlateModel_534 (by decide) rfl hW rfl ?_
  refine x_iload_n dX10_way_38 rfl rfl ?_
  obtain ⟨hb, hT⟩ := hT
  refine m_iast dX10_way_39 rfl hb hW hF ?_
  intro h hW hF
  refine x_aload_n dX10_way_40 rfl rfl rfl ?_
  refine m_geta dX10_way_41 f_TallySlateModel_243 (by decide) rfl hW ?_
  refine x_aload_n dX10_way_44 rfl rfl rfl ?_
  refine m_geti (v := (s.1 136)) dX10_way_45 f_TallySlateModel_534 (by decide) rfl hW rfl ?_
  refine x_iload dX10_way_48 rfl ?_
  obtain ⟨hb, hT⟩ := hT
  refine m_iast dX10_way_50 rfl hb hW hF ?_
  intro h hW hF
  refine x_aload_n dX10_way_51 rfl rfl rfl ?_
  refine m_geta dX10_way_52 f_TallySlateModel_246 (by decide) rfl hW ?_
  refine x_aload_n dX10_way_55 rfl rfl rfl ?_
  refine m_geti (v := (s.1 136)) dX10_way_56 f_TallySlateModel_534 (by decide) rfl hW rfl ?_
  refine x_aload_n dX10_way_59 rfl rfl rfl ?_
  refine m_geti (v := (s.1 130)) dX10_way_60 f_TallySlateModel_531 (by decide) rfl hW rfl ?_
  obtain ⟨hb, hT⟩ := hT
  refine m_iast dX10_way_63 rfl hb hW hF ?_
  intro h hW hF
  refine x_aload_n dX10_way_64 rfl rfl rfl ?_
  refine x_dup dX10_way_65 rfl ?_
  refine m_geti (v := (s.1 136)) dX10_way_66 f_TallySlateModel_534 (by decide) rfl hW rfl ?_
  refine x_iconst (v := 1) dX10_way_69 rfl ?_
  refine x_iadd dX10_way_70 ?_
  refine m_puti dX10_way_71 f_TallySlateModel_534 (by decide) rfl rfl rfl rfl hW hF ?_
  intro h hW hF
  exact x_vret dX10_way_74 rfl ⟨_, _, rfl, hW, hF, hT⟩
theorem eX10_way {l : Launch} {E : EN} {w : MO} {d : Nat} {s : MS} {Q : Option Value → MS → Prop} {x1 : Int32} {x2 : Int32} {x3 : Int32} {x4 : Int32} (hst : l.stackTraces = false) (hT : (inB (s.1 136) 400 ∧ (inB (s.1 136) 400 ∧ (inB (s.1 136) 400 ∧ (inB (s.1 136) 400 ∧ (inB (s.1 136) 400 ∧ (inB (s.1 136) 400 ∧ Q none (sI (sA (sA (sA (sA (sA (sA s 137 (s.1 136).toNatClampNeg x1) 138 (s.1 136).toNatClampNeg x2) 139 (s.1 136).toNatClampNeg 0) 140 (s.1 136).toNatClampNeg x3) 141 (s.1 136).toNatClampNeg x4) 142 (s.1 136).toNatClampNeg (s.1 130)) 136 ((s.1 136) + 1))))))))) : EvM l E w d MX10_way [.ref w.1, .int x1, .int x2, .int x3, .int x4] s Q :=
  EvM.of hst (by decide) (Nat.le_of_ble_eq_true rfl) (vX10_way_0 hT)
set_option maxHeartbeats 16000000 in
theorem vX10_next_0 {l : Launch} {E : EN} {w : MO} {d : Nat} {s : MS} {Q : Option Value → MS → Prop} {x1 : Int32} (hT : (∀ y1 : Int32, y1 = ((s.1 136) - 1) → (inB y1 400 ∧ (inB y1 400 ∧ (((s.2.2.1 140 y1.toNatClampNeg) ≤ (s.2.2.1 139 y1.toNatClampNeg) → (inB y1 400 ∧ ((¬ (s.2.2.1 137 y1.toNatClampNeg) = 4 → (inB y1 400 ∧ (∀ y2 : Int32, y2 = (s.2.2.1 141 y1.toNatClampNeg) → (inB y1 400 ∧ (inB (s.2.2.1 138 y1.toNatClampNeg) 166300 ∧ ((¬ (s.2.2.1 104 (s.2.2.1 138 y1.toNatClampNeg).toNatClampNeg) = 3 → ((y2 < (s.1 108) → ((y2 < (s.1 108) → ExM l E w (d + 1) MX10_next 220 [some (.ref w.1), none, none, some (.int y2), some (.int 1), some (.int 1), some (.int y2)] [] (sI s 136 ((s.1 136) - 1)) Q) ∧ (¬ y2 < (s.1 108) → (inB y1 400 ∧ (inB (s.2.2.1 138 y1.toNatClampNeg) 166300 ∧ ((¬ (s.2.2.1 104 (s.2.2.1 138 y1.toNatClampNeg).toNatClampNeg) = 2 → ExM l E w (d + 1) MX10_next 220 [some (.ref w.1), none, none, some (.int y2), some (.int 1), some (.int 0), some (.int y2)] [] (sI s 136 ((s.1 136) - 1)) Q) ∧ ((s.2.2.1 104 (s.2.2.1 138 y1.toNatClampNeg).toNatClampNeg) = 2 → ExM l E w (d + 1) MX10_next 220 [some (.ref w.1), none, none, some (.int y2), some (.int 1), some (.int 1), some (.int y2)] [] (sI s 136 ((s.1 136) - 1)) Q))))))) ∧ (¬ y2 < (s.1 108) → (inB y1 400 ∧ (inB (s.2.2.1 138 y1.toNatClampNeg) 166300 ∧ ((¬ (s.2.2.1 104 (s.2.2.1 138 y1.toNatClampNeg).toNatClampNeg) = 1 → ((y2 < (s.1 108) → ExM l E w (d + 1) MX10_next 220 [some (.ref w.1), none, none, some (.int y2), some (.int 0), some (.int 1), some (.int y2)] [] (sI s 136 ((s.1 136) - 1)) Q) ∧ (¬ y2 < (s.1 108) → (inB y1 400 ∧ (inB (s.2.2.1 138 y1.toNatClampNeg) 166300 ∧ ((¬ (s.2.2.1 104 (s.2.2.1 138 y1.toNatClampNeg).toNatClampNeg) = 2 → ExM l E w (d + 1) MX10_next 220 [some (.ref w.1), none, none, some (.int y2), some (.int 0), some (.int 0), some (.int y2)] [] (sI s 136 ((s.1 136) - 1)) Q) ∧ ((s.2.2.1 104 (s.2.2.1 138 y1.toNatClampNeg).toNatClampNeg) = 2 → ExM l E w (d + 1) MX10_next 220 [some (.ref w.1), none, none, some (.int y2), some (.int 0), some (.int 1), some (.int y2)] [] (sI s 136 ((s.1 136) - 1)) Q))))))) ∧ ((s.2.2.1 104 (s.2.2.1 138 y1.toNatClampNeg).toNatClampNeg) = 1 → ((y2 < (s.1 108) → ExM l E w (d + 1) MX10_next 220 [some (.ref w.1), none, none, some (.int y2), some (.int 1), some (.int 1), some (.int y2)] [] (sI s 136 ((s.1 136) - 1)) Q) ∧ (¬ y2 < (s.1 108) → (inB y1 400 ∧ (inB (s.2.2.1 138 y1.toNatClampNeg) 166300 ∧ ((¬ (s.2.2.1 104 (s.2.2.1 138 y1.toNatClampNeg).toNatClampNeg) = 2 → ExM l E w (d + 1) MX10_next 220 [some (.ref w.1), none, none, some (.int y2), some (.int 1), some (.int 0), some (.int y2)] [] (sI s 136 ((s.1 136) - 1)) Q) ∧ ((s.2.2.1 104 (s.2.2.1 138 y1.toNatClampNeg).toNatClampNeg) = 2 → ExM l E w (d + 1) MX10_next 220 [some (.ref w.1), none, none, some (.int y2), some (.int 1), some (.int 1), some (.int y2)] [] (sI s 136 ((s.1 136) - 1)) Q))))))))))))) ∧ ((s.2.2.1 104 (s.2.2.1 138 y1.toNatClampNeg).toNatClampNeg) = 3 → (EvM l E w d MX10_builds [.ref w.1, .int 3, .int y2] (sI s 136 ((s.1 136) - 1)) (fun r s3 => r = none ∧ Q none s3))))))))) ∧ ((s.2.2.1 137 y1.toNatClampNeg) = 4 → Q none (sI s 136 ((s.1 136) - 1)))))) ∧ (¬ (s.2.2.1 140 y1.toNatClampNeg) ≤ (s.2.2.1 139 y1.toNatClampNeg) → (EvM l E w d MX10_step [.ref w.1] s (fun r s4 => r = none ∧ (((s4.1 123) ≤ 0 → ((¬ (s4.1 130) = 10 → (inB y1 400 ∧ (inB y1 400 ∧ (EvM l E w d MX10_element [.ref w.1, .int (s4.2.2.1 138 y1.toNatClampNeg), .int (s4.2.2.1 139 y1.toNatClampNeg)] s4 (fun r s5 => r = none ∧ (inB y1 400 ∧ (inB y1 400 ∧ (inB x1 8000 ∧ (inB y1 400 ∧ ((¬ (s5.2.2.1 137 y1.toNatClampNeg) = 3 → (EvM l E w d MX10_enters [.ref w.1, .int (s5.2.2.1 82 x1.toNatClampNeg), .int 2, .int x1] (sA s5 139 y1.toNatClampNeg ((s5.2.2.1 139 y1.toNatClampNeg) + 1)) (fun r s6 => r = none ∧ Q none s6))) ∧ ((s5.2.2.1 137 y1.toNatClampNeg) = 3 → (EvM l E w d MX10_enters [.ref w.1, .int (s5.2.2.1 82 x1.toNatClampNeg), .int 1, .int x1] (sA s5 139 y1.toNatClampNeg ((s5.2.2.1 139 y1.toNatClampNeg) + 1)) (fun r s7 => r = none ∧ Q none s7))))))))))))) ∧ ((s4.1 130) = 10 → (EvM l E w d MX10_trouble [.ref w.1, .int 8, .int (s4.1 127)] s4 (fun r s8 => r = none ∧ Q none s8))))) ∧ (¬ (s4.1 123) ≤ 0 → Q none s4)))))))))) : ExM l E w (d + 1) MX10_next 0 [some (.ref w.1), some (.int x1), none, none, none, none, none] [] s Q := by
  intro h0 h hW hF
  refine x_aload_n dX10_next_0 rfl rfl rfl ?_
  refine m_geti (v := (s.1 136)) dX10_next_1 f_TallySlateModel_534 (by decide) rfl hW rfl ?_
  refine x_iconst (v := 1) dX10_next_4 rfl ?_
  refine x_isub dX10_next_5 ?_
  obtain ⟨y1, ey1⟩ : ∃ z : Int32, z = ((s.1 136) - 1) := ⟨_, rfl⟩
  have hT := hT y1 ey1
  refine x_istore_n (lo' := [some (.ref w.1), some (.int x1), some (.int y1), none, none, none, none]) dX10_next_6 rfl (Nat.le_of_ble_eq_true rfl) (by rw [ey1]; rfl) ?_
  refine x_aload_n dX10_next_7 rfl rfl rfl ?_
  refine m_geta dX10_next_8 f_TallySlateModel_237 (by decide) rfl hW ?_
  refine x_iload_n dX10_next_11 rfl rfl ?_
  obtain ⟨hb, hT⟩ := hT
  refine m_iald (v := (s.2.2.1 139 y1.toNatClampNeg)) dX10_next_12 rfl hb hW rfl ?_
  refine x_aload_n dX10_next_13 rfl rfl rfl ?_
  refine m_geta dX10_next_14 f_TallySlateModel_240 (by decide) rfl hW ?_
  refine x_iload_n dX10_next_17 rfl rfl ?_
  obtain ⟨hb, hT⟩ := hT
  refine m_iald (v := (s.2.2.1 140 y1.toNatClampNeg)) dX10_next_18 rfl hb hW rfl ?_
  refine x_icmp_ge (tgt := 107) dX10_next_19 rfl (fun c => ?_) (fun c => ?_)
  · have hT := hT.1 c
    refine x_aload_n dX10_next_107 rfl rfl rfl ?_
    refine x_dup dX10_next_108 rfl ?_
    refine m_geti (v := (s.1 136)) dX10_next_109 f_TallySlateModel_534 (by decide) rfl hW rfl ?_
    refine x_iconst (v := 1) dX10_next_112 rfl ?_
    refine x_isub dX10_next_113 ?_
    refine m_puti dX10_next_114 f_TallySlateModel_534 (by decide) rfl rfl rfl rfl hW hF ?_
    intro h hW hF
    refine x_aload_n dX10_next_117 rfl rfl rfl ?_
    refine m_geta dX10_next_118 f_TallySlateModel_231 (by decide) rfl hW ?_
    refine x_iload_n dX10_next_121 rfl rfl ?_
    obtain ⟨hb, hT⟩ := hT
    refine m_iald (v := (s.2.2.1 137 y1.toNatClampNeg)) dX10_next_122 rfl hb hW rfl ?_
    refine x_iconst (v := 4) dX10_next_123 rfl ?_
    refine x_icmp_ne (tgt := 128) dX10_next_124 rfl (fun c => ?_) (fun c => ?_)
    · have hT := hT.1 c
      refine x_aload_n dX10_next_128 rfl rfl rfl ?_
      refine m_geta dX10_next_129 f_TallySlateModel_243 (by decide) rfl hW ?_
      refine x_iload_n dX10_next_132 rfl rfl ?_
      obtain ⟨hb, hT⟩ := hT
      refine m_iald (v := (s.2.2.1 141 y1.toNatClampNeg)) dX10_next_133 rfl hb hW rfl ?_
      obtain ⟨y2, ey2⟩ : ∃ z : Int32, z = (s.2.2.1 141 y1.toNatClampNeg) := ⟨_, rfl⟩
      have hT := hT y2 ey2
      refine x_istore_n (lo' := [some (.ref w.1), some (.int x1), some (.int y1), some (.int y2), none, none, none]) dX10_next_134 rfl (Nat.le_of_ble_eq_true rfl) (by rw [ey2]; rfl) ?_
      refine x_aload_n dX10_next_135 rfl rfl rfl ?_
      refine m_geta dX10_next_136 f_TallySlateModel_183 (by decide) rfl hW ?_
      refine x_aload_n dX10_next_139 rfl rfl rfl ?_
      refine m_geta dX10_next_140 f_TallySlateModel_234 (by decide) rfl hW ?_
      refine x_iload_n dX10_next_143 rfl rfl ?_
      obtain ⟨hb, hT⟩ := hT
      refine m_iald (v := (s.2.2.1 138 y1.toNatClampNeg)) dX10_next_144 rfl hb hW rfl ?_
      obtain ⟨hb, hT⟩ := hT
      refine m_iald (v := (s.2.2.1 104 (s.2.2.1 138 y1.toNatClampNeg).toNatClampNeg)) dX10_next_145 rfl hb hW rfl ?_
      refine x_iconst (v := 3) dX10_next_146 rfl ?_
      refine x_icmp_ne (tgt := 157) dX10_next_147 rfl (fun c => ?_) (fun c => ?_)
      · have hT := hT.1 c
        refine x_aload_n dX10_next_157 rfl rfl rfl ?_
        refine m_geti (v := (s.1 108)) dX10_next_158 f_TallySlateModel_461 (by decide) rfl hW rfl ?_
        refine x_iload_n dX10_next_161 rfl rfl ?_
        refine x_icmp_gt (tgt := 180) dX10_next_162 rfl (fun c => ?_) (fun c => ?_)
        · have hT := hT.1 c
          refine x_iconst (v := 1) dX10_next_180 rfl ?_
          refine x_goto (tgt := 185) dX10_next_181 rfl ?_
          refine x_istore (lo' := [some (.ref w.1), some (.int x1), some (.int y1), some (.int y2), some (.int 1), none, none]) dX10_next_185 (Nat.le_of_ble_eq_true rfl) rfl ?_
          refine x_aload_n dX10_next_187 rfl rfl rfl ?_
          refine m_geti (v := (s.1 108)) dX10_next_188 f_TallySlateModel_461 (by decide) rfl hW rfl ?_
          refine x_iload_n dX10_next_191 rfl rfl ?_
          refine x_icmp_gt (tgt := 210) dX10_next_192 rfl (fun c => ?_) (fun c => ?_)
          · have hT := hT.1 c
            refine x_iconst (v := 1) dX10_next_210 rfl ?_
            refine x_goto (tgt := 215) dX10_next_211 rfl ?_
            refine x_istore (lo' := [some (.ref w.1), some (.int x1), some (.int y1), some (.int y2), some (.int 1), some (.int 1), none]) dX10_next_215 (Nat.le_of_ble_eq_true rfl) rfl ?_
            refine x_iload_n dX10_next_217 rfl rfl ?_
            refine x_istore (lo' := [some (.ref w.1), some (.int x1), some (.int y1), some (.int y2), some (.int 1), some (.int 1), some (.int y2)]) dX10_next_218 (Nat.le_of_ble_eq_true rfl) rfl ?_
            refine Ex.wkl (lo' := [some (.ref w.1), none, none, some (.int y2), some (.int 1), some (.int 1), some (.int y2)]) ⟨rfl, rfl, rfl, rfl, rfl, trivial⟩ ?_
            exact hT h0 h hW hF
          · have hT := hT.2 c
            refine x_aload_n dX10_next_195 rfl rfl rfl ?_
            refine m_geta dX10_next_196 f_TallySlateModel_183 (by decide) rfl hW ?_
            refine x_aload_n dX10_next_199 rfl rfl rfl ?_
            refine m_geta dX10_next_200 f_TallySlateModel_234 (by decide) rfl hW ?_
            refine x_iload_n dX10_next_203 rfl rfl ?_
            obtain ⟨hb, hT⟩ := hT
            refine m_iald (v := (s.2.2.1 138 y1.toNatClampNeg)) dX10_next_204 rfl hb hW rfl ?_
            obtain ⟨hb, hT⟩ := hT
            refine m_iald (v := (s.2.2.1 104 (s.2.2.1 138 y1.toNatClampNeg).toNatClampNeg)) dX10_next_205 rfl hb hW rfl ?_
            refine x_iconst (v := 2) dX10_next_206 rfl ?_
            refine x_icmp_ne (tgt := 214) dX10_next_207 rfl (fun c => ?_) (fun c => ?_)
            · have hT := hT.1 c
              refine x_iconst (v := 0) dX10_next_214 rfl ?_
              refine x_istore (lo' := [some (.ref w.1), some (.int x1), some (.int y1), some (.int y2), some (.int 1), some (.int 0), none]) dX10_next_215 (Nat.le_of_ble_eq_true rfl) rfl ?_
              refine x_iload_n dX10_next_217 rfl rfl ?_
              refine x_istore (lo' := [some (.ref w.1), some (.int x1), some (.int y1), some (.int y2), some (.int 1), some (.int 0), some (.int y2)]) dX10_next_218 (Nat.le_of_ble_eq_true rfl) rfl ?_
              refine Ex.wkl (lo' := [some (.ref w.1), none, none, some (.int y2), some (.int 1), some (.int 0), some (.int y2)]) ⟨rfl, rfl, rfl, rfl, rfl, trivial⟩ ?_
              exact hT h0 h hW hF
            · have hT := hT.2 c
              refine x_iconst (v := 1) dX10_next_210 rfl ?_
              refine x_goto (tgt := 215) dX10_next_211 rfl ?_
              refine x_istore (lo' := [some (.ref w.1), some (.int x1), some (.int y1), some (.int y2), some (.int 1), some (.int 1), none]) dX10_next_215 (Nat.le_of_ble_eq_true rfl) rfl ?_
              refine x_iload_n dX10_next_217 rfl rfl ?_
              refine x_istore (lo' := [some (.ref w.1), some (.int x1), some (.int y1), some (.int y2), some (.int 1), some (.int 1), some (.int y2)]) dX10_next_218 (Nat.le_of_ble_eq_true rfl) rfl ?_
              refine Ex.wkl (lo' := [some (.ref w.1), none, none, some (.int y2), some (.int 1), some (.int 1), some (.int y2)]) ⟨rfl, rfl, rfl, rfl, rfl, trivial⟩ ?_
              exact hT h0 h hW hF
        · have hT := hT.2 c
          refine x_aload_n dX10_next_165 rfl rfl rfl ?_
          refine m_geta dX10_next_166 f_TallySlateModel_183 (by decide) rfl hW ?_
          refine x_aload_n dX10_next_169 rfl rfl rfl ?_
          refine m_geta dX10_next_170 f_TallySlateModel_234 (by decide) rfl hW ?_
          refine x_iload_n dX10_next_173 rfl rfl ?_
          obtain ⟨hb, hT⟩ := hT
          refine m_iald (v := (s.2.2.1 138 y1.toNatClampNeg)) dX10_next_174 rfl hb hW rfl ?_
          obtain ⟨hb, hT⟩ := hT
          refine m_iald (v := (s.2.2.1 104 (s.2.2.1 138 y1.toNatClampNeg).toNatClampNeg)) dX10_next_175 rfl hb hW rfl ?_
          refine x_iconst (v := 1) dX10_next_176 rfl ?_
          refine x_icmp_ne (tgt := 184) dX10_next_177 rfl (fun c => ?_) (fun c => ?_)
          · have hT := hT.1 c
            refine x_iconst (v := 0) dX10_next_184 rfl ?_
            refine x_istore (lo' := [some (.ref w.1), some (.int x1), some (.int y1), some (.int y2), some (.int 0), none, none]) dX10_next_185 (Nat.le_of_ble_eq_true rfl) rfl ?_
            refine x_aload_n dX10_next_187 rfl rfl rfl ?_
            refine m_geti (v := (s.1 108)) dX10_next_188 f_TallySlateModel_461 (by decide) rfl hW rfl ?_
            refine x_iload_n dX10_next_191 rfl rfl ?_
            refine x_icmp_gt (tgt := 210) dX10_next_192 rfl (fun c => ?_) (fun c => ?_)
            · have hT := hT.1 c
              refine x_iconst (v := 1) dX10_next_210 rfl ?_
              refine x_goto (tgt := 215) dX10_next_211 rfl ?_
              refine x_istore (lo' := [some (.ref w.1), some (.int x1), some (.int y1), some (.int y2), some (.int 0), some (.int 1), none]) dX10_next_215 (Nat.le_of_ble_eq_true rfl) rfl ?_
              refine x_iload_n dX10_next_217 rfl rfl ?_
              refine x_istore (lo' := [some (.ref w.1), some (.int x1), some (.int y1), some (.int y2), some (.int 0), some (.int 1), some (.int y2)]) dX10_next_218 (Nat.le_of_ble_eq_true rfl) rfl ?_
              refine Ex.wkl (lo' := [some (.ref w.1), none, none, some (.int y2), some (.int 0), some (.int 1), some (.int y2)]) ⟨rfl, rfl, rfl, rfl, rfl, trivial⟩ ?_
              exact hT h0 h hW hF
            · have hT := hT.2 c
              refine x_aload_n dX10_next_195 rfl rfl rfl ?_
              refine m_geta dX10_next_196 f_TallySlateModel_183 (by decide) rfl hW ?_
              refine x_aload_n dX10_next_199 rfl rfl rfl ?_
              refine m_geta dX10_next_200 f_TallySlateModel_234 (by decide) rfl hW ?_
              refine x_iload_n dX10_next_203 rfl rfl ?_
              obtain ⟨hb, hT⟩ := hT
              refine m_iald (v := (s.2.2.1 138 y1.toNatClampNeg)) dX10_next_204 rfl hb hW rfl ?_
              obtain ⟨hb, hT⟩ := hT
              refine m_iald (v := (s.2.2.1 104 (s.2.2.1 138 y1.toNatClampNeg).toNatClampNeg)) dX10_next_205 rfl hb hW rfl ?_
              refine x_iconst (v := 2) dX10_next_206 rfl ?_
              refine x_icmp_ne (tgt := 214) dX10_next_207 rfl (fun c => ?_) (fun c => ?_)
              · have hT := hT.1 c
                refine x_iconst (v := 0) dX10_next_214 rfl ?_
                refine x_istore (lo' := [some (.ref w.1), some (.int x1), some (.int y1), some (.int y2), some (.int 0), some (.int 0), none]) dX10_next_215 (Nat.le_of_ble_eq_true rfl) rfl ?_
                refine x_iload_n dX10_next_217 rfl rfl ?_
                refine x_istore (lo' := [some (.ref w.1), some (.int x1), some (.int y1), some (.int y2), some (.int 0), some (.int 0), some (.int y2)]) dX10_next_218 (Nat.le_of_ble_eq_true rfl) rfl ?_
                refine Ex.wkl (lo' := [some (.ref w.1), none, none, some (.int y2), some (.int 0), some (.int 0), some (.int y2)]) ⟨rfl, rfl, rfl, rfl, rfl, trivial⟩ ?_
                exact hT h0 h hW hF
              · have hT := hT.2 c
                refine x_iconst (v := 1) dX10_next_210 rfl ?_
                refine x_goto (tgt := 215) dX10_next_211 rfl ?_
                refine x_istore (lo' := [some (.ref w.1), some (.int x1), some (.int y1), some (.int y2), some (.int 0), some (.int 1), none]) dX10_next_215 (Nat.le_of_ble_eq_true rfl) rfl ?_
                refine x_iload_n dX10_next_217 rfl rfl ?_
                refine x_istore (lo' := [some (.ref w.1), some (.int x1), some (.int y1), some (.int y2), some (.int 0), some (.int 1), some (.int y2)]) dX10_next_218 (Nat.le_of_ble_eq_true rfl) rfl ?_
                refine Ex.wkl (lo' := [some (.ref w.1), none, none, some (.int y2), some (.int 0), some (.int 1), some (.int y2)]) ⟨rfl, rfl, rfl, rfl, rfl, trivial⟩ ?_
                exact hT h0 h hW hF
          · have hT := hT.2 c
            refine x_iconst (v := 1) dX10_next_180 rfl ?_
            refine x_goto (tgt := 185) dX10_next_181 rfl ?_
            refine x_istore (lo' := [some (.ref w.1), some (.int x1), some (.int y1), some (.int y2), some (.int 1), none, none]) dX10_next_185 (Nat.le_of_ble_eq_true rfl) rfl ?_
            refine x_aload_n dX10_next_187 rfl rfl rfl ?_
            refine m_geti (v := (s.1 108)) dX10_next_188 f_TallySlateModel_461 (by decide) rfl hW rfl ?_
            refine x_iload_n dX10_next_191 rfl rfl ?_
            refine x_icmp_gt (tgt := 210) dX10_next_192 rfl (fun c => ?_) (fun c => ?_)
            · have hT := hT.1 c
              refine x_iconst (v := 1) dX10_next_210 rfl ?_
              refine x_goto (tgt := 215) dX10_next_211 rfl ?_
              refine x_istore (lo' := [some (.ref w.1), some (.int x1), some (.int y1), some (.int y2), some (.int 1), some (.int 1), none]) dX10_next_215 (Nat.le_of_ble_eq_true rfl) rfl ?_
              refine x_iload_n dX10_next_217 rfl rfl ?_
              refine x_istore (lo' := [some (.ref w.1), some (.int x1), some (.int y1), some (.int y2), some (.int 1), some (.int 1), some (.int y2)]) dX10_next_218 (Nat.le_of_ble_eq_true rfl) rfl ?_
              refine Ex.wkl (lo' := [some (.ref w.1), none, none, some (.int y2), some (.int 1), some (.int 1), some (.int y2)]) ⟨rfl, rfl, rfl, rfl, rfl, trivial⟩ ?_
              exact hT h0 h hW hF
            · have hT := hT.2 c
              refine x_aload_n dX10_next_195 rfl rfl rfl ?_
              refine m_geta dX10_next_196 f_TallySlateModel_183 (by decide) rfl hW ?_
              refine x_aload_n dX10_next_199 rfl rfl rfl ?_
              refine m_geta dX10_next_200 f_TallySlateModel_234 (by decide) rfl hW ?_
              refine x_iload_n dX10_next_203 rfl rfl ?_
              obtain ⟨hb, hT⟩ := hT
              refine m_iald (v := (s.2.2.1 138 y1.toNatClampNeg)) dX10_next_204 rfl hb hW rfl ?_
              obtain ⟨hb, hT⟩ := hT
              refine m_iald (v := (s.2.2.1 104 (s.2.2.1 138 y1.toNatClampNeg).toNatClampNeg)) dX10_next_205 rfl hb hW rfl ?_
              refine x_iconst (v := 2) dX10_next_206 rfl ?_
              refine x_icmp_ne (tgt := 214) dX10_next_207 rfl (fun c => ?_) (fun c => ?_)
              · have hT := hT.1 c
                refine x_iconst (v := 0) dX10_next_214 rfl ?_
                refine x_istore (lo' := [some (.ref w.1), some (.int x1), some (.int y1), some (.int y2), some (.int 1), some (.int 0), none]) dX10_next_215 (Nat.le_of_ble_eq_true rfl) rfl ?_
                refine x_iload_n dX10_next_217 rfl rfl ?_
                refine x_istore (lo' := [some (.ref w.1), some (.int x1), some (.int y1), some (.int y2), some (.int 1), some (.int 0), some (.int y2)]) dX10_next_218 (Nat.le_of_ble_eq_true rfl) rfl ?_
                refine Ex.wkl (lo' := [some (.ref w.1), none, none, some (.int y2), some (.int 1), some (.int 0), some (.int y2)]) ⟨rfl, rfl, rfl, rfl, rfl, trivial⟩ ?_
                exact hT h0 h hW hF
              · have hT := hT.2 c
                refine x_iconst (v := 1) dX10_next_210 rfl ?_
                refine x_goto (tgt := 215) dX10_next_211 rfl ?_
                refine x_istore (lo' := [some (.ref w.1), some (.int x1), some (.int y1), some (.int y2), some (.int 1), some (.int 1), none]) dX10_next_215 (Nat.le_of_ble_eq_true rfl) rfl ?_
                refine x_iload_n dX10_next_217 rfl rfl ?_
                refine x_istore (lo' := [some (.ref w.1), some (.int x1), some (.int y1), some (.int y2), some (.int 1), some (.int 1), some (.int y2)]) dX10_next_218 (Nat.le_of_ble_eq_true rfl) rfl ?_
                refine Ex.wkl (lo' := [some (.ref w.1), none, none, some (.int y2), some (.int 1), some (.int 1), some (.int y2)]) ⟨rfl, rfl, rfl, rfl, rfl, trivial⟩ ?_
                exact hT h0 h hW hF
      · have hT := hT.2 c
        refine x_aload_n dX10_next_150 rfl rfl rfl ?_
        refine x_iconst (v := 3) dX10_next_151 rfl ?_
        refine x_iload_n dX10_next_152 rfl rfl ?_
        refine m_inv (vs := [.int 3, .int y2]) dX10_next_153 oX10_builds q2739 q2737 qs108 rfl rfl (Nat.le_of_ble_eq_true rfl) rfl hW hF hT ?_
        rintro _ s3 ⟨rfl, hT⟩ h hW hF
        exact x_vret dX10_next_156 rfl ⟨_, _, rfl, hW, hF, hT⟩
    · have hT := hT.2 c
      exact x_vret dX10_next_127 rfl ⟨_, _, rfl, hW, hF, hT⟩
  · have hT := hT.2 c
    refine x_aload_n dX10_next_22 rfl rfl rfl ?_
    refine m_inv (vs := []) dX10_next_23 oX10_step q2704 q2702 qs100 rfl rfl (Nat.le_of_ble_eq_true rfl) rfl hW hF hT ?_
    rintro _ s4 ⟨rfl, hT⟩ h hW hF
    refine x_aload_n dX10_next_26 rfl rfl rfl ?_
    refine m_geti (v := (s4.1 123)) dX10_next_27 f_TallySlateModel_498 (by decide) rfl hW rfl ?_
    refine x_if_le (tgt := 34) dX10_next_30 rfl (fun c => ?_) (fun c => ?_)
    · have hT := hT.1 c
      refine x_aload_n dX10_next_34 rfl rfl rfl ?_
      refine m_geti (v := (s4.1 130)) dX10_next_35 f_TallySlateModel_531 (by decide) rfl hW rfl ?_
      refine x_bipush (v := 10) dX10_next_38 rfl ?_
      refine x_icmp_ne (tgt := 54) dX10_next_40 rfl (fun c => ?_) (fun c => ?_)
      · have hT := hT.1 c
        refine x_aload_n dX10_next_54 rfl rfl rfl ?_
        refine x_aload_n dX10_next_55 rfl rfl rfl ?_
        refine m_geta dX10_next_56 f_TallySlateModel_234 (by decide) rfl hW ?_
        refine x_iload_n dX10_next_59 rfl rfl ?_
        obtain ⟨hb, hT⟩ := hT
        refine m_iald (v := (s4.2.2.1 138 y1.toNatClampNeg)) dX10_next_60 rfl hb hW rfl ?_
        refine x_aload_n dX10_next_61 rfl rfl rfl ?_
        refine m_geta dX10_next_62 f_TallySlateModel_237 (by decide) rfl hW ?_
        refine x_iload_n dX10_next_65 rfl rfl ?_
        obtain ⟨hb, hT⟩ := hT
        refine m_iald (v := (s4.2.2.1 139 y1.toNatClampNeg)) dX10_next_66 rfl hb hW rfl ?_
        refine m_inv (vs := [.int (s4.2.2.1 138 y1.toNatClampNeg), .int (s4.2.2.1 139 y1.toNatClampNeg)]) dX10_next_67 oX10_element q2798 q2796 qs122 rfl rfl (Nat.le_of_ble_eq_true rfl) rfl hW hF hT ?_
        rintro _ s5 ⟨rfl, hT⟩ h hW hF
        refine x_aload_n dX10_next_70 rfl rfl rfl ?_
        refine m_geta dX10_next_71 f_TallySlateModel_237 (by decide) rfl hW ?_
        refine x_iload_n dX10_next_74 rfl rfl ?_
        refine x_dup2 dX10_next_75 rfl rfl ?_
        obtain ⟨hb, hT⟩ := hT
        refine m_iald (v := (s5.2.2.1 139 y1.toNatClampNeg)) dX10_next_76 rfl hb hW rfl ?_
        refine x_iconst (v := 1) dX10_next_77 rfl ?_
        refine x_iadd dX10_next_78 ?_
        obtain ⟨hb, hT⟩ := hT
        refine m_iast dX10_next_79 rfl hb hW hF ?_
        intro h hW hF
        refine x_aload_n dX10_next_80 rfl rfl rfl ?_
        refine x_aload_n dX10_next_81 rfl rfl rfl ?_
        refine m_geta dX10_next_82 f_TallySlateModel_127 (by decide) rfl hW ?_
        refine x_iload_n dX10_next_85 rfl rfl ?_
        obtain ⟨hb, hT⟩ := hT
        refine m_iald (v := (s5.2.2.1 82 x1.toNatClampNeg)) dX10_next_86 rfl hb hW rfl ?_
        refine x_aload_n dX10_next_87 rfl rfl rfl ?_
        refine m_geta dX10_next_88 f_TallySlateModel_231 (by decide) rfl hW ?_
        refine x_iload_n dX10_next_91 rfl rfl ?_
        obtain ⟨hb, hT⟩ := hT
        refine m_iald (v := (s5.2.2.1 137 y1.toNatClampNeg)) dX10_next_92 rfl hb hW rfl ?_
        refine x_iconst (v := 3) dX10_next_93 rfl ?_
        refine x_icmp_ne (tgt := 101) dX10_next_94 rfl (fun c => ?_) (fun c => ?_)
        · have hT := hT.1 c
          refine x_iconst (v := 2) dX10_next_101 rfl ?_
          refine x_iload_n dX10_next_102 rfl rfl ?_
          refine m_inv (vs := [.int (s5.2.2.1 82 x1.toNatClampNeg), .int 2, .int x1]) dX10_next_103 oX10_enters q2692 q2690 qs97 rfl rfl (Nat.le_of_ble_eq_true rfl) rfl hW hF hT ?_
          rintro _ s6 ⟨rfl, hT⟩ h hW hF
          exact x_vret dX10_next_106 rfl ⟨_, _, rfl, hW, hF, hT⟩
        · have hT := hT.2 c
          refine x_iconst (v := 1) dX10_next_97 rfl ?_
          refine x_goto (tgt := 102) dX10_next_98 rfl ?_
          refine x_iload_n dX10_next_102 rfl rfl ?_
          refine m_inv (vs := [.int (s5.2.2.1 82 x1.toNatClampNeg), .int 1, .int x1]) dX10_next_103 oX10_enters q2692 q2690 qs97 rfl rfl (Nat.le_of_ble_eq_true rfl) rfl hW hF hT ?_
          rintro _ s7 ⟨rfl, hT⟩ h hW hF
          exact x_vret dX10_next_106 rfl ⟨_, _, rfl, hW, hF, hT⟩
      · have hT := hT.2 c
        refine x_aload_n dX10_next_43 rfl rfl rfl ?_
        refine x_bipush (v := 8) dX10_next_44 rfl ?_
        refine x_aload_n dX10_next_46 rfl rfl rfl ?_
        refine m_geti (v := (s4.1 127)) dX10_next_47 f_TallySlateModel_507 (by decide) rfl hW rfl ?_
        refine m_inv (vs := [.int 8, .int (s4.1 127)]) dX10_next_50 oX10_trouble q2696 q2694 qs98 rfl rfl (Nat.le_of_ble_eq_true rfl) rfl hW hF hT ?_
        rintro _ s8 ⟨rfl, hT⟩ h hW hF
        exact x_vret dX10_next_53 rfl ⟨_, _, rfl, hW, hF, hT⟩
    · have hT := hT.2 c
      exact x_vret dX10_next_33 rfl ⟨_, _, rfl, hW, hF, hT⟩
theorem eX10_next {l : Launch} {E : EN} {w : MO} {d : Nat} {s : MS} {Q : Option Value → MS → Prop} {x1 : Int32} (hst : l.stackTraces = false) (hT : (∀ y1 : Int32, y1 = ((s.1 136) - 1) → (inB y1 400 ∧ (inB y1 400 ∧ (((s.2.2.1 140 y1.toNatClampNeg) ≤ (s.2.2.1 139 y1.toNatClampNeg) → (inB y1 400 ∧ ((¬ (s.2.2.1 137 y1.toNatClampNeg) = 4 → (inB y1 400 ∧ (∀ y2 : Int32, y2 = (s.2.2.1 141 y1.toNatClampNeg) → (inB y1 400 ∧ (inB (s.2.2.1 138 y1.toNatClampNeg) 166300 ∧ ((¬ (s.2.2.1 104 (s.2.2.1 138 y1.toNatClampNeg).toNatClampNeg) = 3 → ((y2 < (s.1 108) → ((y2 < (s.1 108) → ExM l E w (d + 1) MX10_next 220 [some (.ref w.1), none, none, some (.int y2), some (.int 1), some (.int 1), some (.int y2)] [] (sI s 136 ((s.1 136) - 1)) Q) ∧ (¬ y2 < (s.1 108) → (inB y1 400 ∧ (inB (s.2.2.1 138 y1.toNatClampNeg) 166300 ∧ ((¬ (s.2.2.1 104 (s.2.2.1 138 y1.toNatClampNeg).toNatClampNeg) = 2 → ExM l E w (d + 1) MX10_next 220 [some (.ref w.1), none, none, some (.int y2), some (.int 1), some (.int 0), some (.int y2)] [] (sI s 136 ((s.1 136) - 1)) Q) ∧ ((s.2.2.1 104 (s.2.2.1 138 y1.toNatClampNeg).toNatClampNeg) = 2 → ExM l E w (d + 1) MX10_next 220 [some (.ref w.1), none, none, some (.int y2), some (.int 1), some (.int 1), some (.int y2)] [] (sI s 136 ((s.1 136) - 1)) Q))))))) ∧ (¬ y2 < (s.1 108) → (inB y1 400 ∧ (inB (s.2.2.1 138 y1.toNatClampNeg) 166300 ∧ ((¬ (s.2.2.1 104 (s.2.2.1 138 y1.toNatClampNeg).toNatClampNeg) = 1 → ((y2 < (s.1 108) → ExM l E w (d + 1) MX10_next 220 [some (.ref w.1), none, none, some (.int y2), some (.int 0), some (.int 1), some (.int y2)] [] (sI s 136 ((s.1 136) - 1)) Q) ∧ (¬ y2 < (s.1 108) → (inB y1 400 ∧ (inB (s.2.2.1 138 y1.toNatClampNeg) 166300 ∧ ((¬ (s.2.2.1 104 (s.2.2.1 138 y1.toNatClampNeg).toNatClampNeg) = 2 → ExM l E w (d + 1) MX10_next 220 [some (.ref w.1), none, none, some (.int y2), some (.int 0), some (.int 0), some (.int y2)] [] (sI s 136 ((s.1 136) - 1)) Q) ∧ ((s.2.2.1 104 (s.2.2.1 138 y1.toNatClampNeg).toNatClampNeg) = 2 → ExM l E w (d + 1) MX10_next 220 [some (.ref w.1), none, none, some (.int y2), some (.int 0), some (.int 1), some (.int y2)] [] (sI s 136 ((s.1 136) - 1)) Q))))))) ∧ ((s.2.2.1 104 (s.2.2.1 138 y1.toNatClampNeg).toNatClampNeg) = 1 → ((y2 < (s.1 108) → ExM l E w (d + 1) MX10_next 220 [some (.ref w.1), none, none, some (.int y2), some (.int 1), some (.int 1), some (.int y2)] [] (sI s 136 ((s.1 136) - 1)) Q) ∧ (¬ y2 < (s.1 108) → (inB y1 400 ∧ (inB (s.2.2.1 138 y1.toNatClampNeg) 166300 ∧ ((¬ (s.2.2.1 104 (s.2.2.1 138 y1.toNatClampNeg).toNatClampNeg) = 2 → ExM l E w (d + 1) MX10_next 220 [some (.ref w.1), none, none, some (.int y2), some (.int 1), some (.int 0), some (.int y2)] [] (sI s 136 ((s.1 136) - 1)) Q) ∧ ((s.2.2.1 104 (s.2.2.1 138 y1.toNatClampNeg).toNatClampNeg) = 2 → ExM l E w (d + 1) MX10_next 220 [some (.ref w.1), none, none, some (.int y2), some (.int 1), some (.int 1), some (.int y2)] [] (sI s 136 ((s.1 136) - 1)) Q))))))))))))) ∧ ((s.2.2.1 104 (s.2.2.1 138 y1.toNatClampNeg).toNatClampNeg) = 3 → (EvM l E w d MX10_builds [.ref w.1, .int 3, .int y2] (sI s 136 ((s.1 136) - 1)) (fun r s3 => r = none ∧ Q none s3))))))))) ∧ ((s.2.2.1 137 y1.toNatClampNeg) = 4 → Q none (sI s 136 ((s.1 136) - 1)))))) ∧ (¬ (s.2.2.1 140 y1.toNatClampNeg) ≤ (s.2.2.1 139 y1.toNatClampNeg) → (EvM l E w d MX10_step [.ref w.1] s (fun r s4 => r = none ∧ (((s4.1 123) ≤ 0 → ((¬ (s4.1 130) = 10 → (inB y1 400 ∧ (inB y1 400 ∧ (EvM l E w d MX10_element [.ref w.1, .int (s4.2.2.1 138 y1.toNatClampNeg), .int (s4.2.2.1 139 y1.toNatClampNeg)] s4 (fun r s5 => r = none ∧ (inB y1 400 ∧ (inB y1 400 ∧ (inB x1 8000 ∧ (inB y1 400 ∧ ((¬ (s5.2.2.1 137 y1.toNatClampNeg) = 3 → (EvM l E w d MX10_enters [.ref w.1, .int (s5.2.2.1 82 x1.toNatClampNeg), .int 2, .int x1] (sA s5 139 y1.toNatClampNeg ((s5.2.2.1 139 y1.toNatClampNeg) + 1)) (fun r s6 => r = none ∧ Q none s6))) ∧ ((s5.2.2.1 137 y1.toNatClampNeg) = 3 → (EvM l E w d MX10_enters [.ref w.1, .int (s5.2.2.1 82 x1.toNatClampNeg), .int 1, .int x1] (sA s5 139 y1.toNatClampNeg ((s5.2.2.1 139 y1.toNatClampNeg) + 1)) (fun r s7 => r = none ∧ Q none s7))))))))))))) ∧ ((s4.1 130) = 10 → (EvM l E w d MX10_trouble [.ref w.1, .int 8, .int (s4.1 127)] s4 (fun r s8 => r = none ∧ Q none s8))))) ∧ (¬ (s4.1 123) ≤ 0 → Q none s4)))))))))) : EvM l E w (d + 1) MX10_next [.ref w.1, .int x1] s Q :=
  EvM.of hst (by decide) (Nat.le_of_ble_eq_true rfl) (vX10_next_0 hT)
set_option maxHeartbeats 16000000 in
theorem vX10_next_220 {l : Launch} {E : EN} {w : MO} {d : Nat} {s : MS} {Q : Option Value → MS → Prop} {a3 : Int32} {a4 : Int32} {a5 : Int32} {a6 : Int32} (hT : (((s.1 108) ≤ a6 → ((a4 = 0 → ((a5 = 0 → (EvM l E w d MX10_trouble [.ref w.1, .int 3, .int (s.1 127)] s (fun r s1 => r = none ∧ Q none s1))) ∧ (¬ a5 = 0 → (EvM l E w d MX10_builds [.ref w.1, .int 2, .int a3] s (fun r s2 => r = none ∧ Q none s2))))) ∧ (¬ a4 = 0 → (EvM l E w d MX10_builds [.ref w.1, .int 1, .int a3] s (fun r s3 => r = none ∧ Q none s3))))) ∧ (¬ (s.1 108) ≤ a6 → ((a4 = 0 → ((a5 = 0 → ExM l E w (d + 1) MX10_next 220 [some (.ref w.1), none, none, some (.int a3), some (.int 0), some (.int 0), some (.int (a6 + 1))] [] s Q) ∧ (¬ a5 = 0 → (EvM l E w d MX10_kindAt [.ref w.1, .int a6] s (fun r s4 => ∃ v5 : Int32, r = some (.int v5) ∧ ((¬ v5 = 1 → ExM l E w (d + 1) MX10_next 220 [some (.ref w.1), none, none, some (.int a3), some (.int 0), some (.int 0), some (.int (a6 + 1))] [] s4 Q) ∧ (v5 = 1 → ExM l E w (d + 1) MX10_next 220 [some (.ref w.1), none, none, some (.int a3), some (.int 0), some (.int 1), some (.int (a6 + 1))] [] s4 Q))))))) ∧ (¬ a4 = 0 → (inB a6 9000 ∧ ((¬ (s.2.2.1 106 a6.toNatClampNeg) = 0 → ((a5 = 0 → ExM l E w (d + 1) MX10_next 220 [some (.ref w.1), none, none, some (.int a3), some (.int 0), some (.int 0), some (.int (a6 + 1))] [] s Q) ∧ (¬ a5 = 0 → (EvM l E w d MX10_kindAt [.ref w.1, .int a6] s (fun r s6 => ∃ v7 : Int32, r = some (.int v7) ∧ ((¬ v7 = 1 → ExM l E w (d + 1) MX10_next 220 [some (.ref w.1), none, none, some (.int a3), some (.int 0), some (.int 0), some (.int (a6 + 1))] [] s6 Q) ∧ (v7 = 1 → ExM l E w (d + 1) MX10_next 220 [some (.ref w.1), none, none, some (.int a3), some (.int 0), some (.int 1), some (.int (a6 + 1))] [] s6 Q))))))) ∧ ((s.2.2.1 106 a6.toNatClampNeg) = 0 → ((a5 = 0 → ExM l E w (d + 1) MX10_next 220 [some (.ref w.1), none, none, some (.int a3), some (.int 1), some (.int 0), some (.int (a6 + 1))] [] s Q) ∧ (¬ a5 = 0 → (EvM l E w d MX10_kindAt [.ref w.1, .int a6] s (fun r s8 => ∃ v9 : Int32, r = some (.int v9) ∧ ((¬ v9 = 1 → ExM l E w (d + 1) MX10_next 220 [some (.ref w.1), none, none, some (.int a3), some (.int 1), some (.int 0), some (.int (a6 + 1))] [] s8 Q) ∧ (v9 = 1 → ExM l E w (d + 1) MX10_next 220 [some (.ref w.1), none, none, some (.int a3), some (.int 1), some (.int 1), some (.int (a6 + 1))] [] s8 Q)))))))))))))) : ExM l E w (d + 1) MX10_next 220 [some (.ref w.1), none, none, some (.int a3), some (.int a4), some (.int a5), some (.int a6)] [] s Q := by
  intro h0 h hW hF
  refine x_iload dX10_next_220 rfl ?_
  refine x_aload_n dX10_next_222 rfl rfl rfl ?_
  refine m_geti (v := (s.1 108)) dX10_next_223 f_TallySlateModel_461 (by decide) rfl hW rfl ?_
  refine x_icmp_ge (tgt := 279) dX10_next_226 rfl (fun c => ?_) (fun c => ?_)
  · have hT := hT.1 c
    refine x_iload dX10_next_279 rfl ?_
    refine x_if_eq (tgt := 293) dX10_next_281 rfl (fun c => ?_) (fun c => ?_)
    · have hT := hT.1 c
      refine x_iload dX10_next_293 rfl ?_
      refine x_if_eq (tgt := 307) dX10_next_295 rfl (fun c => ?_) (fun c => ?_)
      · have hT := hT.1 c
        refine x_aload_n dX10_next_307 rfl rfl rfl ?_
        refine x_iconst (v := 3) dX10_next_308 rfl ?_
        refine x_aload_n dX10_next_309 rfl rfl rfl ?_
        refine m_geti (v := (s.1 127)) dX10_next_310 f_TallySlateModel_507 (by decide) rfl hW rfl ?_
        refine m_inv (vs := [.int 3, .int (s.1 127)]) dX10_next_313 oX10_trouble q2696 q2694 qs98 rfl rfl (Nat.le_of_ble_eq_true rfl) rfl hW hF hT ?_
        rintro _ s1 ⟨rfl, hT⟩ h hW hF
        exact x_vret dX10_next_316 rfl ⟨_, _, rfl, hW, hF, hT⟩
      · have hT := hT.2 c
        refine x_aload_n dX10_next_298 rfl rfl rfl ?_
        refine x_iconst (v := 2) dX10_next_299 rfl ?_
        refine x_iload_n dX10_next_300 rfl rfl ?_
        refine m_inv (vs := [.int 2, .int a3]) dX10_next_301 oX10_builds q2739 q2737 qs108 rfl rfl (Nat.le_of_ble_eq_true rfl) rfl hW hF hT ?_
        rintro _ s2 ⟨rfl, hT⟩ h hW hF
        refine x_goto (tgt := 316) dX10_next_304 rfl ?_
        exact x_vret dX10_next_316 rfl ⟨_, _, rfl, hW, hF, hT⟩
    · have hT := hT.2 c
      refine x_aload_n dX10_next_284 rfl rfl rfl ?_
      refine x_iconst (v := 1) dX10_next_285 rfl ?_
      refine x_iload_n dX10_next_286 rfl rfl ?_
      refine m_inv (vs := [.int 1, .int a3]) dX10_next_287 oX10_builds q2739 q2737 qs108 rfl rfl (Nat.le_of_ble_eq_true rfl) rfl hW hF hT ?_
      rintro _ s3 ⟨rfl, hT⟩ h hW hF
      refine x_goto (tgt := 316) dX10_next_290 rfl ?_
      exact x_vret dX10_next_316 rfl ⟨_, _, rfl, hW, hF, hT⟩
  · have hT := hT.2 c
    refine x_iload dX10_next_229 rfl ?_
    refine x_if_eq (tgt := 248) dX10_next_231 rfl (fun c => ?_) (fun c => ?_)
    · have hT := hT.1 c
      refine x_iconst (v := 0) dX10_next_248 rfl ?_
      refine x_istore (lo' := [some (.ref w.1), none, none, some (.int a3), some (.int 0), some (.int a5), some (.int a6)]) dX10_next_249 (Nat.le_of_ble_eq_true rfl) rfl ?_
      refine x_iload dX10_next_251 rfl ?_
      refine x_if_eq (tgt := 270) dX10_next_253 rfl (fun c => ?_) (fun c => ?_)
      · have hT := hT.1 c
        refine x_iconst (v := 0) dX10_next_270 rfl ?_
        refine x_istore (lo' := [some (.ref w.1), none, none, some (.int a3), some (.int 0), some (.int 0), some (.int a6)]) dX10_next_271 (Nat.le_of_ble_eq_true rfl) rfl ?_
        refine x_iinc (lo' := [some (.ref w.1), none, none, some (.int a3), some (.int 0), some (.int 0), some (.int (a6 + 1))]) dX10_next_273 rfl (show _ = (a6 + 1) from rfl) rfl ?_
        refine x_goto (tgt := 220) dX10_next_276 rfl ?_
        exact hT h0 h hW hF
      · have hT := hT.2 c
        refine x_aload_n dX10_next_256 rfl rfl rfl ?_
        refine x_iload dX10_next_257 rfl ?_
        refine m_inv (vs := [.int a6]) dX10_next_259 oX10_kindAt q2728 q2726 qs106 rfl rfl (Nat.le_of_ble_eq_true rfl) rfl hW hF hT ?_
        rintro _ s4 ⟨v5, rfl, hT⟩ h hW hF
        refine x_iconst (v := 1) dX10_next_262 rfl ?_
        refine x_icmp_ne (tgt := 270) dX10_next_263 rfl (fun c => ?_) (fun c => ?_)
        · have hT := hT.1 c
          refine x_iconst (v := 0) dX10_next_270 rfl ?_
          refine x_istore (lo' := [some (.ref w.1), none, none, some (.int a3), some (.int 0), some (.int 0), some (.int a6)]) dX10_next_271 (Nat.le_of_ble_eq_true rfl) rfl ?_
          refine x_iinc (lo' := [some (.ref w.1), none, none, some (.int a3), some (.int 0), some (.int 0), some (.int (a6 + 1))]) dX10_next_273 rfl (show _ = (a6 + 1) from rfl) rfl ?_
          refine x_goto (tgt := 220) dX10_next_276 rfl ?_
          exact hT h0 h hW hF
        · have hT := hT.2 c
          refine x_iconst (v := 1) dX10_next_266 rfl ?_
          refine x_goto (tgt := 271) dX10_next_267 rfl ?_
          refine x_istore (lo' := [some (.ref w.1), none, none, some (.int a3), some (.int 0), some (.int 1), some (.int a6)]) dX10_next_271 (Nat.le_of_ble_eq_true rfl) rfl ?_
          refine x_iinc (lo' := [some (.ref w.1), none, none, some (.int a3), some (.int 0), some (.int 1), some (.int (a6 + 1))]) dX10_next_273 rfl (show _ = (a6 + 1) from rfl) rfl ?_
          refine x_goto (tgt := 220) dX10_next_276 rfl ?_
          exact hT h0 h hW hF
    · have hT := hT.2 c
      refine x_aload_n dX10_next_234 rfl rfl rfl ?_
      refine m_geta dX10_next_235 f_TallySlateModel_186 (by decide) rfl hW ?_
      refine x_iload dX10_next_238 rfl ?_
      obtain ⟨hb, hT⟩ := hT
      refine m_iald (v := (s.2.2.1 106 a6.toNatClampNeg)) dX10_next_240 rfl hb hW rfl ?_
      refine x_if_ne (tgt := 248) dX10_next_241 rfl (fun c => ?_) (fun c => ?_)
      · have hT := hT.1 c
        refine x_iconst (v := 0) dX10_next_248 rfl ?_
        refine x_istore (lo' := [some (.ref w.1), none, none, some (.int a3), some (.int 0), some (.int a5), some (.int a6)]) dX10_next_249 (Nat.le_of_ble_eq_true rfl) rfl ?_
        refine x_iload dX10_next_251 rfl ?_
        refine x_if_eq (tgt := 270) dX10_next_253 rfl (fun c => ?_) (fun c => ?_)
        · have hT := hT.1 c
          refine x_iconst (v := 0) dX10_next_270 rfl ?_
          refine x_istore (lo' := [some (.ref w.1), none, none, some (.int a3), some (.int 0), some (.int 0), some (.int a6)]) dX10_next_271 (Nat.le_of_ble_eq_true rfl) rfl ?_
          refine x_iinc (lo' := [some (.ref w.1), none, none, some (.int a3), some (.int 0), some (.int 0), some (.int (a6 + 1))]) dX10_next_273 rfl (show _ = (a6 + 1) from rfl) rfl ?_
          refine x_goto (tgt := 220) dX10_next_276 rfl ?_
          exact hT h0 h hW hF
        · have hT := hT.2 c
          refine x_aload_n dX10_next_256 rfl rfl rfl ?_
          refine x_iload dX10_next_257 rfl ?_
          refine m_inv (vs := [.int a6]) dX10_next_259 oX10_kindAt q2728 q2726 qs106 rfl rfl (Nat.le_of_ble_eq_true rfl) rfl hW hF hT ?_
          rintro _ s6 ⟨v7, rfl, hT⟩ h hW hF
          refine x_iconst (v := 1) dX10_next_262 rfl ?_
          refine x_icmp_ne (tgt := 270) dX10_next_263 rfl (fun c => ?_) (fun c => ?_)
          · have hT := hT.1 c
            refine x_iconst (v := 0) dX10_next_270 rfl ?_
            refine x_istore (lo' := [some (.ref w.1), none, none, some (.int a3), some (.int 0), some (.int 0), some (.int a6)]) dX10_next_271 (Nat.le_of_ble_eq_true rfl) rfl ?_
            refine x_iinc (lo' := [some (.ref w.1), none, none, some (.int a3), some (.int 0), some (.int 0), some (.int (a6 + 1))]) dX10_next_273 rfl (show _ = (a6 + 1) from rfl) rfl ?_
            refine x_goto (tgt := 220) dX10_next_276 rfl ?_
            exact hT h0 h hW hF
          · have hT := hT.2 c
            refine x_iconst (v := 1) dX10_next_266 rfl ?_
            refine x_goto (tgt := 271) dX10_next_267 rfl ?_
            refine x_istore (lo' := [some (.ref w.1), none, none, some (.int a3), some (.int 0), some (.int 1), some (.int a6)]) dX10_next_271 (Nat.le_of_ble_eq_true rfl) rfl ?_
            refine x_iinc (lo' := [some (.ref w.1), none, none, some (.int a3), some (.int 0), some (.int 1), some (.int (a6 + 1))]) dX10_next_273 rfl (show _ = (a6 + 1) from rfl) rfl ?_
            refine x_goto (tgt := 220) dX10_next_276 rfl ?_
            exact hT h0 h hW hF
      · have hT := hT.2 c
        refine x_iconst (v := 1) dX10_next_244 rfl ?_
        refine x_goto (tgt := 249) dX10_next_245 rfl ?_
        refine x_istore (lo' := [some (.ref w.1), none, none, some (.int a3), some (.int 1), some (.int a5), some (.int a6)]) dX10_next_249 (Nat.le_of_ble_eq_true rfl) rfl ?_
        refine x_iload dX10_next_251 rfl ?_
        refine x_if_eq (tgt := 270) dX10_next_253 rfl (fun c => ?_) (fun c => ?_)
        · have hT := hT.1 c
          refine x_iconst (v := 0) dX10_next_270 rfl ?_
          refine x_istore (lo' := [some (.ref w.1), none, none, some (.int a3), some (.int 1), some (.int 0), some (.int a6)]) dX10_next_271 (Nat.le_of_ble_eq_true rfl) rfl ?_
          refine x_iinc (lo' := [some (.ref w.1), none, none, some (.int a3), some (.int 1), some (.int 0), some (.int (a6 + 1))]) dX10_next_273 rfl (show _ = (a6 + 1) from rfl) rfl ?_
          refine x_goto (tgt := 220) dX10_next_276 rfl ?_
          exact hT h0 h hW hF
        · have hT := hT.2 c
          refine x_aload_n dX10_next_256 rfl rfl rfl ?_
          refine x_iload dX10_next_257 rfl ?_
          refine m_inv (vs := [.int a6]) dX10_next_259 oX10_kindAt q2728 q2726 qs106 rfl rfl (Nat.le_of_ble_eq_true rfl) rfl hW hF hT ?_
          rintro _ s8 ⟨v9, rfl, hT⟩ h hW hF
          refine x_iconst (v := 1) dX10_next_262 rfl ?_
          refine x_icmp_ne (tgt := 270) dX10_next_263 rfl (fun c => ?_) (fun c => ?_)
          · have hT := hT.1 c
            refine x_iconst (v := 0) dX10_next_270 rfl ?_
            refine x_istore (lo' := [some (.ref w.1), none, none, some (.int a3), some (.int 1), some (.int 0), some (.int a6)]) dX10_next_271 (Nat.le_of_ble_eq_true rfl) rfl ?_
            refine x_iinc (lo' := [some (.ref w.1), none, none, some (.int a3), some (.int 1), some (.int 0), some (.int (a6 + 1))]) dX10_next_273 rfl (show _ = (a6 + 1) from rfl) rfl ?_
            refine x_goto (tgt := 220) dX10_next_276 rfl ?_
            exact hT h0 h hW hF
          · have hT := hT.2 c
            refine x_iconst (v := 1) dX10_next_266 rfl ?_
            refine x_goto (tgt := 271) dX10_next_267 rfl ?_
            refine x_istore (lo' := [some (.ref w.1), none, none, some (.int a3), some (.int 1), some (.int 1), some (.int a6)]) dX10_next_271 (Nat.le_of_ble_eq_true rfl) rfl ?_
            refine x_iinc (lo' := [some (.ref w.1), none, none, some (.int a3), some (.int 1), some (.int 1), some (.int (a6 + 1))]) dX10_next_273 rfl (show _ = (a6 + 1) from rfl) rfl ?_
            refine x_goto (tgt := 220) dX10_next_276 rfl ?_
            exact hT h0 h hW hF
theorem vX10_store_0 {l : Launch} {E : EN} {w : MO} {d : Nat} {s : MS} {Q : Option Value → MS → Prop} {x1 : Int32} {x2 : Int32} {x3 : Int32} (hT : ((8 ≤ x1 → (inB (((14 * ((s.1 130) - 1)) + x1) - 8) 140 ∧ (inB (((14 * ((s.1 130) - 1)) + x1) - 8) 140 ∧ Q none (sA (sA s 134 (((14 * ((s.1 130) - 1)) + x1) - 8).toNatClampNeg x2) 135 (((14 * ((s.1 130) - 1)) + x1) - 8).toNatClampNeg x3)))) ∧ (¬ 8 ≤ x1 → (inB x1 8 ∧ (inB x1 8 ∧ Q none (sA (sA s 128 x1.toNatClampNeg x2) 129 x1.toNatClampNeg x3)))))) : ExM l E w d MX10_store 0 [some (.ref w.1), some (.int x1), some (.int x2), some (.int x3)] [] s Q := by
  intro h0 h hW hF
  refine x_iload_n dX10_store_0 rfl rfl ?_
  refine x_bipush (v := 8) dX10_store_1 rfl ?_
  refine x_icmp_ge (tgt := 23) dX10_store_3 rfl (fun c => ?_) (fun c => ?_)
  · have hT := hT.1 c
    refine x_aload_n dX10_store_23 rfl rfl rfl ?_
    refine m_geta dX10_store_24 f_TallySlateModel_225 (by decide) rfl hW ?_
    refine x_bipush (v := 14) dX10_store_27 rfl ?_
    refine x_aload_n dX10_store_29 rfl rfl rfl ?_
    refine m_geti (v := (s.1 130)) dX10_store_30 f_TallySlateModel_531 (by decide) rfl hW rfl ?_
    refine x_iconst (v := 1) dX10_store_33 rfl ?_
    refine x_isub dX10_store_34 ?_
    refine x_imul dX10_store_35 ?_
    refine x_iload_n dX10_store_36 rfl rfl ?_
    refine x_iadd dX10_store_37 ?_
    refine x_bipush (v := 8) dX10_store_38 rfl ?_
    refine x_isub dX10_store_40 ?_
    refine x_iload_n dX10_store_41 rfl rfl ?_
    obtain ⟨hb, hT⟩ := hT
    refine m_iast dX10_store_42 rfl hb hW hF ?_
    intro h hW hF
    refine x_aload_n dX10_store_43 rfl rfl rfl ?_
    refine m_geta dX10_store_44 f_TallySlateModel_228 (by decide) rfl hW ?_
    refine x_bipush (v := 14) dX10_store_47 rfl ?_
    refine x_aload_n dX10_store_49 rfl rfl rfl ?_
    refine m_geti (v := (s.1 130)) dX10_store_50 f_TallySlateModel_531 (by decide) rfl hW rfl ?_
    refine x_iconst (v := 1) dX10_store_53 rfl ?_
    refine x_isub dX10_store_54 ?_
    refine x_imul dX10_store_55 ?_
    refine x_iload_n dX10_store_56 rfl rfl ?_
    refine x_iadd dX10_store_57 ?_
    refine x_bipush (v := 8) dX10_store_58 rfl ?_
    refine x_isub dX10_store_60 ?_
    refine x_iload_n dX10_store_61 rfl rfl ?_
    obtain ⟨hb, hT⟩ := hT
    refine m_iast dX10_store_62 rfl hb hW hF ?_
    intro h hW hF
    exact x_vret dX10_store_63 rfl ⟨_, _, rfl, hW, hF, hT⟩
  · have hT := hT.2 c
    refine x_aload_n dX10_store_6 rfl rfl rfl ?_
    refine m_geta dX10_store_7 f_TallySlateModel_210 (by decide) rfl hW ?_
    refine x_iload_n dX10_store_10 rfl rfl ?_
    refine x_iload_n dX10_store_11 rfl rfl ?_
    obtain ⟨hb, hT⟩ := hT
    refine m_iast dX10_store_12 rfl hb hW hF ?_
    intro h hW hF
    refine x_aload_n dX10_store_13 rfl rfl rfl ?_
    refine m_geta dX10_store_14 f_TallySlateModel_213 (by decide) rfl hW ?_
    refine x_iload_n dX10_store_17 rfl rfl ?_
    refine x_iload_n dX10_store_18 rfl rfl ?_
    obtain ⟨hb, hT⟩ := hT
    refine m_iast dX10_store_19 rfl hb hW hF ?_
    intro h hW hF
    refine x_goto (tgt := 63) dX10_store_20 rfl ?_
    exact x_vret dX10_store_63 rfl ⟨_, _, rfl, hW, hF, hT⟩
theorem eX10_store {l : Launch} {E : EN} {w : MO} {d : Nat} {s : MS} {Q : Option Value → MS → Prop} {x1 : Int32} {x2 : Int32} {x3 : Int32} (hst : l.stackTraces = false) (hT : ((8 ≤ x1 → (inB (((14 * ((s.1 130) - 1)) + x1) - 8) 140 ∧ (inB (((14 * ((s.1 130) - 1)) + x1) - 8) 140 ∧ Q none (sA (sA s 134 (((14 * ((s.1 130) - 1)) + x1) - 8).toNatClampNeg x2) 135 (((14 * ((s.1 130) - 1)) + x1) - 8).toNatClampNeg x3)))) ∧ (¬ 8 ≤ x1 → (inB x1 8 ∧ (inB x1 8 ∧ Q none (sA (sA s 128 x1.toNatClampNeg x2) 129 x1.toNatClampNeg x3)))))) : EvM l E w d MX10_store [.ref w.1, .int x1, .int x2, .int x3] s Q :=
  EvM.of hst (by decide) (Nat.le_of_ble_eq_true rfl) (vX10_store_0 hT)
set_option maxHeartbeats 16000000 in
theorem vX10_putAt_0 {l : Launch} {E : EN} {w : MO} {d : Nat} {s : MS} {Q : Option Value → MS → Prop} {x1 : Int32} (hT : (inB x1 8000 ∧ (((s.2.2.1 82 x1.toNatClampNeg) = (-1) → (inB x1 8000 ∧ (∀ y1 : Int32, y1 = (s.2.2.1 81 x1.toNatClampNeg) → (∀ y2 : Int32, y2 = ((s.1 108) - 1) → (∀ y3 : Int32, y3 = ((s.1 108) - 2) → (EvM l E w d MX10_kindOf [.ref w.1, .int y1] (sI s 108 y3) (fun r s4 => ∃ v5 : Int32, r = some (.int v5) ∧ ((¬ v5 = 2 → (EvM l E w d MX10_valueOf [.ref w.1, .int y1] s4 (fun r s6 => ∃ v7 : Int32, r = some (.int v7) ∧ (EvM l E w d MX10_kindOf [.ref w.1, .int y1] s6 (fun r s8 => ∃ v9 : Int32, r = some (.int v9) ∧ ((¬ v9 = 0 → (inB v7 166300 ∧ (∀ y10 : Int32, y10 = (s8.2.2.1 104 v7.toNatClampNeg) → ((y10 ≤ 0 → ExM l E w (d + 1) MX10_putAt 128 [some (.ref w.1), some (.int x1), some (.int 0), some (.int y1), some (.int y2), some (.int y3), some (.int v7), some (.int y10), none, none, none, none, none, none, none] [.int 0] s8 Q) ∧ (¬ y10 ≤ 0 → (inB y3 9000 ∧ ((¬ (s8.2.2.1 106 y3.toNatClampNeg) = 0 → ExM l E w (d + 1) MX10_putAt 128 [some (.ref w.1), some (.int x1), some (.int 0), some (.int y1), some (.int y2), some (.int y3), some (.int v7), some (.int y10), none, none, none, none, none, none, none] [.int 0] s8 Q) ∧ ((s8.2.2.1 106 y3.toNatClampNeg) = 0 → ExM l E w (d + 1) MX10_putAt 128 [some (.ref w.1), some (.int x1), some (.int 0), some (.int y1), some (.int y2), some (.int y3), some (.int v7), some (.int y10), none, none, none, none, none, none, none] [.int 1] s8 Q)))))))) ∧ (v9 = 0 → ExM l E w (d + 1) MX10_putAt 128 [some (.ref w.1), some (.int x1), some (.int 0), some (.int y1), some (.int y2), some (.int y3), some (.int v7), some (.int 0), none, none, none, none, none, none, none] [.int 0] s8 Q))))))) ∧ (v5 = 2 → (inB x1 8000 ∧ (EvM l E w d MX10_trouble [.ref w.1, .int 7, .int (s4.2.2.1 83 x1.toNatClampNeg)] s4 (fun r s11 => r = none ∧ Q none s11)))))))))))) ∧ (¬ (s.2.2.1 82 x1.toNatClampNeg) = (-1) → (inB x1 8000 ∧ (∀ y12 : Int32, y12 = (s.2.2.1 81 x1.toNatClampNeg) → (∀ y13 : Int32, y13 = ((s.1 108) - 1) → (∀ y14 : Int32, y14 = ((s.1 108) - 3) → (EvM l E w d MX10_kindOf [.ref w.1, .int y12] (sI s 108 y14) (fun r s15 => ∃ v16 : Int32, r = some (.int v16) ∧ ((¬ v16 = 2 → (EvM l E w d MX10_valueOf [.ref w.1, .int y12] s15 (fun r s17 => ∃ v18 : Int32, r = some (.int v18) ∧ (EvM l E w d MX10_kindOf [.ref w.1, .int y12] s17 (fun r s19 => ∃ v20 : Int32, r = some (.int v20) ∧ ((¬ v20 = 0 → (inB v18 166300 ∧ (∀ y21 : Int32, y21 = (s19.2.2.1 104 v18.toNatClampNeg) → ((y21 ≤ 0 → ExM l E w (d + 1) MX10_putAt 128 [some (.ref w.1), some (.int x1), some (.int 1), some (.int y12), some (.int y13), some (.int y14), some (.int v18), some (.int y21), none, none, none, none, none, none, none] [.int 0] s19 Q) ∧ (¬ y21 ≤ 0 → (inB y14 9000 ∧ ((¬ (s19.2.2.1 106 y14.toNatClampNeg) = 0 → ExM l E w (d + 1) MX10_putAt 128 [some (.ref w.1), some (.int x1), some (.int 1), some (.int y12), some (.int y13), some (.int y14), some (.int v18), some (.int y21), none, none, none, none, none, none, none] [.int 0] s19 Q) ∧ ((s19.2.2.1 106 y14.toNatClampNeg) = 0 → ExM l E w (d + 1) MX10_putAt 128 [some (.ref w.1), some (.int x1), some (.int 1), some (.int y12), some (.int y13), some (.int y14), some (.int v18), some (.int y21), none, none, none, none, none, none, none] [.int 1] s19 Q)))))))) ∧ (v20 = 0 → ExM l E w (d + 1) MX10_putAt 128 [some (.ref w.1), some (.int x1), some (.int 1), some (.int y12), some (.int y13), some (.int y14), some (.int v18), some (.int 0), none, none, none, none, none, none, none] [.int 0] s19 Q))))))) ∧ (v16 = 2 → (inB x1 8000 ∧ (EvM l E w d MX10_trouble [.ref w.1, .int 7, .int (s15.2.2.1 83 x1.toNatClampNeg)] s15 (fun r s22 => r = none ∧ Q none s22))))))))))))))) : ExM l E w (d + 1) MX10_putAt 0 [some (.ref w.1), some (.int x1), none, none, none, none, none, none, none, none, none, none, none, none, none] [] s Q := by
  intro h0 h hW hF
  refine x_aload_n dX10_putAt_0 rfl rfl rfl ?_
  refine m_geta dX10_putAt_1 f_TallySlateModel_127 (by decide) rfl hW ?_
  refine x_iload_n dX10_putAt_4 rfl rfl ?_
  obtain ⟨hb, hT⟩ := hT
  refine m_iald (v := (s.2.2.1 82 x1.toNatClampNeg)) dX10_putAt_5 rfl hb hW rfl ?_
  refine x_iconst (v := (-1)) dX10_putAt_6 rfl ?_
  refine x_icmp_eq (tgt := 14) dX10_putAt_7 rfl (fun c => ?_) (fun c => ?_)
  · have hT := hT.1 c
    refine x_iconst (v := 0) dX10_putAt_14 rfl ?_
    refine x_istore_n (lo' := [some (.ref w.1), some (.int x1), some (.int 0), none, none, none, none, none, none, none, none, none, none, none, none]) dX10_putAt_15 rfl (Nat.le_of_ble_eq_true rfl) rfl ?_
    refine x_aload_n dX10_putAt_16 rfl rfl rfl ?_
    refine m_geta dX10_putAt_17 f_TallySlateModel_124 (by decide) rfl hW ?_
    refine x_iload_n dX10_putAt_20 rfl rfl ?_
    obtain ⟨hb, hT⟩ := hT
    refine m_iald (v := (s.2.2.1 81 x1.toNatClampNeg)) dX10_putAt_21 rfl hb hW rfl ?_
    obtain ⟨y1, ey1⟩ : ∃ z : Int32, z = (s.2.2.1 81 x1.toNatClampNeg) := ⟨_, rfl⟩
    have hT := hT y1 ey1
    refine x_istore_n (lo' := [some (.ref w.1), some (.int x1), some (.int 0), some (.int y1), none, none, none, none, none, none, none, none, none, none, none]) dX10_putAt_22 rfl (Nat.le_of_ble_eq_true rfl) (by rw [ey1]; rfl) ?_
    refine x_aload_n dX10_putAt_23 rfl rfl rfl ?_
    refine m_geti (v := (s.1 108)) dX10_putAt_24 f_TallySlateModel_461 (by decide) rfl hW rfl ?_
    refine x_iconst (v := 1) dX10_putAt_27 rfl ?_
    refine x_isub dX10_putAt_28 ?_
    obtain ⟨y2, ey2⟩ : ∃ z : Int32, z = ((s.1 108) - 1) := ⟨_, rfl⟩
    have hT := hT y2 ey2
    refine x_istore (lo' := [some (.ref w.1), some (.int x1), some (.int 0), some (.int y1), some (.int y2), none, none, none, none, none, none, none, none, none, none]) dX10_putAt_29 (Nat.le_of_ble_eq_true rfl) (by rw [ey2]; rfl) ?_
    refine x_iload_n dX10_putAt_31 rfl rfl ?_
    refine x_if_eq (tgt := 44) dX10_putAt_32 rfl (fun _ => ?_) (fun c => absurd c (by decide))
    refine x_aload_n dX10_putAt_44 rfl rfl rfl ?_
    refine m_geti (v := (s.1 108)) dX10_putAt_45 f_TallySlateModel_461 (by decide) rfl hW rfl ?_
    refine x_iconst (v := 2) dX10_putAt_48 rfl ?_
    refine x_isub dX10_putAt_49 ?_
    obtain ⟨y3, ey3⟩ : ∃ z : Int32, z = ((s.1 108) - 2) := ⟨_, rfl⟩
    have hT := hT y3 ey3
    refine x_istore (lo' := [some (.ref w.1), some (.int x1), some (.int 0), some (.int y1), some (.int y2), some (.int y3), none, none, none, none, none, none, none, none, none]) dX10_putAt_50 (Nat.le_of_ble_eq_true rfl) (by rw [ey3]; rfl) ?_
    refine x_aload_n dX10_putAt_52 rfl rfl rfl ?_
    refine x_iload dX10_putAt_53 rfl ?_
    refine m_puti dX10_putAt_55 f_TallySlateModel_461 (by decide) rfl rfl rfl rfl hW hF ?_
    intro h hW hF
    refine x_aload_n dX10_putAt_58 rfl rfl rfl ?_
    refine x_iload_n dX10_putAt_59 rfl rfl ?_
    refine m_inv (vs := [.int y1]) dX10_putAt_60 oX10_kindOf q2712 q2710 qs102 rfl rfl (Nat.le_of_ble_eq_true rfl) rfl hW hF hT ?_
    rintro _ s4 ⟨v5, rfl, hT⟩ h hW hF
    refine x_iconst (v := 2) dX10_putAt_63 rfl ?_
    refine x_icmp_ne (tgt := 80) dX10_putAt_64 rfl (fun c => ?_) (fun c => ?_)
    · have hT := hT.1 c
      refine x_aload_n dX10_putAt_80 rfl rfl rfl ?_
      refine x_iload_n dX10_putAt_81 rfl rfl ?_
      refine m_inv (vs := [.int y1]) dX10_putAt_82 oX10_valueOf q2716 q2714 qs103 rfl rfl (Nat.le_of_ble_eq_true rfl) rfl hW hF hT ?_
      rintro _ s6 ⟨v7, rfl, hT⟩ h hW hF
      refine x_istore (lo' := [some (.ref w.1), some (.int x1), some (.int 0), some (.int y1), some (.int y2), some (.int y3), some (.int v7), none, none, none, none, none, none, none, none]) dX10_putAt_85 (Nat.le_of_ble_eq_true rfl) rfl ?_
      refine x_aload_n dX10_putAt_87 rfl rfl rfl ?_
      refine x_iload_n dX10_putAt_88 rfl rfl ?_
      refine m_inv (vs := [.int y1]) dX10_putAt_89 oX10_kindOf q2712 q2710 qs102 rfl rfl (Nat.le_of_ble_eq_true rfl) rfl hW hF hT ?_
      rintro _ s8 ⟨v9, rfl, hT⟩ h hW hF
      refine x_if_ne (tgt := 99) dX10_putAt_92 rfl (fun c => ?_) (fun c => ?_)
      · have hT := hT.1 c
        refine x_aload_n dX10_putAt_99 rfl rfl rfl ?_
        refine m_geta dX10_putAt_100 f_TallySlateModel_183 (by decide) rfl hW ?_
        refine x_iload dX10_putAt_103 rfl ?_
        obtain ⟨hb, hT⟩ := hT
        refine m_iald (v := (s8.2.2.1 104 v7.toNatClampNeg)) dX10_putAt_105 rfl hb hW rfl ?_
        obtain ⟨y10, ey10⟩ : ∃ z : Int32, z = (s8.2.2.1 104 v7.toNatClampNeg) := ⟨_, rfl⟩
        have hT := hT y10 ey10
        refine x_istore (lo' := [some (.ref w.1), some (.int x1), some (.int 0), some (.int y1), some (.int y2), some (.int y3), some (.int v7), some (.int y10), none, none, none, none, none, none, none]) dX10_putAt_106 (Nat.le_of_ble_eq_true rfl) (by rw [ey10]; rfl) ?_
        refine x_iload dX10_putAt_108 rfl ?_
        refine x_if_le (tgt := 127) dX10_putAt_110 rfl (fun c => ?_) (fun c => ?_)
        · have hT := hT.1 c
          refine x_iconst (v := 0) dX10_putAt_127 rfl ?_
          exact hT h0 h hW hF
        · have hT := hT.2 c
          refine x_aload_n dX10_putAt_113 rfl rfl rfl ?_
          refine m_geta dX10_putAt_114 f_TallySlateModel_186 (by decide) rfl hW ?_
          refine x_iload dX10_putAt_117 rfl ?_
          obtain ⟨hb, hT⟩ := hT
          refine m_iald (v := (s8.2.2.1 106 y3.toNatClampNeg)) dX10_putAt_119 rfl hb hW rfl ?_
          refine x_if_ne (tgt := 127) dX10_putAt_120 rfl (fun c => ?_) (fun c => ?_)
          · have hT := hT.1 c
            refine x_iconst (v := 0) dX10_putAt_127 rfl ?_
            exact hT h0 h hW hF
          · have hT := hT.2 c
            refine x_iconst (v := 1) dX10_putAt_123 rfl ?_
            refine x_goto (tgt := 128) dX10_putAt_124 rfl ?_
            exact hT h0 h hW hF
      · have hT := hT.2 c
        refine x_iconst (v := 0) dX10_putAt_95 rfl ?_
        refine x_goto (tgt := 106) dX10_putAt_96 rfl ?_
        refine x_istore (lo' := [some (.ref w.1), some (.int x1), some (.int 0), some (.int y1), some (.int y2), some (.int y3), some (.int v7), some (.int 0), none, none, none, none, none, none, none]) dX10_putAt_106 (Nat.le_of_ble_eq_true rfl) rfl ?_
        refine x_iload dX10_putAt_108 rfl ?_
        refine x_if_le (tgt := 127) dX10_putAt_110 rfl (fun _ => ?_) (fun c => absurd c (by decide))
        refine x_iconst (v := 0) dX10_putAt_127 rfl ?_
        exact hT h0 h hW hF
    · have hT := hT.2 c
      refine x_aload_n dX10_putAt_67 rfl rfl rfl ?_
      refine x_bipush (v := 7) dX10_putAt_68 rfl ?_
      refine x_aload_n dX10_putAt_70 rfl rfl rfl ?_
      refine m_geta dX10_putAt_71 f_TallySlateModel_130 (by decide) rfl hW ?_
      refine x_iload_n dX10_putAt_74 rfl rfl ?_
      obtain ⟨hb, hT⟩ := hT
      refine m_iald (v := (s4.2.2.1 83 x1.toNatClampNeg)) dX10_putAt_75 rfl hb hW rfl ?_
      refine m_inv (vs := [.int 7, .int (s4.2.2.1 83 x1.toNatClampNeg)]) dX10_putAt_76 oX10_trouble q2696 q2694 qs98 rfl rfl (Nat.le_of_ble_eq_true rfl) rfl hW hF hT ?_
      rintro _ s11 ⟨rfl, hT⟩ h hW hF
      exact x_vret dX10_putAt_79 rfl ⟨_, _, rfl, hW, hF, hT⟩
  · have hT := hT.2 c
    refine x_iconst (v := 1) dX10_putAt_10 rfl ?_
    refine x_goto (tgt := 15) dX10_putAt_11 rfl ?_
    refine x_istore_n (lo' := [some (.ref w.1), some (.int x1), some (.int 1), none, none, none, none, none, none, none, none, none, none, none, none]) dX10_putAt_15 rfl (Nat.le_of_ble_eq_true rfl) rfl ?_
    refine x_aload_n dX10_putAt_16 rfl rfl rfl ?_
    refine m_geta dX10_putAt_17 f_TallySlateModel_124 (by decide) rfl hW ?_
    refine x_iload_n dX10_putAt_20 rfl rfl ?_
    obtain ⟨hb, hT⟩ := hT
    refine m_iald (v := (s.2.2.1 81 x1.toNatClampNeg)) dX10_putAt_21 rfl hb hW rfl ?_
    obtain ⟨y12, ey12⟩ : ∃ z : Int32, z = (s.2.2.1 81 x1.toNatClampNeg) := ⟨_, rfl⟩
    have hT := hT y12 ey12
    refine x_istore_n (lo' := [some (.ref w.1), some (.int x1), some (.int 1), some (.int y12), none, none, none, none, none, none, none, none, none, none, none]) dX10_putAt_22 rfl (Nat.le_of_ble_eq_true rfl) (by rw [ey12]; rfl) ?_
    refine x_aload_n dX10_putAt_23 rfl rfl rfl ?_
    refine m_geti (v := (s.1 108)) dX10_putAt_24 f_TallySlateModel_461 (by decide) rfl hW rfl ?_
    refine x_iconst (v := 1) dX10_putAt_27 rfl ?_
    refine x_isub dX10_putAt_28 ?_
    obtain ⟨y13, ey13⟩ : ∃ z : Int32, z = ((s.1 108) - 1) := ⟨_, rfl⟩
    have hT := hT y13 ey13
    refine x_istore (lo' := [some (.ref w.1), some (.int x1), some (.int 1), some (.int y12), some (.int y13), none, none, none, none, none, none, none, none, none, none]) dX10_putAt_29 (Nat.le_of_ble_eq_true rfl) (by rw [ey13]; rfl) ?_
    refine x_iload_n dX10_putAt_31 rfl rfl ?_
    refine x_if_eq (tgt := 44) dX10_putAt_32 rfl (fun c => absurd c (by decide)) (fun _ => ?_)
    refine x_aload_n dX10_putAt_35 rfl rfl rfl ?_
    refine m_geti (v := (s.1 108)) dX10_putAt_36 f_TallySlateModel_461 (by decide) rfl hW rfl ?_
    refine x_iconst (v := 3) dX10_putAt_39 rfl ?_
    refine x_isub dX10_putAt_40 ?_
    refine x_goto (tgt := 50) dX10_putAt_41 rfl ?_
    obtain ⟨y14, ey14⟩ : ∃ z : Int32, z = ((s.1 108) - 3) := ⟨_, rfl⟩
    have hT := hT y14 ey14
    refine x_istore (lo' := [some (.ref w.1), some (.int x1), some (.int 1), some (.int y12), some (.int y13), some (.int y14), none, none, none, none, none, none, none, none, none]) dX10_putAt_50 (Nat.le_of_ble_eq_true rfl) (by rw [ey14]; rfl) ?_
    refine x_aload_n dX10_putAt_52 rfl rfl rfl ?_
    refine x_iload dX10_putAt_53 rfl ?_
    refine m_puti dX10_putAt_55 f_TallySlateModel_461 (by decide) rfl rfl rfl rfl hW hF ?_
    intro h hW hF
    refine x_aload_n dX10_putAt_58 rfl rfl rfl ?_
    refine x_iload_n dX10_putAt_59 rfl rfl ?_
    refine m_inv (vs := [.int y12]) dX10_putAt_60 oX10_kindOf q2712 q2710 qs102 rfl rfl (Nat.le_of_ble_eq_true rfl) rfl hW hF hT ?_
    rintro _ s15 ⟨v16, rfl, hT⟩ h hW hF
    refine x_iconst (v := 2) dX10_putAt_63 rfl ?_
    refine x_icmp_ne (tgt := 80) dX10_putAt_64 rfl (fun c => ?_) (fun c => ?_)
    · have hT := hT.1 c
      refine x_aload_n dX10_putAt_80 rfl rfl rfl ?_
      refine x_iload_n dX10_putAt_81 rfl rfl ?_
      refine m_inv (vs := [.int y12]) dX10_putAt_82 oX10_valueOf q2716 q2714 qs103 rfl rfl (Nat.le_of_ble_eq_true rfl) rfl hW hF hT ?_
      rintro _ s17 ⟨v18, rfl, hT⟩ h hW hF
      refine x_istore (lo' := [some (.ref w.1), some (.int x1), some (.int 1), some (.int y12), some (.int y13), some (.int y14), some (.int v18), none, none, none, none, none, none, none, none]) dX10_putAt_85 (Nat.le_of_ble_eq_true rfl) rfl ?_
      refine x_aload_n dX10_putAt_87 rfl rfl rfl ?_
      refine x_iload_n dX10_putAt_88 rfl rfl ?_
      refine m_inv (vs := [.int y12]) dX10_putAt_89 oX10_kindOf q2712 q2710 qs102 rfl rfl (Nat.le_of_ble_eq_true rfl) rfl hW hF hT ?_
      rintro _ s19 ⟨v20, rfl, hT⟩ h hW hF
      refine x_if_ne (tgt := 99) dX10_putAt_92 rfl (fun c => ?_) (fun c => ?_)
      · have hT := hT.1 c
        refine x_aload_n dX10_putAt_99 rfl rfl rfl ?_
        refine m_geta dX10_putAt_100 f_TallySlateModel_183 (by decide) rfl hW ?_
        refine x_iload dX10_putAt_103 rfl ?_
        obtain ⟨hb, hT⟩ := hT
        refine m_iald (v := (s19.2.2.1 104 v18.toNatClampNeg)) dX10_putAt_105 rfl hb hW rfl ?_
        obtain ⟨y21, ey21⟩ : ∃ z : Int32, z = (s19.2.2.1 104 v18.toNatClampNeg) := ⟨_, rfl⟩
        have hT := hT y21 ey21
        refine x_istore (lo' := [some (.ref w.1), some (.int x1), some (.int 1), some (.int y12), some (.int y13), some (.int y14), some (.int v18), some (.int y21), none, none, none, none, none, none, none]) dX10_putAt_106 (Nat.le_of_ble_eq_true rfl) (by rw [ey21]; rfl) ?_
        refine x_iload dX10_putAt_108 rfl ?_
        refine x_if_le (tgt := 127) dX10_putAt_110 rfl (fun c => ?_) (fun c => ?_)
        · have hT := hT.1 c
          refine x_iconst (v := 0) dX10_putAt_127 rfl ?_
          exact hT h0 h hW hF
        · have hT := hT.2 c
          refine x_aload_n dX10_putAt_113 rfl rfl rfl ?_
          refine m_geta dX10_putAt_114 f_TallySlateModel_186 (by decide) rfl hW ?_
          refine x_iload dX10_putAt_117 rfl ?_
          obtain ⟨hb, hT⟩ := hT
          refine m_iald (v := (s19.2.2.1 106 y14.toNatClampNeg)) dX10_putAt_119 rfl hb hW rfl ?_
          refine x_if_ne (tgt := 127) dX10_putAt_120 rfl (fun c => ?_) (fun c => ?_)
          · have hT := hT.1 c
            refine x_iconst (v := 0) dX10_putAt_127 rfl ?_
            exact hT h0 h hW hF
          · have hT := hT.2 c
            refine x_iconst (v := 1) dX10_putAt_123 rfl ?_
            refine x_goto (tgt := 128) dX10_putAt_124 rfl ?_
            exact hT h0 h hW hF
      · have hT := hT.2 c
        refine x_iconst (v := 0) dX10_putAt_95 rfl ?_
        refine x_goto (tgt := 106) dX10_putAt_96 rfl ?_
        refine x_istore (lo' := [some (.ref w.1), some (.int x1), some (.int 1), some (.int y12), some (.int y13), some (.int y14), some (.int v18), some (.int 0), none, none, none, none, none, none, none]) dX10_putAt_106 (Nat.le_of_ble_eq_true rfl) rfl ?_
        refine x_iload dX10_putAt_108 rfl ?_
        refine x_if_le (tgt := 127) dX10_putAt_110 rfl (fun _ => ?_) (fun c => absurd c (by decide))
        refine x_iconst (v := 0) dX10_putAt_127 rfl ?_
        exact hT h0 h hW hF
    · have hT := hT.2 c
      refine x_aload_n dX10_putAt_67 rfl rfl rfl ?_
      refine x_bipush (v := 7) dX10_putAt_68 rfl ?_
      refine x_aload_n dX10_putAt_70 rfl rfl rfl ?_
      refine m_geta dX10_putAt_71 f_TallySlateModel_130 (by decide) rfl hW ?_
      refine x_iload_n dX10_putAt_74 rfl rfl ?_
      obtain ⟨hb, hT⟩ := hT
      refine m_iald (v := (s15.2.2.1 83 x1.toNatClampNeg)) dX10_putAt_75 rfl hb hW rfl ?_
      refine m_inv (vs := [.int 7, .int (s15.2.2.1 83 x1.toNatClampNeg)]) dX10_putAt_76 oX10_trouble q2696 q2694 qs98 rfl rfl (Nat.le_of_ble_eq_true rfl) rfl hW hF hT ?_
      rintro _ s22 ⟨rfl, hT⟩ h hW hF
      exact x_vret dX10_putAt_79 rfl ⟨_, _, rfl, hW, hF, hT⟩
theorem eX10_putAt {l : Launch} {E : EN} {w : MO} {d : Nat} {s : MS} {Q : Option Value → MS → Prop} {x1 : Int32} (hst : l.stackTraces = false) (hT : (inB x1 8000 ∧ (((s.2.2.1 82 x1.toNatClampNeg) = (-1) → (inB x1 8000 ∧ (∀ y1 : Int32, y1 = (s.2.2.1 81 x1.toNatClampNeg) → (∀ y2 : Int32, y2 = ((s.1 108) - 1) → (∀ y3 : Int32, y3 = ((s.1 108) - 2) → (EvM l E w d MX10_kindOf [.ref w.1, .int y1] (sI s 108 y3) (fun r s4 => ∃ v5 : Int32, r = some (.int v5) ∧ ((¬ v5 = 2 → (EvM l E w d MX10_valueOf [.ref w.1, .int y1] s4 (fun r s6 => ∃ v7 : Int32, r = some (.int v7) ∧ (EvM l E w d MX10_kindOf [.ref w.1, .int y1] s6 (fun r s8 => ∃ v9 : Int32, r = some (.int v9) ∧ ((¬ v9 = 0 → (inB v7 166300 ∧ (∀ y10 : Int32, y10 = (s8.2.2.1 104 v7.toNatClampNeg) → ((y10 ≤ 0 → ExM l E w (d + 1) MX10_putAt 128 [some (.ref w.1), some (.int x1), some (.int 0), some (.int y1), some (.int y2), some (.int y3), some (.int v7), some (.int y10), none, none, none, none, none, none, none] [.int 0] s8 Q) ∧ (¬ y10 ≤ 0 → (inB y3 9000 ∧ ((¬ (s8.2.2.1 106 y3.toNatClampNeg) = 0 → ExM l E w (d + 1) MX10_putAt 128 [some (.ref w.1), some (.int x1), some (.int 0), some (.int y1), some (.int y2), some (.int y3), some (.int v7), some (.int y10), none, none, none, none, none, none, none] [.int 0] s8 Q) ∧ ((s8.2.2.1 106 y3.toNatClampNeg) = 0 → ExM l E w (d + 1) MX10_putAt 128 [some (.ref w.1), some (.int x1), some (.int 0), some (.int y1), some (.int y2), some (.int y3), some (.int v7), some (.int y10), none, none, none, none, none, none, none] [.int 1] s8 Q)))))))) ∧ (v9 = 0 → ExM l E w (d + 1) MX10_putAt 128 [some (.ref w.1), some (.int x1), some (.int 0), some (.int y1), some (.int y2), some (.int y3), some (.int v7), some (.int 0), none, none, none, none, none, none, none] [.int 0] s8 Q))))))) ∧ (v5 = 2 → (inB x1 8000 ∧ (EvM l E w d MX10_trouble [.ref w.1, .int 7, .int (s4.2.2.1 83 x1.toNatClampNeg)] s4 (fun r s11 => r = none ∧ Q none s11)))))))))))) ∧ (¬ (s.2.2.1 82 x1.toNatClampNeg) = (-1) → (inB x1 8000 ∧ (∀ y12 : Int32, y12 = (s.2.2.1 81 x1.toNatClampNeg) → (∀ y13 : Int32, y13 = ((s.1 108) - 1) → (∀ y14 : Int32, y14 = ((s.1 108) - 3) → (EvM l E w d MX10_kindOf [.ref w.1, .int y12] (sI s 108 y14) (fun r s15 => ∃ v16 : Int32, r = some (.int v16) ∧ ((¬ v16 = 2 → (EvM l E w d MX10_valueOf [.ref w.1, .int y12] s15 (fun r s17 => ∃ v18 : Int32, r = some (.int v18) ∧ (EvM l E w d MX10_kindOf [.ref w.1, .int y12] s17 (fun r s19 => ∃ v20 : Int32, r = some (.int v20) ∧ ((¬ v20 = 0 → (inB v18 166300 ∧ (∀ y21 : Int32, y21 = (s19.2.2.1 104 v18.toNatClampNeg) → ((y21 ≤ 0 → ExM l E w (d + 1) MX10_putAt 128 [some (.ref w.1), some (.int x1), some (.int 1), some (.int y12), some (.int y13), some (.int y14), some (.int v18), some (.int y21), none, none, none, none, none, none, none] [.int 0] s19 Q) ∧ (¬ y21 ≤ 0 → (inB y14 9000 ∧ ((¬ (s19.2.2.1 106 y14.toNatClampNeg) = 0 → ExM l E w (d + 1) MX10_putAt 128 [some (.ref w.1), some (.int x1), some (.int 1), some (.int y12), some (.int y13), some (.int y14), some (.int v18), some (.int y21), none, none, none, none, none, none, none] [.int 0] s19 Q) ∧ ((s19.2.2.1 106 y14.toNatClampNeg) = 0 → ExM l E w (d + 1) MX10_putAt 128 [some (.ref w.1), some (.int x1), some (.int 1), some (.int y12), some (.int y13), some (.int y14), some (.int v18), some (.int y21), none, none, none, none, none, none, none] [.int 1] s19 Q)))))))) ∧ (v20 = 0 → ExM l E w (d + 1) MX10_putAt 128 [some (.ref w.1), some (.int x1), some (.int 1), some (.int y12), some (.int y13), some (.int y14), some (.int v18), some (.int 0), none, none, none, none, none, none, none] [.int 0] s19 Q))))))) ∧ (v16 = 2 → (inB x1 8000 ∧ (EvM l E w d MX10_trouble [.ref w.1, .int 7, .int (s15.2.2.1 83 x1.toNatClampNeg)] s15 (fun r s22 => r = none ∧ Q none s22))))))))))))))) : EvM l E w (d + 1) MX10_putAt [.ref w.1, .int x1] s Q :=
  EvM.of hst (by decide) (Nat.le_of_ble_eq_true rfl) (vX10_putAt_0 hT)
set_option maxHeartbeats 16000000 in
theorem vX10_putAt_128 {l : Launch} {E : EN} {w : MO} {d : Nat} {s : MS} {Q : Option Value → MS → Prop} {a1 : Int32} {a2 : Int32} {a3 : Int32} {a4 : Int32} {a5 : Int32} {a6 : Int32} {a7 : Int32} {b0 : Int32} (hT : ((a2 = 0 → ((¬ a7 = 1 → ((¬ a7 = 2 → ExM l E w (d + 1) MX10_putAt 236 [some (.ref w.1), some (.int a1), some (.int a2), some (.int a3), some (.int a4), some (.int a5), some (.int a6), some (.int a7), some (.int b0), none, none, none, none, none, none] [] s Q) ∧ (a7 = 2 → ((b0 = 0 → ExM l E w (d + 1) MX10_putAt 236 [some (.ref w.1), some (.int a1), some (.int a2), some (.int a3), some (.int a4), some (.int a5), some (.int a6), some (.int a7), some (.int 0), none, none, none, none, none, none] [] s Q) ∧ (¬ b0 = 0 → (EvM l E w d MX10_kindAt [.ref w.1, .int a4] s (fun r s1 => ∃ v2 : Int32, r = some (.int v2) ∧ ((¬ v2 = 1 → ExM l E w (d + 1) MX10_putAt 236 [some (.ref w.1), some (.int a1), some (.int a2), some (.int a3), some (.int a4), some (.int a5), some (.int a6), some (.int a7), some (.int 0), none, none, none, none, none, none] [] s1 Q) ∧ (v2 = 1 → ExM l E w (d + 1) MX10_putAt 236 [some (.ref w.1), some (.int a1), some (.int a2), some (.int a3), some (.int a4), some (.int a5), some (.int a6), some (.int a7), some (.int 1), none, none, none, none, none, none] [] s1 Q))))))))) ∧ (a7 = 1 → ((b0 = 0 → ExM l E w (d + 1) MX10_putAt 236 [some (.ref w.1), some (.int a1), some (.int a2), some (.int a3), some (.int a4), some (.int a5), some (.int a6), some (.int a7), some (.int 0), none, none, none, none, none, none] [] s Q) ∧ (¬ b0 = 0 → (inB a4 9000 ∧ ((¬ (s.2.2.1 106 a4.toNatClampNeg) = 0 → ExM l E w (d + 1) MX10_putAt 236 [some (.ref w.1), some (.int a1), some (.int a2), some (.int a3), some (.int a4), some (.int a5), some (.int a6), some (.int a7), some (.int 0), none, none, none, none, none, none] [] s Q) ∧ ((s.2.2.1 106 a4.toNatClampNeg) = 0 → ExM l E w (d + 1) MX10_putAt 236 [some (.ref w.1), some (.int a1), some (.int a2), some (.int a3), some (.int a4), some (.int a5), some (.int a6), some (.int a7), some (.int 1), none, none, none, none, none, none] [] s Q)))))))) ∧ (¬ a2 = 0 → ((b0 = 0 → ExM l E w (d + 1) MX10_putAt 236 [some (.ref w.1), some (.int a1), some (.int a2), some (.int a3), some (.int a4), some (.int a5), some (.int a6), some (.int a7), some (.int 0), none, none, none, none, none, none] [] s Q) ∧ (¬ b0 = 0 → ((¬ a7 = 2 → ExM l E w (d + 1) MX10_putAt 236 [some (.ref w.1), some (.int a1), some (.int a2), some (.int a3), some (.int a4), some (.int a5), some (.int a6), some (.int a7), some (.int 0), none, none, none, none, none, none] [] s Q) ∧ (a7 = 2 → (inB (a5 + 1) 9000 ∧ ((¬ (s.2.2.1 106 (a5 + 1).toNatClampNeg) = 0 → ExM l E w (d + 1) MX10_putAt 236 [some (.ref w.1), some (.int a1), some (.int a2), some (.int a3), some (.int a4), some (.int a5), some (.int a6), some (.int a7), some (.int 0), none, none, none, none, none, none] [] s Q) ∧ ((s.2.2.1 106 (a5 + 1).toNatClampNeg) = 0 → (inB a4 9000 ∧ ((¬ (s.2.2.1 106 a4.toNatClampNeg) = 0 → ExM l E w (d + 1) MX10_putAt 236 [some (.ref w.1), some (.int a1), some (.int a2), some (.int a3), some (.int a4), some (.int a5), some (.int a6), some (.int a7), some (.int 0), none, none, none, none, none, none] [] s Q) ∧ ((s.2.2.1 106 a4.toNatClampNeg) = 0 → ExM l E w (d + 1) MX10_putAt 236 [some (.ref w.1), some (.int a1), some (.int a2), some (.int a3), some (.int a4), some (.int a5), some (.int a6), some (.int a7), some (.int 1), none, none, none, none, none, none] [] s Q))))))))))))) : ExM l E w (d + 1) MX10_putAt 128 [some (.ref w.1), some (.int a1), some (.int a2), some (.int a3), some (.int a4), some (.int a5), some (.int a6), some (.int a7), none, none, none, none, none, none, none] [.int b0] s Q := by
  intro h0 h hW hF
  refine x_istore (lo' := [some (.ref w.1), some (.int a1), some (.int a2), some (.int a3), some (.int a4), some (.int a5), some (.int a6), some (.int a7), some (.int b0), none, none, none, none, none, none]) dX10_putAt_128 (Nat.le_of_ble_eq_true rfl) rfl ?_
  refine x_iload_n dX10_putAt_130 rfl rfl ?_
  refine x_if_eq (tgt := 177) dX10_putAt_131 rfl (fun c => ?_) (fun c => ?_)
  · have hT := hT.1 c
    refine x_iload dX10_putAt_177 rfl ?_
    refine x_iconst (v := 1) dX10_putAt_179 rfl ?_
    refine x_icmp_ne (tgt := 208) dX10_putAt_180 rfl (fun c => ?_) (fun c => ?_)
    · have hT := hT.1 c
      refine x_iload dX10_putAt_208 rfl ?_
      refine x_iconst (v := 2) dX10_putAt_210 rfl ?_
      refine x_icmp_ne (tgt := 236) dX10_putAt_211 rfl (fun c => ?_) (fun c => ?_)
      · have hT := hT.1 c
        exact hT h0 h hW hF
      · have hT := hT.2 c
        refine x_iload dX10_putAt_214 rfl ?_
        refine x_if_eq (tgt := 233) dX10_putAt_216 rfl (fun c => ?_) (fun c => ?_)
        · have hT := hT.1 c
          refine x_iconst (v := 0) dX10_putAt_233 rfl ?_
          refine x_istore (lo' := [some (.ref w.1), some (.int a1), some (.int a2), some (.int a3), some (.int a4), some (.int a5), some (.int a6), some (.int a7), some (.int 0), none, none, none, none, none, none]) dX10_putAt_234 (Nat.le_of_ble_eq_true rfl) rfl ?_
          exact hT h0 h hW hF
        · have hT := hT.2 c
          refine x_aload_n dX10_putAt_219 rfl rfl rfl ?_
          refine x_iload dX10_putAt_220 rfl ?_
          refine m_inv (vs := [.int a4]) dX10_putAt_222 oX10_kindAt q2728 q2726 qs106 rfl rfl (Nat.le_of_ble_eq_true rfl) rfl hW hF hT ?_
          rintro _ s1 ⟨v2, rfl, hT⟩ h hW hF
          refine x_iconst (v := 1) dX10_putAt_225 rfl ?_
          refine x_icmp_ne (tgt := 233) dX10_putAt_226 rfl (fun c => ?_) (fun c => ?_)
          · have hT := hT.1 c
            refine x_iconst (v := 0) dX10_putAt_233 rfl ?_
            refine x_istore (lo' := [some (.ref w.1), some (.int a1), some (.int a2), some (.int a3), some (.int a4), some (.int a5), some (.int a6), some (.int a7), some (.int 0), none, none, none, none, none, none]) dX10_putAt_234 (Nat.le_of_ble_eq_true rfl) rfl ?_
            exact hT h0 h hW hF
          · have hT := hT.2 c
            refine x_iconst (v := 1) dX10_putAt_229 rfl ?_
            refine x_goto (tgt := 234) dX10_putAt_230 rfl ?_
            refine x_istore (lo' := [some (.ref w.1), some (.int a1), some (.int a2), some (.int a3), some (.int a4), some (.int a5), some (.int a6), some (.int a7), some (.int 1), none, none, none, none, none, none]) dX10_putAt_234 (Nat.le_of_ble_eq_true rfl) rfl ?_
            exact hT h0 h hW hF
    · have hT := hT.2 c
      refine x_iload dX10_putAt_183 rfl ?_
      refine x_if_eq (tgt := 202) dX10_putAt_185 rfl (fun c => ?_) (fun c => ?_)
      · have hT := hT.1 c
        refine x_iconst (v := 0) dX10_putAt_202 rfl ?_
        refine x_istore (lo' := [some (.ref w.1), some (.int a1), some (.int a2), some (.int a3), some (.int a4), some (.int a5), some (.int a6), some (.int a7), some (.int 0), none, none, none, none, none, none]) dX10_putAt_203 (Nat.le_of_ble_eq_true rfl) rfl ?_
        refine x_goto (tgt := 236) dX10_putAt_205 rfl ?_
        exact hT h0 h hW hF
      · have hT := hT.2 c
        refine x_aload_n dX10_putAt_188 rfl rfl rfl ?_
        refine m_geta dX10_putAt_189 f_TallySlateModel_186 (by decide) rfl hW ?_
        refine x_iload dX10_putAt_192 rfl ?_
        obtain ⟨hb, hT⟩ := hT
        refine m_iald (v := (s.2.2.1 106 a4.toNatClampNeg)) dX10_putAt_194 rfl hb hW rfl ?_
        refine x_if_ne (tgt := 202) dX10_putAt_195 rfl (fun c => ?_) (fun c => ?_)
        · have hT := hT.1 c
          refine x_iconst (v := 0) dX10_putAt_202 rfl ?_
          refine x_istore (lo' := [some (.ref w.1), some (.int a1), some (.int a2), some (.int a3), some (.int a4), some (.int a5), some (.int a6), some (.int a7), some (.int 0), none, none, none, none, none, none]) dX10_putAt_203 (Nat.le_of_ble_eq_true rfl) rfl ?_
          refine x_goto (tgt := 236) dX10_putAt_205 rfl ?_
          exact hT h0 h hW hF
        · have hT := hT.2 c
          refine x_iconst (v := 1) dX10_putAt_198 rfl ?_
          refine x_goto (tgt := 203) dX10_putAt_199 rfl ?_
          refine x_istore (lo' := [some (.ref w.1), some (.int a1), some (.int a2), some (.int a3), some (.int a4), some (.int a5), some (.int a6), some (.int a7), some (.int 1), none, none, none, none, none, none]) dX10_putAt_203 (Nat.le_of_ble_eq_true rfl) rfl ?_
          refine x_goto (tgt := 236) dX10_putAt_205 rfl ?_
          exact hT h0 h hW hF
  · have hT := hT.2 c
    refine x_iload dX10_putAt_134 rfl ?_
    refine x_if_eq (tgt := 171) dX10_putAt_136 rfl (fun c => ?_) (fun c => ?_)
    · have hT := hT.1 c
      refine x_iconst (v := 0) dX10_putAt_171 rfl ?_
      refine x_istore (lo' := [some (.ref w.1), some (.int a1), some (.int a2), some (.int a3), some (.int a4), some (.int a5), some (.int a6), some (.int a7), some (.int 0), none, none, none, none, none, none]) dX10_putAt_172 (Nat.le_of_ble_eq_true rfl) rfl ?_
      refine x_goto (tgt := 236) dX10_putAt_174 rfl ?_
      exact hT h0 h hW hF
    · have hT := hT.2 c
      refine x_iload dX10_putAt_139 rfl ?_
      refine x_iconst (v := 2) dX10_putAt_141 rfl ?_
      refine x_icmp_ne (tgt := 171) dX10_putAt_142 rfl (fun c => ?_) (fun c => ?_)
      · have hT := hT.1 c
        refine x_iconst (v := 0) dX10_putAt_171 rfl ?_
        refine x_istore (lo' := [some (.ref w.1), some (.int a1), some (.int a2), some (.int a3), some (.int a4), some (.int a5), some (.int a6), some (.int a7), some (.int 0), none, none, none, none, none, none]) dX10_putAt_172 (Nat.le_of_ble_eq_true rfl) rfl ?_
        refine x_goto (tgt := 236) dX10_putAt_174 rfl ?_
        exact hT h0 h hW hF
      · have hT := hT.2 c
        refine x_aload_n dX10_putAt_145 rfl rfl rfl ?_
        refine m_geta dX10_putAt_146 f_TallySlateModel_186 (by decide) rfl hW ?_
        refine x_iload dX10_putAt_149 rfl ?_
        refine x_iconst (v := 1) dX10_putAt_151 rfl ?_
        refine x_iadd dX10_putAt_152 ?_
        obtain ⟨hb, hT⟩ := hT
        refine m_iald (v := (s.2.2.1 106 (a5 + 1).toNatClampNeg)) dX10_putAt_153 rfl hb hW rfl ?_
        refine x_if_ne (tgt := 171) dX10_putAt_154 rfl (fun c => ?_) (fun c => ?_)
        · have hT := hT.1 c
          refine x_iconst (v := 0) dX10_putAt_171 rfl ?_
          refine x_istore (lo' := [some (.ref w.1), some (.int a1), some (.int a2), some (.int a3), some (.int a4), some (.int a5), some (.int a6), some (.int a7), some (.int 0), none, none, none, none, none, none]) dX10_putAt_172 (Nat.le_of_ble_eq_true rfl) rfl ?_
          refine x_goto (tgt := 236) dX10_putAt_174 rfl ?_
          exact hT h0 h hW hF
        · have hT := hT.2 c
          refine x_aload_n dX10_putAt_157 rfl rfl rfl ?_
          refine m_geta dX10_putAt_158 f_TallySlateModel_186 (by decide) rfl hW ?_
          refine x_iload dX10_putAt_161 rfl ?_
          obtain ⟨hb, hT⟩ := hT
          refine m_iald (v := (s.2.2.1 106 a4.toNatClampNeg)) dX10_putAt_163 rfl hb hW rfl ?_
          refine x_if_ne (tgt := 171) dX10_putAt_164 rfl (fun c => ?_) (fun c => ?_)
          · have hT := hT.1 c
            refine x_iconst (v := 0) dX10_putAt_171 rfl ?_
            refine x_istore (lo' := [some (.ref w.1), some (.int a1), some (.int a2), some (.int a3), some (.int a4), some (.int a5), some (.int a6), some (.int a7), some (.int 0), none, none, none, none, none, none]) dX10_putAt_172 (Nat.le_of_ble_eq_true rfl) rfl ?_
            refine x_goto (tgt := 236) dX10_putAt_174 rfl ?_
            exact hT h0 h hW hF
          · have hT := hT.2 c
            refine x_iconst (v := 1) dX10_putAt_167 rfl ?_
            refine x_goto (tgt := 172) dX10_putAt_168 rfl ?_
            refine x_istore (lo' := [some (.ref w.1), some (.int a1), some (.int a2), some (.int a3), some (.int a4), some (.int a5), some (.int a6), some (.int a7), some (.int 1), none, none, none, none, none, none]) dX10_putAt_172 (Nat.le_of_ble_eq_true rfl) rfl ?_
            refine x_goto (tgt := 236) dX10_putAt_174 rfl ?_
            exact hT h0 h hW hF
set_option maxHeartbeats 16000000 in
theorem vX10_putAt_236 {l : Launch} {E : EN} {w : MO} {d : Nat} {s : MS} {Q : Option Value → MS → Prop} {a1 : Int32} {a2 : Int32} {a3 : Int32} {a4 : Int32} {a5 : Int32} {a6 : Int32} {a7 : Int32} {a8 : Int32} (hT : ((¬ a8 = 0 → (inB a5 9000 ∧ (∀ y1 : Int32, y1 = (s.2.2.1 107 a5.toNatClampNeg) → ((y1 < 0 → (EvM l E w d MX10_trouble [.ref w.1, .int 5, .int (s.1 127)] s (fun r s2 => r = none ∧ Q none s2))) ∧ (¬ y1 < 0 → (EvM l E w d MX10_sizeAt [.ref w.1, .int a6] s (fun r s3 => ∃ v4 : Int32, r = some (.int v4) ∧ ((y1 < v4 → (inB a4 9000 ∧ (∀ y5 : Int32, y5 = (s3.2.2.1 106 a4.toNatClampNeg) → (inB a4 9000 ∧ (∀ y6 : Int32, y6 = (s3.2.2.1 107 a4.toNatClampNeg) → ((a2 = 0 → ExM l E w (d + 1) MX10_putAt 433 [some (.ref w.1), none, none, some (.int a3), none, some (.int a5), some (.int a6), some (.int a7), none, some (.int y1), some (.int y5), some (.int y6), some (.int 0), none, none] [] s3 Q) ∧ (¬ a2 = 0 → (EvM l E w d MX10_partAt [.ref w.1, .int a6, .int y1] s3 (fun r s7 => ∃ v8 : Int32, r = some (.int v8) ∧ (inB (a5 + 1) 9000 ∧ (∀ y9 : Int32, y9 = (s7.2.2.1 107 (a5 + 1).toNatClampNeg) → ((y9 < 0 → (inB a1 8000 ∧ (EvM l E w d MX10_trouble [.ref w.1, .int 5, .int (s7.2.2.1 82 a1.toNatClampNeg)] s7 (fun r s10 => r = none ∧ Q none s10)))) ∧ (¬ y9 < 0 → (EvM l E w d MX10_sizeAt [.ref w.1, .int v8] s7 (fun r s11 => ∃ v12 : Int32, r = some (.int v12) ∧ ((y9 < v12 → ExM l E w (d + 1) MX10_putAt 360 [some (.ref w.1), none, none, some (.int a3), none, some (.int a5), some (.int a6), some (.int a7), none, some (.int y1), none, some (.int y6), some (.int v8), some (.int y9), some (.int 0)] [] s11 Q) ∧ (¬ y9 < v12 → (inB a1 8000 ∧ (EvM l E w d MX10_trouble [.ref w.1, .int 5, .int (s11.2.2.1 82 a1.toNatClampNeg)] s11 (fun r s13 => r = none ∧ Q none s13)))))))))))))))))))) ∧ (¬ y1 < v4 → (EvM l E w d MX10_trouble [.ref w.1, .int 5, .int (s3.1 127)] s3 (fun r s14 => r = none ∧ Q none s14))))))))))) ∧ (a8 = 0 → (EvM l E w d MX10_trouble [.ref w.1, .int 3, .int (s.1 127)] s (fun r s15 => r = none ∧ Q none s15))))) : ExM l E w (d + 1) MX10_putAt 236 [some (.ref w.1), some (.int a1), some (.int a2), some (.int a3), some (.int a4), some (.int a5), some (.int a6), some (.int a7), some (.int a8), none, none, none, none, none, none] [] s Q := by
  intro h0 h hW hF
  refine x_iload dX10_putAt_236 rfl ?_
  refine x_if_ne (tgt := 251) dX10_putAt_238 rfl (fun c => ?_) (fun c => ?_)
  · have hT := hT.1 c
    refine x_aload_n dX10_putAt_251 rfl rfl rfl ?_
    refine m_geta dX10_putAt_252 f_TallySlateModel_189 (by decide) rfl hW ?_
    refine x_iload dX10_putAt_255 rfl ?_
    obtain ⟨hb, hT⟩ := hT
    refine m_iald (v := (s.2.2.1 107 a5.toNatClampNeg)) dX10_putAt_257 rfl hb hW rfl ?_
    obtain ⟨y1, ey1⟩ : ∃ z : Int32, z = (s.2.2.1 107 a5.toNatClampNeg) := ⟨_, rfl⟩
    have hT := hT y1 ey1
    refine x_istore (lo' := [some (.ref w.1), some (.int a1), some (.int a2), some (.int a3), some (.int a4), some (.int a5), some (.int a6), some (.int a7), some (.int a8), some (.int y1), none, none, none, none, none]) dX10_putAt_258 (Nat.le_of_ble_eq_true rfl) (by rw [ey1]; rfl) ?_
    refine x_iload dX10_putAt_260 rfl ?_
    refine x_if_lt (tgt := 276) dX10_putAt_262 rfl (fun c => ?_) (fun c => ?_)
    · have hT := hT.1 c
      refine x_aload_n dX10_putAt_276 rfl rfl rfl ?_
      refine x_iconst (v := 5) dX10_putAt_277 rfl ?_
      refine x_aload_n dX10_putAt_278 rfl rfl rfl ?_
      refine m_geti (v := (s.1 127)) dX10_putAt_279 f_TallySlateModel_507 (by decide) rfl hW rfl ?_
      refine m_inv (vs := [.int 5, .int (s.1 127)]) dX10_putAt_282 oX10_trouble q2696 q2694 qs98 rfl rfl (Nat.le_of_ble_eq_true rfl) rfl hW hF hT ?_
      rintro _ s2 ⟨rfl, hT⟩ h hW hF
      exact x_vret dX10_putAt_285 rfl ⟨_, _, rfl, hW, hF, hT⟩
    · have hT := hT.2 c
      refine x_iload dX10_putAt_265 rfl ?_
      refine x_aload_n dX10_putAt_267 rfl rfl rfl ?_
      refine x_iload dX10_putAt_268 rfl ?_
      refine m_inv (vs := [.int a6]) dX10_putAt_270 oX10_sizeAt q2735 q2733 qs107 rfl rfl (Nat.le_of_ble_eq_true rfl) rfl hW hF hT ?_
      rintro _ s3 ⟨v4, rfl, hT⟩ h hW hF
      refine x_icmp_lt (tgt := 286) dX10_putAt_273 rfl (fun c => ?_) (fun c => ?_)
      · have hT := hT.1 c
        refine x_aload_n dX10_putAt_286 rfl rfl rfl ?_
        refine m_geta dX10_putAt_287 f_TallySlateModel_186 (by decide) rfl hW ?_
        refine x_iload dX10_putAt_290 rfl ?_
        obtain ⟨hb, hT⟩ := hT
        refine m_iald (v := (s3.2.2.1 106 a4.toNatClampNeg)) dX10_putAt_292 rfl hb hW rfl ?_
        obtain ⟨y5, ey5⟩ : ∃ z : Int32, z = (s3.2.2.1 106 a4.toNatClampNeg) := ⟨_, rfl⟩
        have hT := hT y5 ey5
        refine x_istore (lo' := [some (.ref w.1), some (.int a1), some (.int a2), some (.int a3), some (.int a4), some (.int a5), some (.int a6), some (.int a7), some (.int a8), some (.int y1), some (.int y5), none, none, none, none]) dX10_putAt_293 (Nat.le_of_ble_eq_true rfl) (by rw [ey5]; rfl) ?_
        refine x_aload_n dX10_putAt_295 rfl rfl rfl ?_
        refine m_geta dX10_putAt_296 f_TallySlateModel_189 (by decide) rfl hW ?_
        refine x_iload dX10_putAt_299 rfl ?_
        obtain ⟨hb, hT⟩ := hT
        refine m_iald (v := (s3.2.2.1 107 a4.toNatClampNeg)) dX10_putAt_301 rfl hb hW rfl ?_
        obtain ⟨y6, ey6⟩ : ∃ z : Int32, z = (s3.2.2.1 107 a4.toNatClampNeg) := ⟨_, rfl⟩
        have hT := hT y6 ey6
        refine x_istore (lo' := [some (.ref w.1), some (.int a1), some (.int a2), some (.int a3), some (.int a4), some (.int a5), some (.int a6), some (.int a7), some (.int a8), some (.int y1), some (.int y5), some (.int y6), none, none, none]) dX10_putAt_302 (Nat.le_of_ble_eq_true rfl) (by rw [ey6]; rfl) ?_
        refine x_iload_n dX10_putAt_304 rfl rfl ?_
        refine x_if_eq (tgt := 430) dX10_putAt_305 rfl (fun c => ?_) (fun c => ?_)
        · have hT := hT.1 c
          refine x_iconst (v := 0) dX10_putAt_430 rfl ?_
          refine x_istore (lo' := [some (.ref w.1), some (.int a1), some (.int a2), some (.int a3), some (.int a4), some (.int a5), some (.int a6), some (.int a7), some (.int a8), some (.int y1), some (.int y5), some (.int y6), some (.int 0), none, none]) dX10_putAt_431 (Nat.le_of_ble_eq_true rfl) rfl ?_
          refine Ex.wkl (lo' := [some (.ref w.1), none, none, some (.int a3), none, some (.int a5), some (.int a6), some (.int a7), none, some (.int y1), some (.int y5), some (.int y6), some (.int 0), none, none]) ⟨rfl, rfl, rfl, rfl, rfl, rfl, rfl, rfl, rfl, trivial⟩ ?_
          exact hT h0 h hW hF
        · have hT := hT.2 c
          refine x_aload_n dX10_putAt_308 rfl rfl rfl ?_
          refine x_iload dX10_putAt_309 rfl ?_
          refine x_iload dX10_putAt_311 rfl ?_
          refine m_inv (vs := [.int a6, .int y1]) dX10_putAt_313 oX10_partAt q2751 q2749 qs111 rfl rfl (Nat.le_of_ble_eq_true rfl) rfl hW hF hT ?_
          rintro _ s7 ⟨v8, rfl, hT⟩ h hW hF
          refine x_istore (lo' := [some (.ref w.1), some (.int a1), some (.int a2), some (.int a3), some (.int a4), some (.int a5), some (.int a6), some (.int a7), some (.int a8), some (.int y1), some (.int y5), some (.int y6), some (.int v8), none, none]) dX10_putAt_316 (Nat.le_of_ble_eq_true rfl) rfl ?_
          refine x_aload_n dX10_putAt_318 rfl rfl rfl ?_
          refine m_geta dX10_putAt_319 f_TallySlateModel_189 (by decide) rfl hW ?_
          refine x_iload dX10_putAt_322 rfl ?_
          refine x_iconst (v := 1) dX10_putAt_324 rfl ?_
          refine x_iadd dX10_putAt_325 ?_
          obtain ⟨hb, hT⟩ := hT
          refine m_iald (v := (s7.2.2.1 107 (a5 + 1).toNatClampNeg)) dX10_putAt_326 rfl hb hW rfl ?_
          obtain ⟨y9, ey9⟩ : ∃ z : Int32, z = (s7.2.2.1 107 (a5 + 1).toNatClampNeg) := ⟨_, rfl⟩
          have hT := hT y9 ey9
          refine x_istore (lo' := [some (.ref w.1), some (.int a1), some (.int a2), some (.int a3), some (.int a4), some (.int a5), some (.int a6), some (.int a7), some (.int a8), some (.int y1), some (.int y5), some (.int y6), some (.int v8), some (.int y9), none]) dX10_putAt_327 (Nat.le_of_ble_eq_true rfl) (by rw [ey9]; rfl) ?_
          refine x_iload dX10_putAt_329 rfl ?_
          refine x_if_lt (tgt := 345) dX10_putAt_331 rfl (fun c => ?_) (fun c => ?_)
          · have hT := hT.1 c
            refine x_aload_n dX10_putAt_345 rfl rfl rfl ?_
            refine x_iconst (v := 5) dX10_putAt_346 rfl ?_
            refine x_aload_n dX10_putAt_347 rfl rfl rfl ?_
            refine m_geta dX10_putAt_348 f_TallySlateModel_127 (by decide) rfl hW ?_
            refine x_iload_n dX10_putAt_351 rfl rfl ?_
            obtain ⟨hb, hT⟩ := hT
            refine m_iald (v := (s7.2.2.1 82 a1.toNatClampNeg)) dX10_putAt_352 rfl hb hW rfl ?_
            refine m_inv (vs := [.int 5, .int (s7.2.2.1 82 a1.toNatClampNeg)]) dX10_putAt_353 oX10_trouble q2696 q2694 qs98 rfl rfl (Nat.le_of_ble_eq_true rfl) rfl hW hF hT ?_
            rintro _ s10 ⟨rfl, hT⟩ h hW hF
            exact x_vret dX10_putAt_356 rfl ⟨_, _, rfl, hW, hF, hT⟩
          · have hT := hT.2 c
            refine x_iload dX10_putAt_334 rfl ?_
            refine x_aload_n dX10_putAt_336 rfl rfl rfl ?_
            refine x_iload dX10_putAt_337 rfl ?_
            refine m_inv (vs := [.int v8]) dX10_putAt_339 oX10_sizeAt q2735 q2733 qs107 rfl rfl (Nat.le_of_ble_eq_true rfl) rfl hW hF hT ?_
            rintro _ s11 ⟨v12, rfl, hT⟩ h hW hF
            refine x_icmp_lt (tgt := 357) dX10_putAt_342 rfl (fun c => ?_) (fun c => ?_)
            · have hT := hT.1 c
              refine x_iconst (v := 0) dX10_putAt_357 rfl ?_
              refine x_istore (lo' := [some (.ref w.1), some (.int a1), some (.int a2), some (.int a3), some (.int a4), some (.int a5), some (.int a6), some (.int a7), some (.int a8), some (.int y1), some (.int y5), some (.int y6), some (.int v8), some (.int y9), some (.int 0)]) dX10_putAt_358 (Nat.le_of_ble_eq_true rfl) rfl ?_
              refine Ex.wkl (lo' := [some (.ref w.1), none, none, some (.int a3), none, some (.int a5), some (.int a6), some (.int a7), none, some (.int y1), none, some (.int y6), some (.int v8), some (.int y9), some (.int 0)]) ⟨rfl, rfl, rfl, rfl, rfl, rfl, rfl, rfl, rfl, rfl, trivial⟩ ?_
              exact hT h0 h hW hF
            · have hT := hT.2 c
              refine x_aload_n dX10_putAt_345 rfl rfl rfl ?_
              refine x_iconst (v := 5) dX10_putAt_346 rfl ?_
              refine x_aload_n dX10_putAt_347 rfl rfl rfl ?_
              refine m_geta dX10_putAt_348 f_TallySlateModel_127 (by decide) rfl hW ?_
              refine x_iload_n dX10_putAt_351 rfl rfl ?_
              obtain ⟨hb, hT⟩ := hT
              refine m_iald (v := (s11.2.2.1 82 a1.toNatClampNeg)) dX10_putAt_352 rfl hb hW rfl ?_
              refine m_inv (vs := [.int 5, .int (s11.2.2.1 82 a1.toNatClampNeg)]) dX10_putAt_353 oX10_trouble q2696 q2694 qs98 rfl rfl (Nat.le_of_ble_eq_true rfl) rfl hW hF hT ?_
              rintro _ s13 ⟨rfl, hT⟩ h hW hF
              exact x_vret dX10_putAt_356 rfl ⟨_, _, rfl, hW, hF, hT⟩
      · have hT := hT.2 c
        refine x_aload_n dX10_putAt_276 rfl rfl rfl ?_
        refine x_iconst (v := 5) dX10_putAt_277 rfl ?_
        refine x_aload_n dX10_putAt_278 rfl rfl rfl ?_
        refine m_geti (v := (s3.1 127)) dX10_putAt_279 f_TallySlateModel_507 (by decide) rfl hW rfl ?_
        refine m_inv (vs := [.int 5, .int (s3.1 127)]) dX10_putAt_282 oX10_trouble q2696 q2694 qs98 rfl rfl (Nat.le_of_ble_eq_true rfl) rfl hW hF hT ?_
        rintro _ s14 ⟨rfl, hT⟩ h hW hF
        exact x_vret dX10_putAt_285 rfl ⟨_, _, rfl, hW, hF, hT⟩
  · have hT := hT.2 c
    refine x_aload_n dX10_putAt_241 rfl rfl rfl ?_
    refine x_iconst (v := 3) dX10_putAt_242 rfl ?_
    refine x_aload_n dX10_putAt_243 rfl rfl rfl ?_
    refine m_geti (v := (s.1 127)) dX10_putAt_244 f_TallySlateModel_507 (by decide) rfl hW rfl ?_
    refine m_inv (vs := [.int 3, .int (s.1 127)]) dX10_putAt_247 oX10_trouble q2696 q2694 qs98 rfl rfl (Nat.le_of_ble_eq_true rfl) rfl hW hF hT ?_
    rintro _ s15 ⟨rfl, hT⟩ h hW hF
    exact x_vret dX10_putAt_250 rfl ⟨_, _, rfl, hW, hF, hT⟩
theorem vX10_putAt_433 {l : Launch} {E : EN} {w : MO} {d : Nat} {s : MS} {Q : Option Value → MS → Prop} {a3 : Int32} {a5 : Int32} {a6 : Int32} {a7 : Int32} {a9 : Int32} {a10 : Int32} {a11 : Int32} {a12 : Int32} (hT : (EvM l E w d MX10_sizeAt [.ref w.1, .int a6] s (fun r s1 => ∃ v2 : Int32, r = some (.int v2) ∧ ((v2 ≤ a12 → (EvM l E w d MX10_builds [.ref w.1, .int a7, .int a5] s1 (fun r s3 => r = none ∧ ((¬ (s3.1 123) = 0 → Q none (sI s3 108 a5)) ∧ ((s3.1 123) = 0 → (inB a5 9000 ∧ (EvM l E w d MX10_store [.ref w.1, .int a3, .int 1, .int (s3.2.2.1 107 a5.toNatClampNeg)] (sI s3 108 a5) (fun r s4 => r = none ∧ Q none s4)))))))) ∧ (¬ v2 ≤ a12 → ((¬ a12 = a9 → (EvM l E w d MX10_element [.ref w.1, .int a6, .int a12] s1 (fun r s5 => r = none ∧ ExM l E w (d + 1) MX10_putAt 433 [some (.ref w.1), none, none, some (.int a3), none, some (.int a5), some (.int a6), some (.int a7), none, some (.int a9), some (.int a10), some (.int a11), some (.int (a12 + 1)), none, none] [] s5 Q))) ∧ (a12 = a9 → (EvM l E w d MX10_push [.ref w.1, .int a10, .int a11] s1 (fun r s6 => r = none ∧ ExM l E w (d + 1) MX10_putAt 433 [some (.ref w.1), none, none, some (.int a3), none, some (.int a5), some (.int a6), some (.int a7), none, some (.int a9), some (.int a10), some (.int a11), some (.int (a12 + 1)), none, none] [] s6 Q))))))))) : ExM l E w (d + 1) MX10_putAt 433 [some (.ref w.1), none, none, some (.int a3), none, some (.int a5), some (.int a6), some (.int a7), none, some (.int a9), some (.int a10), some (.int a11), some (.int a12), none, none] [] s Q := by
  intro h0 h hW hF
  refine x_iload dX10_putAt_433 rfl ?_
  refine x_aload_n dX10_putAt_435 rfl rfl rfl ?_
  refine x_iload dX10_putAt_436 rfl ?_
  refine m_inv (vs := [.int a6]) dX10_putAt_438 oX10_sizeAt q2735 q2733 qs107 rfl rfl (Nat.le_of_ble_eq_true rfl) rfl hW hF hT ?_
  rintro _ s1 ⟨v2, rfl, hT⟩ h hW hF
  refine x_icmp_ge (tgt := 476) dX10_putAt_441 rfl (fun c => ?_) (fun c => ?_)
  · have hT := hT.1 c
    refine x_aload_n dX10_putAt_476 rfl rfl rfl ?_
    refine x_iload dX10_putAt_477 rfl ?_
    refine x_iload dX10_putAt_479 rfl ?_
    refine m_inv (vs := [.int a7, .int a5]) dX10_putAt_481 oX10_builds q2739 q2737 qs108 rfl rfl (Nat.le_of_ble_eq_true rfl) rfl hW hF hT ?_
    rintro _ s3 ⟨rfl, hT⟩ h hW hF
    refine x_aload_n dX10_putAt_484 rfl rfl rfl ?_
    refine x_iload dX10_putAt_485 rfl ?_
    refine m_puti dX10_putAt_487 f_TallySlateModel_461 (by decide) rfl rfl rfl rfl hW hF ?_
    intro h hW hF
    refine x_aload_n dX10_putAt_490 rfl rfl rfl ?_
    refine m_geti (v := (s3.1 123)) dX10_putAt_491 f_TallySlateModel_498 (by decide) rfl hW rfl ?_
    refine x_if_ne (tgt := 510) dX10_putAt_494 rfl (fun c => ?_) (fun c => ?_)
    · have hT := hT.1 c
      exact x_vret dX10_putAt_510 rfl ⟨_, _, rfl, hW, hF, hT⟩
    · have hT := hT.2 c
      refine x_aload_n dX10_putAt_497 rfl rfl rfl ?_
      refine x_iload_n dX10_putAt_498 rfl rfl ?_
      refine x_iconst (v := 1) dX10_putAt_499 rfl ?_
      refine x_aload_n dX10_putAt_500 rfl rfl rfl ?_
      refine m_geta dX10_putAt_501 f_TallySlateModel_189 (by decide) rfl hW ?_
      refine x_iload dX10_putAt_504 rfl ?_
      obtain ⟨hb, hT⟩ := hT
      refine m_iald (v := (s3.2.2.1 107 a5.toNatClampNeg)) dX10_putAt_506 rfl hb hW rfl ?_
      refine m_inv (vs := [.int a3, .int 1, .int (s3.2.2.1 107 a5.toNatClampNeg)]) dX10_putAt_507 oX10_store q2899 q2897 qs145 rfl rfl (Nat.le_of_ble_eq_true rfl) rfl hW hF hT ?_
      rintro _ s4 ⟨rfl, hT⟩ h hW hF
      exact x_vret dX10_putAt_510 rfl ⟨_, _, rfl, hW, hF, hT⟩
  · have hT := hT.2 c
    refine x_iload dX10_putAt_444 rfl ?_
    refine x_iload dX10_putAt_446 rfl ?_
    refine x_icmp_ne (tgt := 462) dX10_putAt_448 rfl (fun c => ?_) (fun c => ?_)
    · have hT := hT.1 c
      refine x_aload_n dX10_putAt_462 rfl rfl rfl ?_
      refine x_iload dX10_putAt_463 rfl ?_
      refine x_iload dX10_putAt_465 rfl ?_
      refine m_inv (vs := [.int a6, .int a12]) dX10_putAt_467 oX10_element q2798 q2796 qs122 rfl rfl (Nat.le_of_ble_eq_true rfl) rfl hW hF hT ?_
      rintro _ s5 ⟨rfl, hT⟩ h hW hF
      refine x_iinc (lo' := [some (.ref w.1), none, none, some (.int a3), none, some (.int a5), some (.int a6), some (.int a7), none, some (.int a9), some (.int a10), some (.int a11), some (.int (a12 + 1)), none, none]) dX10_putAt_470 rfl (show _ = (a12 + 1) from rfl) rfl ?_
      refine x_goto (tgt := 433) dX10_putAt_473 rfl ?_
      exact hT h0 h hW hF
    · have hT := hT.2 c
      refine x_aload_n dX10_putAt_451 rfl rfl rfl ?_
      refine x_iload dX10_putAt_452 rfl ?_
      refine x_iload dX10_putAt_454 rfl ?_
      refine m_inv (vs := [.int a10, .int a11]) dX10_putAt_456 oX10_push q2708 q2706 qs101 rfl rfl (Nat.le_of_ble_eq_true rfl) rfl hW hF hT ?_
      rintro _ s6 ⟨rfl, hT⟩ h hW hF
      refine x_goto (tgt := 470) dX10_putAt_459 rfl ?_
      refine x_iinc (lo' := [some (.ref w.1), none, none, some (.int a3), none, some (.int a5), some (.int a6), some (.int a7), none, some (.int a9), some (.int a10), some (.int a11), some (.int (a12 + 1)), none, none]) dX10_putAt_470 rfl (show _ = (a12 + 1) from rfl) rfl ?_
      refine x_goto (tgt := 433) dX10_putAt_473 rfl ?_
      exact hT h0 h hW hF
theorem vX10_putAt_360 {l : Launch} {E : EN} {w : MO} {d : Nat} {s : MS} {Q : Option Value → MS → Prop} {a3 : Int32} {a5 : Int32} {a6 : Int32} {a7 : Int32} {a9 : Int32} {a11 : Int32} {a12 : Int32} {a13 : Int32} {a14 : Int32} (hT : (EvM l E w d MX10_sizeAt [.ref w.1, .int a12] s (fun r s1 => ∃ v2 : Int32, r = some (.int v2) ∧ ((v2 ≤ a14 → (EvM l E w d MX10_rowOf [.ref w.1, .int a5] s1 (fun r s3 => r = none ∧ (inB a5 9000 ∧ (∀ y4 : Int32, y4 = (s3.2.2.1 107 a5.toNatClampNeg) → ExM l E w (d + 1) MX10_putAt 433 [some (.ref w.1), none, none, some (.int a3), none, some (.int a5), some (.int a6), some (.int a7), none, some (.int a9), some (.int 1), some (.int y4), some (.int 0), none, none] [] (sI s3 108 a5) Q))))) ∧ (¬ v2 ≤ a14 → ((¬ a14 = a13 → (inB ((a12 + 2) + a14) 166300 ∧ (EvM l E w d MX10_push [.ref w.1, .int 0, .int (s1.2.2.1 104 ((a12 + 2) + a14).toNatClampNeg)] s1 (fun r s5 => r = none ∧ ExM l E w (d + 1) MX10_putAt 360 [some (.ref w.1), none, none, some (.int a3), none, some (.int a5), some (.int a6), some (.int a7), none, some (.int a9), none, some (.int a11), some (.int a12), some (.int a13), some (.int (a14 + 1))] [] s5 Q)))) ∧ (a14 = a13 → (EvM l E w d MX10_push [.ref w.1, .int 0, .int a11] s1 (fun r s6 => r = none ∧ ExM l E w (d + 1) MX10_putAt 360 [some (.ref w.1), none, none, some (.int a3), none, some (.int a5), some (.int a6), some (.int a7), none, some (.int a9), none, some (.int a11), some (.int a12), some (.int a13), some (.int (a14 + 1))] [] s6 Q))))))))) : ExM l E w (d + 1) MX10_putAt 360 [some (.ref w.1), none, none, some (.int a3), none, some (.int a5), some (.int a6), some (.int a7), none, some (.int a9), none, some (.int a11), some (.int a12), some (.int a13), some (.int a14)] [] s Q := by
  intro h0 h hW hF
  refine x_iload dX10_putAt_360 rfl ?_
  refine x_aload_n dX10_putAt_362 rfl rfl rfl ?_
  refine x_iload dX10_putAt_363 rfl ?_
  refine m_inv (vs := [.int a12]) dX10_putAt_365 oX10_sizeAt q2735 q2733 qs107 rfl rfl (Nat.le_of_ble_eq_true rfl) rfl hW hF hT ?_
  rintro _ s1 ⟨v2, rfl, hT⟩ h hW hF
  refine x_icmp_ge (tgt := 406) dX10_putAt_368 rfl (fun c => ?_) (fun c => ?_)
  · have hT := hT.1 c
    refine x_aload_n dX10_putAt_406 rfl rfl rfl ?_
    refine x_iload dX10_putAt_407 rfl ?_
    refine m_inv (vs := [.int a5]) dX10_putAt_409 oX10_rowOf q2775 q2773 qs117 rfl rfl (Nat.le_of_ble_eq_true rfl) rfl hW hF hT ?_
    rintro _ s3 ⟨rfl, hT⟩ h hW hF
    refine x_aload_n dX10_putAt_412 rfl rfl rfl ?_
    refine x_iload dX10_putAt_413 rfl ?_
    refine m_puti dX10_putAt_415 f_TallySlateModel_461 (by decide) rfl rfl rfl rfl hW hF ?_
    intro h hW hF
    refine x_iconst (v := 1) dX10_putAt_418 rfl ?_
    refine x_istore (lo' := [some (.ref w.1), none, none, some (.int a3), none, some (.int a5), some (.int a6), some (.int a7), none, some (.int a9), some (.int 1), some (.int a11), some (.int a12), some (.int a13), some (.int a14)]) dX10_putAt_419 (Nat.le_of_ble_eq_true rfl) rfl ?_
    refine x_aload_n dX10_putAt_421 rfl rfl rfl ?_
    refine m_geta dX10_putAt_422 f_TallySlateModel_189 (by decide) rfl hW ?_
    refine x_iload dX10_putAt_425 rfl ?_
    obtain ⟨hb, hT⟩ := hT
    refine m_iald (v := (s3.2.2.1 107 a5.toNatClampNeg)) dX10_putAt_427 rfl hb hW rfl ?_
    obtain ⟨y4, ey4⟩ : ∃ z : Int32, z = (s3.2.2.1 107 a5.toNatClampNeg) := ⟨_, rfl⟩
    have hT := hT y4 ey4
    refine x_istore (lo' := [some (.ref w.1), none, none, some (.int a3), none, some (.int a5), some (.int a6), some (.int a7), none, some (.int a9), some (.int 1), some (.int y4), some (.int a12), some (.int a13), some (.int a14)]) dX10_putAt_428 (Nat.le_of_ble_eq_true rfl) (by rw [ey4]; rfl) ?_
    refine x_iconst (v := 0) dX10_putAt_430 rfl ?_
    refine x_istore (lo' := [some (.ref w.1), none, none, some (.int a3), none, some (.int a5), some (.int a6), some (.int a7), none, some (.int a9), some (.int 1), some (.int y4), some (.int 0), some (.int a13), some (.int a14)]) dX10_putAt_431 (Nat.le_of_ble_eq_true rfl) rfl ?_
    refine Ex.wkl (lo' := [some (.ref w.1), none, none, some (.int a3), none, some (.int a5), some (.int a6), some (.int a7), none, some (.int a9), some (.int 1), some (.int y4), some (.int 0), none, none]) ⟨rfl, rfl, rfl, rfl, rfl, rfl, rfl, rfl, rfl, trivial⟩ ?_
    exact hT h0 h hW hF
  · have hT := hT.2 c
    refine x_aload_n dX10_putAt_371 rfl rfl rfl ?_
    refine x_iconst (v := 0) dX10_putAt_372 rfl ?_
    refine x_iload dX10_putAt_373 rfl ?_
    refine x_iload dX10_putAt_375 rfl ?_
    refine x_icmp_ne (tgt := 385) dX10_putAt_377 rfl (fun c => ?_) (fun c => ?_)
    · have hT := hT.1 c
      refine x_aload_n dX10_putAt_385 rfl rfl rfl ?_
      refine m_geta dX10_putAt_386 f_TallySlateModel_183 (by decide) rfl hW ?_
      refine x_iload dX10_putAt_389 rfl ?_
      refine x_iconst (v := 2) dX10_putAt_391 rfl ?_
      refine x_iadd dX10_putAt_392 ?_
      refine x_iload dX10_putAt_393 rfl ?_
      refine x_iadd dX10_putAt_395 ?_
      obtain ⟨hb, hT⟩ := hT
      refine m_iald (v := (s1.2.2.1 104 ((a12 + 2) + a14).toNatClampNeg)) dX10_putAt_396 rfl hb hW rfl ?_
      refine m_inv (vs := [.int 0, .int (s1.2.2.1 104 ((a12 + 2) + a14).toNatClampNeg)]) dX10_putAt_397 oX10_push q2708 q2706 qs101 rfl rfl (Nat.le_of_ble_eq_true rfl) rfl hW hF hT ?_
      rintro _ s5 ⟨rfl, hT⟩ h hW hF
      refine x_iinc (lo' := [some (.ref w.1), none, none, some (.int a3), none, some (.int a5), some (.int a6), some (.int a7), none, some (.int a9), none, some (.int a11), some (.int a12), some (.int a13), some (.int (a14 + 1))]) dX10_putAt_400 rfl (show _ = (a14 + 1) from rfl) rfl ?_
      refine x_goto (tgt := 360) dX10_putAt_403 rfl ?_
      exact hT h0 h hW hF
    · have hT := hT.2 c
      refine x_iload dX10_putAt_380 rfl ?_
      refine x_goto (tgt := 397) dX10_putAt_382 rfl ?_
      refine m_inv (vs := [.int 0, .int a11]) dX10_putAt_397 oX10_push q2708 q2706 qs101 rfl rfl (Nat.le_of_ble_eq_true rfl) rfl hW hF hT ?_
      rintro _ s6 ⟨rfl, hT⟩ h hW hF
      refine x_iinc (lo' := [some (.ref w.1), none, none, some (.int a3), none, some (.int a5), some (.int a6), some (.int a7), none, some (.int a9), none, some (.int a11), some (.int a12), some (.int a13), some (.int (a14 + 1))]) dX10_putAt_400 rfl (show _ = (a14 + 1) from rfl) rfl ?_
      refine x_goto (tgt := 360) dX10_putAt_403 rfl ?_
      exact hT h0 h hW hF
set_option maxHeartbeats 16000000 in
theorem vX10_forNext_0 {l : Launch} {E : EN} {w : MO} {d : Nat} {s : MS} {Q : Option Value → MS → Prop} {x1 : Int32} (hT : (EvM l E w d MX10_step [.ref w.1] s (fun r s1 => r = none ∧ (((s1.1 123) ≤ 0 → (∀ y2 : Int32, y2 = ((s1.1 136) - 1) → (inB y2 400 ∧ (inB y2 400 ∧ ((¬ (s1.2.2.1 139 y2.toNatClampNeg) = (s1.2.2.1 140 y2.toNatClampNeg) → (inB y2 400 ∧ ((¬ (s1.2.2.1 138 y2.toNatClampNeg) = (-1) → (inB y2 400 ∧ (inB y2 400 ∧ (EvM l E w d MX10_element [.ref w.1, .int (s1.2.2.1 138 y2.toNatClampNeg), .int (s1.2.2.1 139 y2.toNatClampNeg)] s1 (fun r s3 => r = none ∧ (inB y2 400 ∧ (inB y2 400 ∧ (inB x1 8000 ∧ (inB ((s3.1 108) - 1) 9000 ∧ (inB ((s3.1 108) - 1) 9000 ∧ (EvM l E w d MX10_store [.ref w.1, .int (s3.2.2.1 82 x1.toNatClampNeg), .int (s3.2.2.1 106 ((s3.1 108) - 1).toNatClampNeg), .int (s3.2.2.1 107 ((s3.1 108) - 1).toNatClampNeg)] (sI (sA s3 139 y2.toNatClampNeg ((s3.2.2.1 139 y2.toNatClampNeg) + 1)) 108 ((s3.1 108) - 1)) (fun r s4 => r = none ∧ Q none s4)))))))))))) ∧ ((s1.2.2.1 138 y2.toNatClampNeg) = (-1) → (inB y2 400 ∧ (EvM l E w d MX10_push [.ref w.1, .int 0, .int (s1.2.2.1 139 y2.toNatClampNeg)] s1 (fun r s5 => r = none ∧ (inB y2 400 ∧ (inB y2 400 ∧ (inB x1 8000 ∧ (inB ((s5.1 108) - 1) 9000 ∧ (inB ((s5.1 108) - 1) 9000 ∧ (EvM l E w d MX10_store [.ref w.1, .int (s5.2.2.1 82 x1.toNatClampNeg), .int (s5.2.2.1 106 ((s5.1 108) - 1).toNatClampNeg), .int (s5.2.2.1 107 ((s5.1 108) - 1).toNatClampNeg)] (sI (sA s5 139 y2.toNatClampNeg ((s5.2.2.1 139 y2.toNatClampNeg) + 1)) 108 ((s5.1 108) - 1)) (fun r s6 => r = none ∧ Q none s6)))))))))))))) ∧ ((s1.2.2.1 139 y2.toNatClampNeg) = (s1.2.2.1 140 y2.toNatClampNeg) → (inB x1 8000 ∧ Q none (sI (sI s1 136 ((s1.1 136) - 1)) 126 (s1.2.2.1 81 x1.toNatClampNeg))))))))) ∧ (¬ (s1.1 123) ≤ 0 → Q none s1))))) : ExM l E w (d + 1) MX10_forNext 0 [some (.ref w.1), some (.int x1), none] [] s Q := by
  intro h0 h hW hF
  refine x_aload_n dX10_forNext_0 rfl rfl rfl ?_
  refine m_inv (vs := []) dX10_forNext_1 oX10_step q2704 q2702 qs100 rfl rfl (Nat.le_of_ble_eq_true rfl) rfl hW hF hT ?_
  rintro _ s1 ⟨rfl, hT⟩ h hW hF
  refine x_aload_n dX10_forNext_4 rfl rfl rfl ?_
  refine m_geti (v := (s1.1 123)) dX10_forNext_5 f_TallySlateModel_498 (by decide) rfl hW rfl ?_
  refine x_if_le (tgt := 12) dX10_forNext_8 rfl (fun c => ?_) (fun c => ?_)
  · have hT := hT.1 c
    refine x_aload_n dX10_forNext_12 rfl rfl rfl ?_
    refine m_geti (v := (s1.1 136)) dX10_forNext_13 f_TallySlateModel_534 (by decide) rfl hW rfl ?_
    refine x_iconst (v := 1) dX10_forNext_16 rfl ?_
    refine x_isub dX10_forNext_17 ?_
    obtain ⟨y2, ey2⟩ : ∃ z : Int32, z = ((s1.1 136) - 1) := ⟨_, rfl⟩
    have hT := hT y2 ey2
    refine x_istore_n (lo' := [some (.ref w.1), some (.int x1), some (.int y2)]) dX10_forNext_18 rfl (Nat.le_of_ble_eq_true rfl) (by rw [ey2]; rfl) ?_
    refine x_aload_n dX10_forNext_19 rfl rfl rfl ?_
    refine m_geta dX10_forNext_20 f_TallySlateModel_237 (by decide) rfl hW ?_
    refine x_iload_n dX10_forNext_23 rfl rfl ?_
    obtain ⟨hb, hT⟩ := hT
    refine m_iald (v := (s1.2.2.1 139 y2.toNatClampNeg)) dX10_forNext_24 rfl hb hW rfl ?_
    refine x_aload_n dX10_forNext_25 rfl rfl rfl ?_
    refine m_geta dX10_forNext_26 f_TallySlateModel_240 (by decide) rfl hW ?_
    refine x_iload_n dX10_forNext_29 rfl rfl ?_
    obtain ⟨hb, hT⟩ := hT
    refine m_iald (v := (s1.2.2.1 140 y2.toNatClampNeg)) dX10_forNext_30 rfl hb hW rfl ?_
    refine x_icmp_ne (tgt := 55) dX10_forNext_31 rfl (fun c => ?_) (fun c => ?_)
    · have hT := hT.1 c
      refine x_aload_n dX10_forNext_55 rfl rfl rfl ?_
      refine m_geta dX10_forNext_56 f_TallySlateModel_234 (by decide) rfl hW ?_
      refine x_iload_n dX10_forNext_59 rfl rfl ?_
      obtain ⟨hb, hT⟩ := hT
      refine m_iald (v := (s1.2.2.1 138 y2.toNatClampNeg)) dX10_forNext_60 rfl hb hW rfl ?_
      refine x_iconst (v := (-1)) dX10_forNext_61 rfl ?_
      refine x_icmp_ne (tgt := 79) dX10_forNext_62 rfl (fun c => ?_) (fun c => ?_)
      · have hT := hT.1 c
        refine x_aload_n dX10_forNext_79 rfl rfl rfl ?_
        refine x_aload_n dX10_forNext_80 rfl rfl rfl ?_
        refine m_geta dX10_forNext_81 f_TallySlateModel_234 (by decide) rfl hW ?_
        refine x_iload_n dX10_forNext_84 rfl rfl ?_
        obtain ⟨hb, hT⟩ := hT
        refine m_iald (v := (s1.2.2.1 138 y2.toNatClampNeg)) dX10_forNext_85 rfl hb hW rfl ?_
        refine x_aload_n dX10_forNext_86 rfl rfl rfl ?_
        refine m_geta dX10_forNext_87 f_TallySlateModel_237 (by decide) rfl hW ?_
        refine x_iload_n dX10_forNext_90 rfl rfl ?_
        obtain ⟨hb, hT⟩ := hT
        refine m_iald (v := (s1.2.2.1 139 y2.toNatClampNeg)) dX10_forNext_91 rfl hb hW rfl ?_
        refine m_inv (vs := [.int (s1.2.2.1 138 y2.toNatClampNeg), .int (s1.2.2.1 139 y2.toNatClampNeg)]) dX10_forNext_92 oX10_element q2798 q2796 qs122 rfl rfl (Nat.le_of_ble_eq_true rfl) rfl hW hF hT ?_
        rintro _ s3 ⟨rfl, hT⟩ h hW hF
        refine x_aload_n dX10_forNext_95 rfl rfl rfl ?_
        refine m_geta dX10_forNext_96 f_TallySlateModel_237 (by decide) rfl hW ?_
        refine x_iload_n dX10_forNext_99 rfl rfl ?_
        refine x_dup2 dX10_forNext_100 rfl rfl ?_
        obtain ⟨hb, hT⟩ := hT
        refine m_iald (v := (s3.2.2.1 139 y2.toNatClampNeg)) dX10_forNext_101 rfl hb hW rfl ?_
        refine x_iconst (v := 1) dX10_forNext_102 rfl ?_
        refine x_iadd dX10_forNext_103 ?_
        obtain ⟨hb, hT⟩ := hT
        refine m_iast dX10_forNext_104 rfl hb hW hF ?_
        intro h hW hF
        refine x_aload_n dX10_forNext_105 rfl rfl rfl ?_
        refine x_dup dX10_forNext_106 rfl ?_
        refine m_geti (v := (s3.1 108)) dX10_forNext_107 f_TallySlateModel_461 (by decide) rfl hW rfl ?_
        refine x_iconst (v := 1) dX10_forNext_110 rfl ?_
        refine x_isub dX10_forNext_111 ?_
        refine m_puti dX10_forNext_112 f_TallySlateModel_461 (by decide) rfl rfl rfl rfl hW hF ?_
        intro h hW hF
        refine x_aload_n dX10_forNext_115 rfl rfl rfl ?_
        refine x_aload_n dX10_forNext_116 rfl rfl rfl ?_
        refine m_geta dX10_forNext_117 f_TallySlateModel_127 (by decide) rfl hW ?_
        refine x_iload_n dX10_forNext_120 rfl rfl ?_
        obtain ⟨hb, hT⟩ := hT
        refine m_iald (v := (s3.2.2.1 82 x1.toNatClampNeg)) dX10_forNext_121 rfl hb hW rfl ?_
        refine x_aload_n dX10_forNext_122 rfl rfl rfl ?_
        refine m_geta dX10_forNext_123 f_TallySlateModel_186 (by decide) rfl hW ?_
        refine x_aload_n dX10_forNext_126 rfl rfl rfl ?_
        refine m_geti (v := ((s3.1 108) - 1)) dX10_forNext_127 f_TallySlateModel_461 (by decide) rfl hW rfl ?_
        obtain ⟨hb, hT⟩ := hT
        refine m_iald (v := (s3.2.2.1 106 ((s3.1 108) - 1).toNatClampNeg)) dX10_forNext_130 rfl hb hW rfl ?_
        refine x_aload_n dX10_forNext_131 rfl rfl rfl ?_
        refine m_geta dX10_forNext_132 f_TallySlateModel_189 (by decide) rfl hW ?_
        refine x_aload_n dX10_forNext_135 rfl rfl rfl ?_
        refine m_geti (v := ((s3.1 108) - 1)) dX10_forNext_136 f_TallySlateModel_461 (by decide) rfl hW rfl ?_
        obtain ⟨hb, hT⟩ := hT
        refine m_iald (v := (s3.2.2.1 107 ((s3.1 108) - 1).toNatClampNeg)) dX10_forNext_139 rfl hb hW rfl ?_
        refine m_inv (vs := [.int (s3.2.2.1 82 x1.toNatClampNeg), .int (s3.2.2.1 106 ((s3.1 108) - 1).toNatClampNeg), .int (s3.2.2.1 107 ((s3.1 108) - 1).toNatClampNeg)]) dX10_forNext_140 oX10_store q2899 q2897 qs145 rfl rfl (Nat.le_of_ble_eq_true rfl) rfl hW hF hT ?_
        rintro _ s4 ⟨rfl, hT⟩ h hW hF
        exact x_vret dX10_forNext_143 rfl ⟨_, _, rfl, hW, hF, hT⟩
      · have hT := hT.2 c
        refine x_aload_n dX10_forNext_65 rfl rfl rfl ?_
        refine x_iconst (v := 0) dX10_forNext_66 rfl ?_
        refine x_aload_n dX10_forNext_67 rfl rfl rfl ?_
        refine m_geta dX10_forNext_68 f_TallySlateModel_237 (by decide) rfl hW ?_
        refine x_iload_n dX10_forNext_71 rfl rfl ?_
        obtain ⟨hb, hT⟩ := hT
        refine m_iald (v := (s1.2.2.1 139 y2.toNatClampNeg)) dX10_forNext_72 rfl hb hW rfl ?_
        refine m_inv (vs := [.int 0, .int (s1.2.2.1 139 y2.toNatClampNeg)]) dX10_forNext_73 oX10_push q2708 q2706 qs101 rfl rfl (Nat.le_of_ble_eq_true rfl) rfl hW hF hT ?_
        rintro _ s5 ⟨rfl, hT⟩ h hW hF
        refine x_goto (tgt := 95) dX10_forNext_76 rfl ?_
        refine x_aload_n dX10_forNext_95 rfl rfl rfl ?_
        refine m_geta dX10_forNext_96 f_TallySlateModel_237 (by decide) rfl hW ?_
        refine x_iload_n dX10_forNext_99 rfl rfl ?_
        refine x_dup2 dX10_forNext_100 rfl rfl ?_
        obtain ⟨hb, hT⟩ := hT
        refine m_iald (v := (s5.2.2.1 139 y2.toNatClampNeg)) dX10_forNext_101 rfl hb hW rfl ?_
        refine x_iconst (v := 1) dX10_forNext_102 rfl ?_
        refine x_iadd dX10_forNext_103 ?_
        obtain ⟨hb, hT⟩ := hT
        refine m_iast dX10_forNext_104 rfl hb hW hF ?_
        intro h hW hF
        refine x_aload_n dX10_forNext_105 rfl rfl rfl ?_
        refine x_dup dX10_forNext_106 rfl ?_
        refine m_geti (v := (s5.1 108)) dX10_forNext_107 f_TallySlateModel_461 (by decide) rfl hW rfl ?_
        refine x_iconst (v := 1) dX10_forNext_110 rfl ?_
        refine x_isub dX10_forNext_111 ?_
        refine m_puti dX10_forNext_112 f_TallySlateModel_461 (by decide) rfl rfl rfl rfl hW hF ?_
        intro h hW hF
        refine x_aload_n dX10_forNext_115 rfl rfl rfl ?_
        refine x_aload_n dX10_forNext_116 rfl rfl rfl ?_
        refine m_geta dX10_forNext_117 f_TallySlateModel_127 (by decide) rfl hW ?_
        refine x_iload_n dX10_forNext_120 rfl rfl ?_
        obtain ⟨hb, hT⟩ := hT
        refine m_iald (v := (s5.2.2.1 82 x1.toNatClampNeg)) dX10_forNext_121 rfl hb hW rfl ?_
        refine x_aload_n dX10_forNext_122 rfl rfl rfl ?_
        refine m_geta dX10_forNext_123 f_TallySlateModel_186 (by decide) rfl hW ?_
        refine x_aload_n dX10_forNext_126 rfl rfl rfl ?_
        refine m_geti (v := ((s5.1 108) - 1)) dX10_forNext_127 f_TallySlateModel_461 (by decide) rfl hW rfl ?_
        obtain ⟨hb, hT⟩ := hT
        refine m_iald (v := (s5.2.2.1 106 ((s5.1 108) - 1).toNatClampNeg)) dX10_forNext_130 rfl hb hW rfl ?_
        refine x_aload_n dX10_forNext_131 rfl rfl rfl ?_
        refine m_geta dX10_forNext_132 f_TallySlateModel_189 (by decide) rfl hW ?_
        refine x_aload_n dX10_forNext_135 rfl rfl rfl ?_
        refine m_geti (v := ((s5.1 108) - 1)) dX10_forNext_136 f_TallySlateModel_461 (by decide) rfl hW rfl ?_
        obtain ⟨hb, hT⟩ := hT
        refine m_iald (v := (s5.2.2.1 107 ((s5.1 108) - 1).toNatClampNeg)) dX10_forNext_139 rfl hb hW rfl ?_
        refine m_inv (vs := [.int (s5.2.2.1 82 x1.toNatClampNeg), .int (s5.2.2.1 106 ((s5.1 108) - 1).toNatClampNeg), .int (s5.2.2.1 107 ((s5.1 108) - 1).toNatClampNeg)]) dX10_forNext_140 oX10_store q2899 q2897 qs145 rfl rfl (Nat.le_of_ble_eq_true rfl) rfl hW hF hT ?_
        rintro _ s6 ⟨rfl, hT⟩ h hW hF
        exact x_vret dX10_forNext_143 rfl ⟨_, _, rfl, hW, hF, hT⟩
    · have hT := hT.2 c
      refine x_aload_n dX10_forNext_34 rfl rfl rfl ?_
      refine x_dup dX10_forNext_35 rfl ?_
      refine m_geti (v := (s1.1 136)) dX10_forNext_36 f_TallySlateModel_534 (by decide) rfl hW rfl ?_
      refine x_iconst (v := 1) dX10_forNext_39 rfl ?_
      refine x_isub dX10_forNext_40 ?_
      refine m_puti dX10_forNext_41 f_TallySlateModel_534 (by decide) rfl rfl rfl rfl hW hF ?_
      intro h hW hF
      refine x_aload_n dX10_forNext_44 rfl rfl rfl ?_
      refine x_aload_n dX10_forNext_45 rfl rfl rfl ?_
      refine m_geta dX10_forNext_46 f_TallySlateModel_124 (by decide) rfl hW ?_
      refine x_iload_n dX10_forNext_49 rfl rfl ?_
      obtain ⟨hb, hT⟩ := hT
      refine m_iald (v := (s1.2.2.1 81 x1.toNatClampNeg)) dX10_forNext_50 rfl hb hW rfl ?_
      refine m_puti dX10_forNext_51 f_TallySlateModel_540 (by decide) rfl rfl rfl rfl hW hF ?_
      intro h hW hF
      exact x_vret dX10_forNext_54 rfl ⟨_, _, rfl, hW, hF, hT⟩
  · have hT := hT.2 c
    exact x_vret dX10_forNext_11 rfl ⟨_, _, rfl, hW, hF, hT⟩
theorem eX10_forNext {l : Launch} {E : EN} {w : MO} {d : Nat} {s : MS} {Q : Option Value → MS → Prop} {x1 : Int32} (hst : l.stackTraces = false) (hT : (EvM l E w d MX10_step [.ref w.1] s (fun r s1 => r = none ∧ (((s1.1 123) ≤ 0 → (∀ y2 : Int32, y2 = ((s1.1 136) - 1) → (inB y2 400 ∧ (inB y2 400 ∧ ((¬ (s1.2.2.1 139 y2.toNatClampNeg) = (s1.2.2.1 140 y2.toNatClampNeg) → (inB y2 400 ∧ ((¬ (s1.2.2.1 138 y2.toNatClampNeg) = (-1) → (inB y2 400 ∧ (inB y2 400 ∧ (EvM l E w d MX10_element [.ref w.1, .int (s1.2.2.1 138 y2.toNatClampNeg), .int (s1.2.2.1 139 y2.toNatClampNeg)] s1 (fun r s3 => r = none ∧ (inB y2 400 ∧ (inB y2 400 ∧ (inB x1 8000 ∧ (inB ((s3.1 108) - 1) 9000 ∧ (inB ((s3.1 108) - 1) 9000 ∧ (EvM l E w d MX10_store [.ref w.1, .int (s3.2.2.1 82 x1.toNatClampNeg), .int (s3.2.2.1 106 ((s3.1 108) - 1).toNatClampNeg), .int (s3.2.2.1 107 ((s3.1 108) - 1).toNatClampNeg)] (sI (sA s3 139 y2.toNatClampNeg ((s3.2.2.1 139 y2.toNatClampNeg) + 1)) 108 ((s3.1 108) - 1)) (fun r s4 => r = none ∧ Q none s4)))))))))))) ∧ ((s1.2.2.1 138 y2.toNatClampNeg) = (-1) → (inB y2 400 ∧ (EvM l E w d MX10_push [.ref w.1, .int 0, .int (s1.2.2.1 139 y2.toNatClampNeg)] s1 (fun r s5 => r = none ∧ (inB y2 400 ∧ (inB y2 400 ∧ (inB x1 8000 ∧ (inB ((s5.1 108) - 1) 9000 ∧ (inB ((s5.1 108) - 1) 9000 ∧ (EvM l E w d MX10_store [.ref w.1, .int (s5.2.2.1 82 x1.toNatClampNeg), .int (s5.2.2.1 106 ((s5.1 108) - 1).toNatClampNeg), .int (s5.2.2.1 107 ((s5.1 108) - 1).toNatClampNeg)] (sI (sA s5 139 y2.toNatClampNeg ((s5.2.2.1 139 y2.toNatClampNeg) + 1)) 108 ((s5.1 108) - 1)) (fun r s6 => r = none ∧ Q none s6)))))))))))))) ∧ ((s1.2.2.1 139 y2.toNatClampNeg) = (s1.2.2.1 140 y2.toNatClampNeg) → (inB x1 8000 ∧ Q none (sI (sI s1 136 ((s1.1 136) - 1)) 126 (s1.2.2.1 81 x1.toNatClampNeg))))))))) ∧ (¬ (s1.1 123) ≤ 0 → Q none s1))))) : EvM l E w (d + 1) MX10_forNext [.ref w.1, .int x1] s Q :=
  EvM.of hst (by decide) (Nat.le_of_ble_eq_true rfl) (vX10_forNext_0 hT)
set_option maxHeartbeats 16000000 in
theorem vX10_ofOne_0 {l : Launch} {E : EN} {w : MO} {d : Nat} {s : MS} {Q : Option Value → MS → Prop} {x1 : Int32} (hT : (inB x1 8000 ∧ (∀ y1 : Int32, y1 = (s.2.2.1 80 x1.toNatClampNeg) → ((y1 = 14 → (inB (s.1 108) 9000 ∧ (((s.2.2.1 106 (s.1 108).toNatClampNeg) = 0 → ((¬ y1 = 14 → (inB (s.1 108) 9000 ∧ (EvM l E w d MX10_trouble [.ref w.1, .int 9, .int (s.1 127)] (sI s 122 (s.2.2.1 107 (s.1 108).toNatClampNeg)) (fun r s2 => r = none ∧ Q none s2)))) ∧ (y1 = 14 → (inB (s.1 108) 9000 ∧ ((¬ (s.2.2.1 107 (s.1 108).toNatClampNeg) = 0 → Q none s) ∧ ((s.2.2.1 107 (s.1 108).toNatClampNeg) = 0 → (inB x1 8000 ∧ Q none (sI s 126 (s.2.2.1 81 x1.toNatClampNeg))))))))) ∧ (¬ (s.2.2.1 106 (s.1 108).toNatClampNeg) = 0 → (EvM l E w d MX10_trouble [.ref w.1, .int 3, .int (s.1 127)] s (fun r s3 => r = none ∧ Q none s3)))))) ∧ (¬ y1 = 14 → ((¬ y1 = 21 → ((¬ y1 = 17 → ((¬ y1 = 19 → (inB (s.1 108) 9000 ∧ (∀ y4 : Int32, y4 = (s.2.2.1 106 (s.1 108).toNatClampNeg) → (inB (s.1 108) 9000 ∧ (∀ y5 : Int32, y5 = (s.2.2.1 107 (s.1 108).toNatClampNeg) → (inB ((s.1 130) - 1) 10 ∧ (inB ((s.1 130) - 1) 10 ∧ (inB ((s.1 130) - 1) 10 ∧ (EvM l E w d MX10_push [.ref w.1, .int y4, .int y5] (sI (sI (sI (sI s 130 ((s.1 130) - 1)) 136 (s.2.2.1 133 ((s.1 130) - 1).toNatClampNeg)) 108 (s.2.2.1 131 ((s.1 130) - 1).toNatClampNeg)) 126 (s.2.2.1 132 ((s.1 130) - 1).toNatClampNeg)) (fun r s6 => r = none ∧ Q none s6)))))))))) ∧ (y1 = 19 → (inB (s.1 108) 9000 ∧ ((¬ (s.2.2.1 106 (s.1 108).toNatClampNeg) = 0 → (inB (s.1 108) 9000 ∧ (EvM l E w d MX10_form [.ref w.1, .int (s.2.2.1 107 (s.1 108).toNatClampNeg)] s (fun r s7 => r = none ∧ (EvM l E w d MX10_says [.ref w.1, .int 10] s7 (fun r s8 => r = none ∧ Q none s8)))))) ∧ ((s.2.2.1 106 (s.1 108).toNatClampNeg) = 0 → (inB (s.1 108) 9000 ∧ (EvM l E w d MX10_number [.ref w.1, .int (s.2.2.1 107 (s.1 108).toNatClampNeg)] s (fun r s9 => r = none ∧ (EvM l E w d MX10_says [.ref w.1, .int 10] s9 (fun r s10 => r = none ∧ Q none s10))))))))))) ∧ (y1 = 17 → (inB (s.1 108) 9000 ∧ ((¬ (s.2.2.1 106 (s.1 108).toNatClampNeg) = 0 → (inB (s.1 108) 9000 ∧ ((¬ (s.2.2.1 106 (s.1 108).toNatClampNeg) = 0 → (inB (s.1 108) 9000 ∧ (inB (s.1 108) 9000 ∧ (EvM l E w d MX10_sizeAt [.ref w.1, .int (s.2.2.1 107 (s.1 108).toNatClampNeg)] s (fun r s11 => ∃ v12 : Int32, r = some (.int v12) ∧ (EvM l E w d MX10_way [.ref w.1, .int 1, .int (s.2.2.1 107 (s.1 108).toNatClampNeg), .int v12, .int 0] s11 (fun r s13 => r = none ∧ Q none s13))))))) ∧ ((s.2.2.1 106 (s.1 108).toNatClampNeg) = 0 → (inB (s.1 108) 9000 ∧ (EvM l E w d MX10_way [.ref w.1, .int 1, .int (-1), .int (s.2.2.1 107 (s.1 108).toNatClampNeg), .int 0] s (fun r s14 => r = none ∧ Q none s14))))))) ∧ ((s.2.2.1 106 (s.1 108).toNatClampNeg) = 0 → (inB (s.1 108) 9000 ∧ ((0 ≤ (s.2.2.1 107 (s.1 108).toNatClampNeg) → (inB (s.1 108) 9000 ∧ ((¬ (s.2.2.1 106 (s.1 108).toNatClampNeg) = 0 → (inB (s.1 108) 9000 ∧ (inB (s.1 108) 9000 ∧ (EvM l E w d MX10_sizeAt [.ref w.1, .int (s.2.2.1 107 (s.1 108).toNatClampNeg)] s (fun r s15 => ∃ v16 : Int32, r = some (.int v16) ∧ (EvM l E w d MX10_way [.ref w.1, .int 1, .int (s.2.2.1 107 (s.1 108).toNatClampNeg), .int v16, .int 0] s15 (fun r s17 => r = none ∧ Q none s17))))))) ∧ ((s.2.2.1 106 (s.1 108).toNatClampNeg) = 0 → (inB (s.1 108) 9000 ∧ (EvM l E w d MX10_way [.ref w.1, .int 1, .int (-1), .int (s.2.2.1 107 (s.1 108).toNatClampNeg), .int 0] s (fun r s18 => r = none ∧ Q none s18))))))) ∧ (¬ 0 ≤ (s.2.2.1 107 (s.1 108).toNatClampNeg) → (EvM l E w d MX10_trouble [.ref w.1, .int 1, .int (s.1 127)] s (fun r s19 => r = none ∧ Q none s19))))))))))) ∧ (y1 = 21 → (inB (s.1 108) 9000 ∧ (((s.2.2.1 106 (s.1 108).toNatClampNeg) = 0 → ((¬ y1 = 14 → (inB (s.1 108) 9000 ∧ (EvM l E w d MX10_trouble [.ref w.1, .int 9, .int (s.1 127)] (sI s 122 (s.2.2.1 107 (s.1 108).toNatClampNeg)) (fun r s20 => r = none ∧ Q none s20)))) ∧ (y1 = 14 → (inB (s.1 108) 9000 ∧ ((¬ (s.2.2.1 107 (s.1 108).toNatClampNeg) = 0 → Q none s) ∧ ((s.2.2.1 107 (s.1 108).toNatClampNeg) = 0 → (inB x1 8000 ∧ Q none (sI s 126 (s.2.2.1 81 x1.toNatClampNeg))))))))) ∧ (¬ (s.2.2.1 106 (s.1 108).toNatClampNeg) = 0 → (EvM l E w d MX10_trouble [.ref w.1, .int 3, .int (s.1 127)] s (fun r s21 => r = none ∧ Q none s21)))))))))))) : ExM l E w (d + 1) MX10_ofOne 0 [some (.ref w.1), some (.int x1), none, none, none] [] s Q := by
  intro h0 h hW hF
  refine x_aload_n dX10_ofOne_0 rfl rfl rfl ?_
  refine m_geta dX10_ofOne_1 f_TallySlateModel_121 (by decide) rfl hW ?_
  refine x_iload_n dX10_ofOne_4 rfl rfl ?_
  obtain ⟨hb, hT⟩ := hT
  refine m_iald (v := (s.2.2.1 80 x1.toNatClampNeg)) dX10_ofOne_5 rfl hb hW rfl ?_
  obtain ⟨y1, ey1⟩ : ∃ z : Int32, z = (s.2.2.1 80 x1.toNatClampNeg) := ⟨_, rfl⟩
  have hT := hT y1 ey1
  refine x_istore_n (lo' := [some (.ref w.1), some (.int x1), some (.int y1), none, none]) dX10_ofOne_6 rfl (Nat.le_of_ble_eq_true rfl) (by rw [ey1]; rfl) ?_
  refine x_iload_n dX10_ofOne_7 rfl rfl ?_
  refine x_bipush (v := 14) dX10_ofOne_8 rfl ?_
  refine x_icmp_eq (tgt := 19) dX10_ofOne_10 rfl (fun c => ?_) (fun c => ?_)
  · have hT := hT.1 c
    refine x_aload_n dX10_ofOne_19 rfl rfl rfl ?_
    refine m_geta dX10_ofOne_20 f_TallySlateModel_186 (by decide) rfl hW ?_
    refine x_aload_n dX10_ofOne_23 rfl rfl rfl ?_
    refine m_geti (v := (s.1 108)) dX10_ofOne_24 f_TallySlateModel_461 (by decide) rfl hW rfl ?_
    obtain ⟨hb, hT⟩ := hT
    refine m_iald (v := (s.2.2.1 106 (s.1 108).toNatClampNeg)) dX10_ofOne_27 rfl hb hW rfl ?_
    refine x_if_eq (tgt := 43) dX10_ofOne_28 rfl (fun c => ?_) (fun c => ?_)
    · have hT := hT.1 c
      refine x_iload_n dX10_ofOne_43 rfl rfl ?_
      refine x_bipush (v := 14) dX10_ofOne_44 rfl ?_
      refine x_icmp_ne (tgt := 74) dX10_ofOne_46 rfl (fun c => ?_) (fun c => ?_)
      · have hT := hT.1 c
        refine x_aload_n dX10_ofOne_74 rfl rfl rfl ?_
        refine x_aload_n dX10_ofOne_75 rfl rfl rfl ?_
        refine m_geta dX10_ofOne_76 f_TallySlateModel_189 (by decide) rfl hW ?_
        refine x_aload_n dX10_ofOne_79 rfl rfl rfl ?_
        refine m_geti (v := (s.1 108)) dX10_ofOne_80 f_TallySlateModel_461 (by decide) rfl hW rfl ?_
        obtain ⟨hb, hT⟩ := hT
        refine m_iald (v := (s.2.2.1 107 (s.1 108).toNatClampNeg)) dX10_ofOne_83 rfl hb hW rfl ?_
        refine m_puti dX10_ofOne_84 f_TallySlateModel_543 (by decide) rfl rfl rfl rfl hW hF ?_
        intro h hW hF
        refine x_aload_n dX10_ofOne_87 rfl rfl rfl ?_
        refine x_bipush (v := 9) dX10_ofOne_88 rfl ?_
        refine x_aload_n dX10_ofOne_90 rfl rfl rfl ?_
        refine m_geti (v := (s.1 127)) dX10_ofOne_91 f_TallySlateModel_507 (by decide) rfl hW rfl ?_
        refine m_inv (vs := [.int 9, .int (s.1 127)]) dX10_ofOne_94 oX10_trouble q2696 q2694 qs98 rfl rfl (Nat.le_of_ble_eq_true rfl) rfl hW hF hT ?_
        rintro _ s2 ⟨rfl, hT⟩ h hW hF
        refine x_goto (tgt := 337) dX10_ofOne_97 rfl ?_
        exact x_vret dX10_ofOne_337 rfl ⟨_, _, rfl, hW, hF, hT⟩
      · have hT := hT.2 c
        refine x_aload_n dX10_ofOne_49 rfl rfl rfl ?_
        refine m_geta dX10_ofOne_50 f_TallySlateModel_189 (by decide) rfl hW ?_
        refine x_aload_n dX10_ofOne_53 rfl rfl rfl ?_
        refine m_geti (v := (s.1 108)) dX10_ofOne_54 f_TallySlateModel_461 (by decide) rfl hW rfl ?_
        obtain ⟨hb, hT⟩ := hT
        refine m_iald (v := (s.2.2.1 107 (s.1 108).toNatClampNeg)) dX10_ofOne_57 rfl hb hW rfl ?_
        refine x_if_ne (tgt := 337) dX10_ofOne_58 rfl (fun c => ?_) (fun c => ?_)
        · have hT := hT.1 c
          exact x_vret dX10_ofOne_337 rfl ⟨_, _, rfl, hW, hF, hT⟩
        · have hT := hT.2 c
          refine x_aload_n dX10_ofOne_61 rfl rfl rfl ?_
          refine x_aload_n dX10_ofOne_62 rfl rfl rfl ?_
          refine m_geta dX10_ofOne_63 f_TallySlateModel_124 (by decide) rfl hW ?_
          refine x_iload_n dX10_ofOne_66 rfl rfl ?_
          obtain ⟨hb, hT⟩ := hT
          refine m_iald (v := (s.2.2.1 81 x1.toNatClampNeg)) dX10_ofOne_67 rfl hb hW rfl ?_
          refine m_puti dX10_ofOne_68 f_TallySlateModel_540 (by decide) rfl rfl rfl rfl hW hF ?_
          intro h hW hF
          refine x_goto (tgt := 337) dX10_ofOne_71 rfl ?_
          exact x_vret dX10_ofOne_337 rfl ⟨_, _, rfl, hW, hF, hT⟩
    · have hT := hT.2 c
      refine x_aload_n dX10_ofOne_31 rfl rfl rfl ?_
      refine x_iconst (v := 3) dX10_ofOne_32 rfl ?_
      refine x_aload_n dX10_ofOne_33 rfl rfl rfl ?_
      refine m_geti (v := (s.1 127)) dX10_ofOne_34 f_TallySlateModel_507 (by decide) rfl hW rfl ?_
      refine m_inv (vs := [.int 3, .int (s.1 127)]) dX10_ofOne_37 oX10_trouble q2696 q2694 qs98 rfl rfl (Nat.le_of_ble_eq_true rfl) rfl hW hF hT ?_
      rintro _ s3 ⟨rfl, hT⟩ h hW hF
      refine x_goto (tgt := 337) dX10_ofOne_40 rfl ?_
      exact x_vret dX10_ofOne_337 rfl ⟨_, _, rfl, hW, hF, hT⟩
  · have hT := hT.2 c
    refine x_iload_n dX10_ofOne_13 rfl rfl ?_
    refine x_bipush (v := 21) dX10_ofOne_14 rfl ?_
    refine x_icmp_ne (tgt := 100) dX10_ofOne_16 rfl (fun c => ?_) (fun c => ?_)
    · have hT := hT.1 c
      refine x_iload_n dX10_ofOne_100 rfl rfl ?_
      refine x_bipush (v := 17) dX10_ofOne_101 rfl ?_
      refine x_icmp_ne (tgt := 204) dX10_ofOne_103 rfl (fun c => ?_) (fun c => ?_)
      · have hT := hT.1 c
        refine x_iload_n dX10_ofOne_204 rfl rfl ?_
        refine x_bipush (v := 19) dX10_ofOne_205 rfl ?_
        refine x_icmp_ne (tgt := 260) dX10_ofOne_207 rfl (fun c => ?_) (fun c => ?_)
        · have hT := hT.1 c
          refine x_aload_n dX10_ofOne_260 rfl rfl rfl ?_
          refine m_geta dX10_ofOne_261 f_TallySlateModel_186 (by decide) rfl hW ?_
          refine x_aload_n dX10_ofOne_264 rfl rfl rfl ?_
          refine m_geti (v := (s.1 108)) dX10_ofOne_265 f_TallySlateModel_461 (by decide) rfl hW rfl ?_
          obtain ⟨hb, hT⟩ := hT
          refine m_iald (v := (s.2.2.1 106 (s.1 108).toNatClampNeg)) dX10_ofOne_268 rfl hb hW rfl ?_
          obtain ⟨y4, ey4⟩ : ∃ z : Int32, z = (s.2.2.1 106 (s.1 108).toNatClampNeg) := ⟨_, rfl⟩
          have hT := hT y4 ey4
          refine x_istore_n (lo' := [some (.ref w.1), some (.int x1), some (.int y1), some (.int y4), none]) dX10_ofOne_269 rfl (Nat.le_of_ble_eq_true rfl) (by rw [ey4]; rfl) ?_
          refine x_aload_n dX10_ofOne_270 rfl rfl rfl ?_
          refine m_geta dX10_ofOne_271 f_TallySlateModel_189 (by decide) rfl hW ?_
          refine x_aload_n dX10_ofOne_274 rfl rfl rfl ?_
          refine m_geti (v := (s.1 108)) dX10_ofOne_275 f_TallySlateModel_461 (by decide) rfl hW rfl ?_
          obtain ⟨hb, hT⟩ := hT
          refine m_iald (v := (s.2.2.1 107 (s.1 108).toNatClampNeg)) dX10_ofOne_278 rfl hb hW rfl ?_
          obtain ⟨y5, ey5⟩ : ∃ z : Int32, z = (s.2.2.1 107 (s.1 108).toNatClampNeg) := ⟨_, rfl⟩
          have hT := hT y5 ey5
          refine x_istore (lo' := [some (.ref w.1), some (.int x1), some (.int y1), some (.int y4), some (.int y5)]) dX10_ofOne_279 (Nat.le_of_ble_eq_true rfl) (by rw [ey5]; rfl) ?_
          refine x_aload_n dX10_ofOne_281 rfl rfl rfl ?_
          refine x_dup dX10_ofOne_282 rfl ?_
          refine m_geti (v := (s.1 130)) dX10_ofOne_283 f_TallySlateModel_531 (by decide) rfl hW rfl ?_
          refine x_iconst (v := 1) dX10_ofOne_286 rfl ?_
          refine x_isub dX10_ofOne_287 ?_
          refine m_puti dX10_ofOne_288 f_TallySlateModel_531 (by decide) rfl rfl rfl rfl hW hF ?_
          intro h hW hF
          refine x_aload_n dX10_ofOne_291 rfl rfl rfl ?_
          refine x_aload_n dX10_ofOne_292 rfl rfl rfl ?_
          refine m_geta dX10_ofOne_293 f_TallySlateModel_222 (by decide) rfl hW ?_
          refine x_aload_n dX10_ofOne_296 rfl rfl rfl ?_
          refine m_geti (v := ((s.1 130) - 1)) dX10_ofOne_297 f_TallySlateModel_531 (by decide) rfl hW rfl ?_
          obtain ⟨hb, hT⟩ := hT
          refine m_iald (v := (s.2.2.1 133 ((s.1 130) - 1).toNatClampNeg)) dX10_ofOne_300 rfl hb hW rfl ?_
          refine m_puti dX10_ofOne_301 f_TallySlateModel_534 (by decide) rfl rfl rfl rfl hW hF ?_
          intro h hW hF
          refine x_aload_n dX10_ofOne_304 rfl rfl rfl ?_
          refine x_aload_n dX10_ofOne_305 rfl rfl rfl ?_
          refine m_geta dX10_ofOne_306 f_TallySlateModel_216 (by decide) rfl hW ?_
          refine x_aload_n dX10_ofOne_309 rfl rfl rfl ?_
          refine m_geti (v := ((s.1 130) - 1)) dX10_ofOne_310 f_TallySlateModel_531 (by decide) rfl hW rfl ?_
          obtain ⟨hb, hT⟩ := hT
          refine m_iald (v := (s.2.2.1 131 ((s.1 130) - 1).toNatClampNeg)) dX10_ofOne_313 rfl hb hW rfl ?_
          refine m_puti dX10_ofOne_314 f_TallySlateModel_461 (by decide) rfl rfl rfl rfl hW hF ?_
          intro h hW hF
          refine x_aload_n dX10_ofOne_317 rfl rfl rfl ?_
          refine x_aload_n dX10_ofOne_318 rfl rfl rfl ?_
          refine m_geta dX10_ofOne_319 f_TallySlateModel_219 (by decide) rfl hW ?_
          refine x_aload_n dX10_ofOne_322 rfl rfl rfl ?_
          refine m_geti (v := ((s.1 130) - 1)) dX10_ofOne_323 f_TallySlateModel_531 (by decide) rfl hW rfl ?_
          obtain ⟨hb, hT⟩ := hT
          refine m_iald (v := (s.2.2.1 132 ((s.1 130) - 1).toNatClampNeg)) dX10_ofOne_326 rfl hb hW rfl ?_
          refine m_puti dX10_ofOne_327 f_TallySlateModel_540 (by decide) rfl rfl rfl rfl hW hF ?_
          intro h hW hF
          refine x_aload_n dX10_ofOne_330 rfl rfl rfl ?_
          refine x_iload_n dX10_ofOne_331 rfl rfl ?_
          refine x_iload dX10_ofOne_332 rfl ?_
          refine m_inv (vs := [.int y4, .int y5]) dX10_ofOne_334 oX10_push q2708 q2706 qs101 rfl rfl (Nat.le_of_ble_eq_true rfl) rfl hW hF hT ?_
          rintro _ s6 ⟨rfl, hT⟩ h hW hF
          exact x_vret dX10_ofOne_337 rfl ⟨_, _, rfl, hW, hF, hT⟩
        · have hT := hT.2 c
          refine x_aload_n dX10_ofOne_210 rfl rfl rfl ?_
          refine m_geta dX10_ofOne_211 f_TallySlateModel_186 (by decide) rfl hW ?_
          refine x_aload_n dX10_ofOne_214 rfl rfl rfl ?_
          refine m_geti (v := (s.1 108)) dX10_ofOne_215 f_TallySlateModel_461 (by decide) rfl hW rfl ?_
          obtain ⟨hb, hT⟩ := hT
          refine m_iald (v := (s.2.2.1 106 (s.1 108).toNatClampNeg)) dX10_ofOne_218 rfl hb hW rfl ?_
          refine x_if_ne (tgt := 238) dX10_ofOne_219 rfl (fun c => ?_) (fun c => ?_)
          · have hT := hT.1 c
            refine x_aload_n dX10_ofOne_238 rfl rfl rfl ?_
            refine x_aload_n dX10_ofOne_239 rfl rfl rfl ?_
            refine m_geta dX10_ofOne_240 f_TallySlateModel_189 (by decide) rfl hW ?_
            refine x_aload_n dX10_ofOne_243 rfl rfl rfl ?_
            refine m_geti (v := (s.1 108)) dX10_ofOne_244 f_TallySlateModel_461 (by decide) rfl hW rfl ?_
            obtain ⟨hb, hT⟩ := hT
            refine m_iald (v := (s.2.2.1 107 (s.1 108).toNatClampNeg)) dX10_ofOne_247 rfl hb hW rfl ?_
            refine m_inv (vs := [.int (s.2.2.1 107 (s.1 108).toNatClampNeg)]) dX10_ofOne_248 oX10_form q2924 q2922 qs151 rfl rfl (Nat.le_of_ble_eq_true rfl) rfl hW hF hT ?_
            rintro _ s7 ⟨rfl, hT⟩ h hW hF
            refine x_aload_n dX10_ofOne_251 rfl rfl rfl ?_
            refine x_bipush (v := 10) dX10_ofOne_252 rfl ?_
            refine m_inv (vs := [.int 10]) dX10_ofOne_254 oX10_says q2919 q2917 qs150 rfl rfl (Nat.le_of_ble_eq_true rfl) rfl hW hF hT ?_
            rintro _ s8 ⟨rfl, hT⟩ h hW hF
            refine x_goto (tgt := 337) dX10_ofOne_257 rfl ?_
            exact x_vret dX10_ofOne_337 rfl ⟨_, _, rfl, hW, hF, hT⟩
          · have hT := hT.2 c
            refine x_aload_n dX10_ofOne_222 rfl rfl rfl ?_
            refine x_aload_n dX10_ofOne_223 rfl rfl rfl ?_
            refine m_geta dX10_ofOne_224 f_TallySlateModel_189 (by decide) rfl hW ?_
            refine x_aload_n dX10_ofOne_227 rfl rfl rfl ?_
            refine m_geti (v := (s.1 108)) dX10_ofOne_228 f_TallySlateModel_461 (by decide) rfl hW rfl ?_
            obtain ⟨hb, hT⟩ := hT
            refine m_iald (v := (s.2.2.1 107 (s.1 108).toNatClampNeg)) dX10_ofOne_231 rfl hb hW rfl ?_
            refine m_inv (vs := [.int (s.2.2.1 107 (s.1 108).toNatClampNeg)]) dX10_ofOne_232 oX10_number q2915 q2913 qs149 rfl rfl (Nat.le_of_ble_eq_true rfl) rfl hW hF hT ?_
            rintro _ s9 ⟨rfl, hT⟩ h hW hF
            refine x_goto (tgt := 251) dX10_ofOne_235 rfl ?_
            refine x_aload_n dX10_ofOne_251 rfl rfl rfl ?_
            refine x_bipush (v := 10) dX10_ofOne_252 rfl ?_
            refine m_inv (vs := [.int 10]) dX10_ofOne_254 oX10_says q2919 q2917 qs150 rfl rfl (Nat.le_of_ble_eq_true rfl) rfl hW hF hT ?_
            rintro _ s10 ⟨rfl, hT⟩ h hW hF
            refine x_goto (tgt := 337) dX10_ofOne_257 rfl ?_
            exact x_vret dX10_ofOne_337 rfl ⟨_, _, rfl, hW, hF, hT⟩
      · have hT := hT.2 c
        refine x_aload_n dX10_ofOne_106 rfl rfl rfl ?_
        refine m_geta dX10_ofOne_107 f_TallySlateModel_186 (by decide) rfl hW ?_
        refine x_aload_n dX10_ofOne_110 rfl rfl rfl ?_
        refine m_geti (v := (s.1 108)) dX10_ofOne_111 f_TallySlateModel_461 (by decide) rfl hW rfl ?_
        obtain ⟨hb, hT⟩ := hT
        refine m_iald (v := (s.2.2.1 106 (s.1 108).toNatClampNeg)) dX10_ofOne_114 rfl hb hW rfl ?_
        refine x_if_ne (tgt := 142) dX10_ofOne_115 rfl (fun c => ?_) (fun c => ?_)
        · have hT := hT.1 c
          refine x_aload_n dX10_ofOne_142 rfl rfl rfl ?_
          refine m_geta dX10_ofOne_143 f_TallySlateModel_186 (by decide) rfl hW ?_
          refine x_aload_n dX10_ofOne_146 rfl rfl rfl ?_
          refine m_geti (v := (s.1 108)) dX10_ofOne_147 f_TallySlateModel_461 (by decide) rfl hW rfl ?_
          obtain ⟨hb, hT⟩ := hT
          refine m_iald (v := (s.2.2.1 106 (s.1 108).toNatClampNeg)) dX10_ofOne_150 rfl hb hW rfl ?_
          refine x_if_ne (tgt := 173) dX10_ofOne_151 rfl (fun c => ?_) (fun c => ?_)
          · have hT := hT.1 c
            refine x_aload_n dX10_ofOne_173 rfl rfl rfl ?_
            refine x_iconst (v := 1) dX10_ofOne_174 rfl ?_
            refine x_aload_n dX10_ofOne_175 rfl rfl rfl ?_
            refine m_geta dX10_ofOne_176 f_TallySlateModel_189 (by decide) rfl hW ?_
            refine x_aload_n dX10_ofOne_179 rfl rfl rfl ?_
            refine m_geti (v := (s.1 108)) dX10_ofOne_180 f_TallySlateModel_461 (by decide) rfl hW rfl ?_
            obtain ⟨hb, hT⟩ := hT
            refine m_iald (v := (s.2.2.1 107 (s.1 108).toNatClampNeg)) dX10_ofOne_183 rfl hb hW rfl ?_
            refine x_aload_n dX10_ofOne_184 rfl rfl rfl ?_
            refine x_aload_n dX10_ofOne_185 rfl rfl rfl ?_
            refine m_geta dX10_ofOne_186 f_TallySlateModel_189 (by decide) rfl hW ?_
            refine x_aload_n dX10_ofOne_189 rfl rfl rfl ?_
            refine m_geti (v := (s.1 108)) dX10_ofOne_190 f_TallySlateModel_461 (by decide) rfl hW rfl ?_
            obtain ⟨hb, hT⟩ := hT
            refine m_iald (v := (s.2.2.1 107 (s.1 108).toNatClampNeg)) dX10_ofOne_193 rfl hb hW rfl ?_
            refine m_inv (vs := [.int (s.2.2.1 107 (s.1 108).toNatClampNeg)]) dX10_ofOne_194 oX10_sizeAt q2735 q2733 qs107 rfl rfl (Nat.le_of_ble_eq_true rfl) rfl hW hF hT ?_
            rintro _ s11 ⟨v12, rfl, hT⟩ h hW hF
            refine x_iconst (v := 0) dX10_ofOne_197 rfl ?_
            refine m_inv (vs := [.int 1, .int (s.2.2.1 107 (s.1 108).toNatClampNeg), .int v12, .int 0]) dX10_ofOne_198 oX10_way q2891 q2889 qs143 rfl rfl (Nat.le_of_ble_eq_true rfl) rfl hW hF hT ?_
            rintro _ s13 ⟨rfl, hT⟩ h hW hF
            refine x_goto (tgt := 337) dX10_ofOne_201 rfl ?_
            exact x_vret dX10_ofOne_337 rfl ⟨_, _, rfl, hW, hF, hT⟩
          · have hT := hT.2 c
            refine x_aload_n dX10_ofOne_154 rfl rfl rfl ?_
            refine x_iconst (v := 1) dX10_ofOne_155 rfl ?_
            refine x_iconst (v := (-1)) dX10_ofOne_156 rfl ?_
            refine x_aload_n dX10_ofOne_157 rfl rfl rfl ?_
            refine m_geta dX10_ofOne_158 f_TallySlateModel_189 (by decide) rfl hW ?_
            refine x_aload_n dX10_ofOne_161 rfl rfl rfl ?_
            refine m_geti (v := (s.1 108)) dX10_ofOne_162 f_TallySlateModel_461 (by decide) rfl hW rfl ?_
            obtain ⟨hb, hT⟩ := hT
            refine m_iald (v := (s.2.2.1 107 (s.1 108).toNatClampNeg)) dX10_ofOne_165 rfl hb hW rfl ?_
            refine x_iconst (v := 0) dX10_ofOne_166 rfl ?_
            refine m_inv (vs := [.int 1, .int (-1), .int (s.2.2.1 107 (s.1 108).toNatClampNeg), .int 0]) dX10_ofOne_167 oX10_way q2891 q2889 qs143 rfl rfl (Nat.le_of_ble_eq_true rfl) rfl hW hF hT ?_
            rintro _ s14 ⟨rfl, hT⟩ h hW hF
            refine x_goto (tgt := 337) dX10_ofOne_170 rfl ?_
            exact x_vret dX10_ofOne_337 rfl ⟨_, _, rfl, hW, hF, hT⟩
        · have hT := hT.2 c
          refine x_aload_n dX10_ofOne_118 rfl rfl rfl ?_
          refine m_geta dX10_ofOne_119 f_TallySlateModel_189 (by decide) rfl hW ?_
          refine x_aload_n dX10_ofOne_122 rfl rfl rfl ?_
          refine m_geti (v := (s.1 108)) dX10_ofOne_123 f_TallySlateModel_461 (by decide) rfl hW rfl ?_
          obtain ⟨hb, hT⟩ := hT
          refine m_iald (v := (s.2.2.1 107 (s.1 108).toNatClampNeg)) dX10_ofOne_126 rfl hb hW rfl ?_
          refine x_if_ge (tgt := 142) dX10_ofOne_127 rfl (fun c => ?_) (fun c => ?_)
          · have hT := hT.1 c
            refine x_aload_n dX10_ofOne_142 rfl rfl rfl ?_
            refine m_geta dX10_ofOne_143 f_TallySlateModel_186 (by decide) rfl hW ?_
            refine x_aload_n dX10_ofOne_146 rfl rfl rfl ?_
            refine m_geti (v := (s.1 108)) dX10_ofOne_147 f_TallySlateModel_461 (by decide) rfl hW rfl ?_
            obtain ⟨hb, hT⟩ := hT
            refine m_iald (v := (s.2.2.1 106 (s.1 108).toNatClampNeg)) dX10_ofOne_150 rfl hb hW rfl ?_
            refine x_if_ne (tgt := 173) dX10_ofOne_151 rfl (fun c => ?_) (fun c => ?_)
            · have hT := hT.1 c
              refine x_aload_n dX10_ofOne_173 rfl rfl rfl ?_
              refine x_iconst (v := 1) dX10_ofOne_174 rfl ?_
              refine x_aload_n dX10_ofOne_175 rfl rfl rfl ?_
              refine m_geta dX10_ofOne_176 f_TallySlateModel_189 (by decide) rfl hW ?_
              refine x_aload_n dX10_ofOne_179 rfl rfl rfl ?_
              refine m_geti (v := (s.1 108)) dX10_ofOne_180 f_TallySlateModel_461 (by decide) rfl hW rfl ?_
              obtain ⟨hb, hT⟩ := hT
              refine m_iald (v := (s.2.2.1 107 (s.1 108).toNatClampNeg)) dX10_ofOne_183 rfl hb hW rfl ?_
              refine x_aload_n dX10_ofOne_184 rfl rfl rfl ?_
              refine x_aload_n dX10_ofOne_185 rfl rfl rfl ?_
              refine m_geta dX10_ofOne_186 f_TallySlateModel_189 (by decide) rfl hW ?_
              refine x_aload_n dX10_ofOne_189 rfl rfl rfl ?_
              refine m_geti (v := (s.1 108)) dX10_ofOne_190 f_TallySlateModel_461 (by decide) rfl hW rfl ?_
              obtain ⟨hb, hT⟩ := hT
              refine m_iald (v := (s.2.2.1 107 (s.1 108).toNatClampNeg)) dX10_ofOne_193 rfl hb hW rfl ?_
              refine m_inv (vs := [.int (s.2.2.1 107 (s.1 108).toNatClampNeg)]) dX10_ofOne_194 oX10_sizeAt q2735 q2733 qs107 rfl rfl (Nat.le_of_ble_eq_true rfl) rfl hW hF hT ?_
              rintro _ s15 ⟨v16, rfl, hT⟩ h hW hF
              refine x_iconst (v := 0) dX10_ofOne_197 rfl ?_
              refine m_inv (vs := [.int 1, .int (s.2.2.1 107 (s.1 108).toNatClampNeg), .int v16, .int 0]) dX10_ofOne_198 oX10_way q2891 q2889 qs143 rfl rfl (Nat.le_of_ble_eq_true rfl) rfl hW hF hT ?_
              rintro _ s17 ⟨rfl, hT⟩ h hW hF
              refine x_goto (tgt := 337) dX10_ofOne_201 rfl ?_
              exact x_vret dX10_ofOne_337 rfl ⟨_, _, rfl, hW, hF, hT⟩
            · have hT := hT.2 c
              refine x_aload_n dX10_ofOne_154 rfl rfl rfl ?_
              refine x_iconst (v := 1) dX10_ofOne_155 rfl ?_
              refine x_iconst (v := (-1)) dX10_ofOne_156 rfl ?_
              refine x_aload_n dX10_ofOne_157 rfl rfl rfl ?_
              refine m_geta dX10_ofOne_158 f_TallySlateModel_189 (by decide) rfl hW ?_
              refine x_aload_n dX10_ofOne_161 rfl rfl rfl ?_
              refine m_geti (v := (s.1 108)) dX10_ofOne_162 f_TallySlateModel_461 (by decide) rfl hW rfl ?_
              obtain ⟨hb, hT⟩ := hT
              refine m_iald (v := (s.2.2.1 107 (s.1 108).toNatClampNeg)) dX10_ofOne_165 rfl hb hW rfl ?_
              refine x_iconst (v := 0) dX10_ofOne_166 rfl ?_
              refine m_inv (vs := [.int 1, .int (-1), .int (s.2.2.1 107 (s.1 108).toNatClampNeg), .int 0]) dX10_ofOne_167 oX10_way q2891 q2889 qs143 rfl rfl (Nat.le_of_ble_eq_true rfl) rfl hW hF hT ?_
              rintro _ s18 ⟨rfl, hT⟩ h hW hF
              refine x_goto (tgt := 337) dX10_ofOne_170 rfl ?_
              exact x_vret dX10_ofOne_337 rfl ⟨_, _, rfl, hW, hF, hT⟩
          · have hT := hT.2 c
            refine x_aload_n dX10_ofOne_130 rfl rfl rfl ?_
            refine x_iconst (v := 1) dX10_ofOne_131 rfl ?_
            refine x_aload_n dX10_ofOne_132 rfl rfl rfl ?_
            refine m_geti (v := (s.1 127)) dX10_ofOne_133 f_TallySlateModel_507 (by decide) rfl hW rfl ?_
            refine m_inv (vs := [.int 1, .int (s.1 127)]) dX10_ofOne_136 oX10_trouble q2696 q2694 qs98 rfl rfl (Nat.le_of_ble_eq_true rfl) rfl hW hF hT ?_
            rintro _ s19 ⟨rfl, hT⟩ h hW hF
            refine x_goto (tgt := 337) dX10_ofOne_139 rfl ?_
            exact x_vret dX10_ofOne_337 rfl ⟨_, _, rfl, hW, hF, hT⟩
    · have hT := hT.2 c
      refine x_aload_n dX10_ofOne_19 rfl rfl rfl ?_
      refine m_geta dX10_ofOne_20 f_TallySlateModel_186 (by decide) rfl hW ?_
      refine x_aload_n dX10_ofOne_23 rfl rfl rfl ?_
      refine m_geti (v := (s.1 108)) dX10_ofOne_24 f_TallySlateModel_461 (by decide) rfl hW rfl ?_
      obtain ⟨hb, hT⟩ := hT
      refine m_iald (v := (s.2.2.1 106 (s.1 108).toNatClampNeg)) dX10_ofOne_27 rfl hb hW rfl ?_
      refine x_if_eq (tgt := 43) dX10_ofOne_28 rfl (fun c => ?_) (fun c => ?_)
      · have hT := hT.1 c
        refine x_iload_n dX10_ofOne_43 rfl rfl ?_
        refine x_bipush (v := 14) dX10_ofOne_44 rfl ?_
        refine x_icmp_ne (tgt := 74) dX10_ofOne_46 rfl (fun c => ?_) (fun c => ?_)
        · have hT := hT.1 c
          refine x_aload_n dX10_ofOne_74 rfl rfl rfl ?_
          refine x_aload_n dX10_ofOne_75 rfl rfl rfl ?_
          refine m_geta dX10_ofOne_76 f_TallySlateModel_189 (by decide) rfl hW ?_
          refine x_aload_n dX10_ofOne_79 rfl rfl rfl ?_
          refine m_geti (v := (s.1 108)) dX10_ofOne_80 f_TallySlateModel_461 (by decide) rfl hW rfl ?_
          obtain ⟨hb, hT⟩ := hT
          refine m_iald (v := (s.2.2.1 107 (s.1 108).toNatClampNeg)) dX10_ofOne_83 rfl hb hW rfl ?_
          refine m_puti dX10_ofOne_84 f_TallySlateModel_543 (by decide) rfl rfl rfl rfl hW hF ?_
          intro h hW hF
          refine x_aload_n dX10_ofOne_87 rfl rfl rfl ?_
          refine x_bipush (v := 9) dX10_ofOne_88 rfl ?_
          refine x_aload_n dX10_ofOne_90 rfl rfl rfl ?_
          refine m_geti (v := (s.1 127)) dX10_ofOne_91 f_TallySlateModel_507 (by decide) rfl hW rfl ?_
          refine m_inv (vs := [.int 9, .int (s.1 127)]) dX10_ofOne_94 oX10_trouble q2696 q2694 qs98 rfl rfl (Nat.le_of_ble_eq_true rfl) rfl hW hF hT ?_
          rintro _ s20 ⟨rfl, hT⟩ h hW hF
          refine x_goto (tgt := 337) dX10_ofOne_97 rfl ?_
          exact x_vret dX10_ofOne_337 rfl ⟨_, _, rfl, hW, hF, hT⟩
        · have hT := hT.2 c
          refine x_aload_n dX10_ofOne_49 rfl rfl rfl ?_
          refine m_geta dX10_ofOne_50 f_TallySlateModel_189 (by decide) rfl hW ?_
          refine x_aload_n dX10_ofOne_53 rfl rfl rfl ?_
          refine m_geti (v := (s.1 108)) dX10_ofOne_54 f_TallySlateModel_461 (by decide) rfl hW rfl ?_
          obtain ⟨hb, hT⟩ := hT
          refine m_iald (v := (s.2.2.1 107 (s.1 108).toNatClampNeg)) dX10_ofOne_57 rfl hb hW rfl ?_
          refine x_if_ne (tgt := 337) dX10_ofOne_58 rfl (fun c => ?_) (fun c => ?_)
          · have hT := hT.1 c
            exact x_vret dX10_ofOne_337 rfl ⟨_, _, rfl, hW, hF, hT⟩
          · have hT := hT.2 c
            refine x_aload_n dX10_ofOne_61 rfl rfl rfl ?_
            refine x_aload_n dX10_ofOne_62 rfl rfl rfl ?_
            refine m_geta dX10_ofOne_63 f_TallySlateModel_124 (by decide) rfl hW ?_
            refine x_iload_n dX10_ofOne_66 rfl rfl ?_
            obtain ⟨hb, hT⟩ := hT
            refine m_iald (v := (s.2.2.1 81 x1.toNatClampNeg)) dX10_ofOne_67 rfl hb hW rfl ?_
            refine m_puti dX10_ofOne_68 f_TallySlateModel_540 (by decide) rfl rfl rfl rfl hW hF ?_
            intro h hW hF
            refine x_goto (tgt := 337) dX10_ofOne_71 rfl ?_
            exact x_vret dX10_ofOne_337 rfl ⟨_, _, rfl, hW, hF, hT⟩
      · have hT := hT.2 c
        refine x_aload_n dX10_ofOne_31 rfl rfl rfl ?_
        refine x_iconst (v := 3) dX10_ofOne_32 rfl ?_
        refine x_aload_n dX10_ofOne_33 rfl rfl rfl ?_
        refine m_geti (v := (s.1 127)) dX10_ofOne_34 f_TallySlateModel_507 (by decide) rfl hW rfl ?_
        refine m_inv (vs := [.int 3, .int (s.1 127)]) dX10_ofOne_37 oX10_trouble q2696 q2694 qs98 rfl rfl (Nat.le_of_ble_eq_true rfl) rfl hW hF hT ?_
        rintro _ s21 ⟨rfl, hT⟩ h hW hF
        refine x_goto (tgt := 337) dX10_ofOne_40 rfl ?_
        exact x_vret dX10_ofOne_337 rfl ⟨_, _, rfl, hW, hF, hT⟩
theorem eX10_ofOne {l : Launch} {E : EN} {w : MO} {d : Nat} {s : MS} {Q : Option Value → MS → Prop} {x1 : Int32} (hst : l.stackTraces = false) (hT : (inB x1 8000 ∧ (∀ y1 : Int32, y1 = (s.2.2.1 80 x1.toNatClampNeg) → ((y1 = 14 → (inB (s.1 108) 9000 ∧ (((s.2.2.1 106 (s.1 108).toNatClampNeg) = 0 → ((¬ y1 = 14 → (inB (s.1 108) 9000 ∧ (EvM l E w d MX10_trouble [.ref w.1, .int 9, .int (s.1 127)] (sI s 122 (s.2.2.1 107 (s.1 108).toNatClampNeg)) (fun r s2 => r = none ∧ Q none s2)))) ∧ (y1 = 14 → (inB (s.1 108) 9000 ∧ ((¬ (s.2.2.1 107 (s.1 108).toNatClampNeg) = 0 → Q none s) ∧ ((s.2.2.1 107 (s.1 108).toNatClampNeg) = 0 → (inB x1 8000 ∧ Q none (sI s 126 (s.2.2.1 81 x1.toNatClampNeg))))))))) ∧ (¬ (s.2.2.1 106 (s.1 108).toNatClampNeg) = 0 → (EvM l E w d MX10_trouble [.ref w.1, .int 3, .int (s.1 127)] s (fun r s3 => r = none ∧ Q none s3)))))) ∧ (¬ y1 = 14 → ((¬ y1 = 21 → ((¬ y1 = 17 → ((¬ y1 = 19 → (inB (s.1 108) 9000 ∧ (∀ y4 : Int32, y4 = (s.2.2.1 106 (s.1 108).toNatClampNeg) → (inB (s.1 108) 9000 ∧ (∀ y5 : Int32, y5 = (s.2.2.1 107 (s.1 108).toNatClampNeg) → (inB ((s.1 130) - 1) 10 ∧ (inB ((s.1 130) - 1) 10 ∧ (inB ((s.1 130) - 1) 10 ∧ (EvM l E w d MX10_push [.ref w.1, .int y4, .int y5] (sI (sI (sI (sI s 130 ((s.1 130) - 1)) 136 (s.2.2.1 133 ((s.1 130) - 1).toNatClampNeg)) 108 (s.2.2.1 131 ((s.1 130) - 1).toNatClampNeg)) 126 (s.2.2.1 132 ((s.1 130) - 1).toNatClampNeg)) (fun r s6 => r = none ∧ Q none s6)))))))))) ∧ (y1 = 19 → (inB (s.1 108) 9000 ∧ ((¬ (s.2.2.1 106 (s.1 108).toNatClampNeg) = 0 → (inB (s.1 108) 9000 ∧ (EvM l E w d MX10_form [.ref w.1, .int (s.2.2.1 107 (s.1 108).toNatClampNeg)] s (fun r s7 => r = none ∧ (EvM l E w d MX10_says [.ref w.1, .int 10] s7 (fun r s8 => r = none ∧ Q none s8)))))) ∧ ((s.2.2.1 106 (s.1 108).toNatClampNeg) = 0 → (inB (s.1 108) 9000 ∧ (EvM l E w d MX10_number [.ref w.1, .int (s.2.2.1 107 (s.1 108).toNatClampNeg)] s (fun r s9 => r = none ∧ (EvM l E w d MX10_says [.ref w.1, .int 10] s9 (fun r s10 => r = none ∧ Q none s10))))))))))) ∧ (y1 = 17 → (inB (s.1 108) 9000 ∧ ((¬ (s.2.2.1 106 (s.1 108).toNatClampNeg) = 0 → (inB (s.1 108) 9000 ∧ ((¬ (s.2.2.1 106 (s.1 108).toNatClampNeg) = 0 → (inB (s.1 108) 9000 ∧ (inB (s.1 108) 9000 ∧ (EvM l E w d MX10_sizeAt [.ref w.1, .int (s.2.2.1 107 (s.1 108).toNatClampNeg)] s (fun r s11 => ∃ v12 : Int32, r = some (.int v12) ∧ (EvM l E w d MX10_way [.ref w.1, .int 1, .int (s.2.2.1 107 (s.1 108).toNatClampNeg), .int v12, .int 0] s11 (fun r s13 => r = none ∧ Q none s13))))))) ∧ ((s.2.2.1 106 (s.1 108).toNatClampNeg) = 0 → (inB (s.1 108) 9000 ∧ (EvM l E w d MX10_way [.ref w.1, .int 1, .int (-1), .int (s.2.2.1 107 (s.1 108).toNatClampNeg), .int 0] s (fun r s14 => r = none ∧ Q none s14))))))) ∧ ((s.2.2.1 106 (s.1 108).toNatClampNeg) = 0 → (inB (s.1 108) 9000 ∧ ((0 ≤ (s.2.2.1 107 (s.1 108).toNatClampNeg) → (inB (s.1 108) 9000 ∧ ((¬ (s.2.2.1 106 (s.1 108).toNatClampNeg) = 0 → (inB (s.1 108) 9000 ∧ (inB (s.1 108) 9000 ∧ (EvM l E w d MX10_sizeAt [.ref w.1, .int (s.2.2.1 107 (s.1 108).toNatClampNeg)] s (fun r s15 => ∃ v16 : Int32, r = some (.int v16) ∧ (EvM l E w d MX10_way [.ref w.1, .int 1, .int (s.2.2.1 107 (s.1 108).toNatClampNeg), .int v16, .int 0] s15 (fun r s17 => r = none ∧ Q none s17))))))) ∧ ((s.2.2.1 106 (s.1 108).toNatClampNeg) = 0 → (inB (s.1 108) 9000 ∧ (EvM l E w d MX10_way [.ref w.1, .int 1, .int (-1), .int (s.2.2.1 107 (s.1 108).toNatClampNeg), .int 0] s (fun r s18 => r = none ∧ Q none s18))))))) ∧ (¬ 0 ≤ (s.2.2.1 107 (s.1 108).toNatClampNeg) → (EvM l E w d MX10_trouble [.ref w.1, .int 1, .int (s.1 127)] s (fun r s19 => r = none ∧ Q none s19))))))))))) ∧ (y1 = 21 → (inB (s.1 108) 9000 ∧ (((s.2.2.1 106 (s.1 108).toNatClampNeg) = 0 → ((¬ y1 = 14 → (inB (s.1 108) 9000 ∧ (EvM l E w d MX10_trouble [.ref w.1, .int 9, .int (s.1 127)] (sI s 122 (s.2.2.1 107 (s.1 108).toNatClampNeg)) (fun r s20 => r = none ∧ Q none s20)))) ∧ (y1 = 14 → (inB (s.1 108) 9000 ∧ ((¬ (s.2.2.1 107 (s.1 108).toNatClampNeg) = 0 → Q none s) ∧ ((s.2.2.1 107 (s.1 108).toNatClampNeg) = 0 → (inB x1 8000 ∧ Q none (sI s 126 (s.2.2.1 81 x1.toNatClampNeg))))))))) ∧ (¬ (s.2.2.1 106 (s.1 108).toNatClampNeg) = 0 → (EvM l E w d MX10_trouble [.ref w.1, .int 3, .int (s.1 127)] s (fun r s21 => r = none ∧ Q none s21)))))))))))) : EvM l E w (d + 1) MX10_ofOne [.ref w.1, .int x1] s Q :=
  EvM.of hst (by decide) (Nat.le_of_ble_eq_true rfl) (vX10_ofOne_0 hT)
theorem vX10_number_0 {l : Launch} {E : EN} {w : MO} {d : Nat} {s : MS} {Q : Option Value → MS → Prop} {x1 : Int32} (hT : (∀ y1 : Int64, y1 = x1.toInt64 → ((0 ≤ (lg_cmp y1 0) → ExM l E w (d + 1) MX10_number 21 [some (.ref w.1), none, some (.long y1), none, some (.long 1), none] [] s Q) ∧ (¬ 0 ≤ (lg_cmp y1 0) → (EvM l E w d MX10_says [.ref w.1, .int 45] s (fun r s2 => r = none ∧ (∀ y3 : Int64, y3 = (-y1) → ExM l E w (d + 1) MX10_number 21 [some (.ref w.1), none, some (.long y3), none, some (.long 1), none] [] s2 Q))))))) : ExM l E w (d + 1) MX10_number 0 [some (.ref w.1), some (.int x1), none, none, none, none] [] s Q := by
  intro h0 h hW hF
  refine x_iload_n dX10_number_0 rfl rfl ?_
  refine x_i2l dX10_number_1 ?_
  obtain ⟨y1, ey1⟩ : ∃ z : Int64, z = x1.toInt64 := ⟨_, rfl⟩
  have hT := hT y1 ey1
  refine x_lstore_n (lo' := [some (.ref w.1), some (.int x1), some (.long y1), none, none, none]) dX10_number_2 rfl (Nat.le_of_ble_eq_true rfl) (by rw [ey1]; rfl) ?_
  refine x_lload_n dX10_number_3 rfl rfl ?_
  refine x_lconst (v := 0) dX10_number_4 rfl ?_
  refine x_lcmp dX10_number_5 ?_
  refine x_if_ge (tgt := 18) dX10_number_6 rfl (fun c => ?_) (fun c => ?_)
  · have hT := hT.1 c
    refine x_lconst (v := 1) dX10_number_18 rfl ?_
    refine x_lstore (lo' := [some (.ref w.1), some (.int x1), some (.long y1), none, some (.long 1), none]) dX10_number_19 (Nat.le_of_ble_eq_true rfl) rfl ?_
    refine Ex.wkl (lo' := [some (.ref w.1), none, some (.long y1), none, some (.long 1), none]) ⟨rfl, rfl, rfl, trivial⟩ ?_
    exact hT h0 h hW hF
  · have hT := hT.2 c
    refine x_aload_n dX10_number_9 rfl rfl rfl ?_
    refine x_bipush (v := 45) dX10_number_10 rfl ?_
    refine m_inv (vs := [.int 45]) dX10_number_12 oX10_says q2919 q2917 qs150 rfl rfl (Nat.le_of_ble_eq_true rfl) rfl hW hF hT ?_
    rintro _ s2 ⟨rfl, hT⟩ h hW hF
    refine x_lload_n dX10_number_15 rfl rfl ?_
    refine x_lneg dX10_number_16 ?_
    obtain ⟨y3, ey3⟩ : ∃ z : Int64, z = (-y1) := ⟨_, rfl⟩
    have hT := hT y3 ey3
    refine x_lstore_n (lo' := [some (.ref w.1), some (.int x1), some (.long y3), none, none, none]) dX10_number_17 rfl (Nat.le_of_ble_eq_true rfl) (by rw [ey3]; rfl) ?_
    refine x_lconst (v := 1) dX10_number_18 rfl ?_
    refine x_lstore (lo' := [some (.ref w.1), some (.int x1), some (.long y3), none, some (.long 1), none]) dX10_number_19 (Nat.le_of_ble_eq_true rfl) rfl ?_
    refine Ex.wkl (lo' := [some (.ref w.1), none, some (.long y3), none, some (.long 1), none]) ⟨rfl, rfl, rfl, trivial⟩ ?_
    exact hT h0 h hW hF
theorem eX10_number {l : Launch} {E : EN} {w : MO} {d : Nat} {s : MS} {Q : Option Value → MS → Prop} {x1 : Int32} (hst : l.stackTraces = false) (hT : (∀ y1 : Int64, y1 = x1.toInt64 → ((0 ≤ (lg_cmp y1 0) → ExM l E w (d + 1) MX10_number 21 [some (.ref w.1), none, some (.long y1), none, some (.long 1), none] [] s Q) ∧ (¬ 0 ≤ (lg_cmp y1 0) → (EvM l E w d MX10_says [.ref w.1, .int 45] s (fun r s2 => r = none ∧ (∀ y3 : Int64, y3 = (-y1) → ExM l E w (d + 1) MX10_number 21 [some (.ref w.1), none, some (.long y3), none, some (.long 1), none] [] s2 Q))))))) : EvM l E w (d + 1) MX10_number [.ref w.1, .int x1] s Q :=
  EvM.of hst (by decide) (Nat.le_of_ble_eq_true rfl) (vX10_number_0 hT)
theorem vX10_number_21 {l : Launch} {E : EN} {w : MO} {d : Nat} {s : MS} {Q : Option Value → MS → Prop} {a2 : Int64} {a4 : Int64} (hT : (¬ a4 = 0 ∧ (((lg_cmp (a2 / a4) 9) ≤ 0 → ExM l E w (d + 1) MX10_number 43 [some (.ref w.1), none, some (.long a2), none, some (.long a4), none] [] s Q) ∧ (¬ (lg_cmp (a2 / a4) 9) ≤ 0 → (∀ y1 : Int64, y1 = (10 * a4) → ExM l E w (d + 1) MX10_number 21 [some (.ref w.1), none, some (.long a2), none, some (.long y1), none] [] s Q))))) : ExM l E w (d + 1) MX10_number 21 [some (.ref w.1), none, some (.long a2), none, some (.long a4), none] [] s Q := by
  intro h0 h hW hF
  refine x_lload_n dX10_number_21 rfl rfl ?_
  refine x_lload dX10_number_22 rfl ?_
  obtain ⟨hb, hT⟩ := hT
  refine x_ldiv dX10_number_24 hb ?_
  refine x_ldc2 dX10_number_25 q2921 ?_
  refine x_lcmp dX10_number_28 ?_
  refine x_if_le (tgt := 43) dX10_number_29 rfl (fun c => ?_) (fun c => ?_)
  · have hT := hT.1 c
    exact hT h0 h hW hF
  · have hT := hT.2 c
    refine x_ldc2 dX10_number_32 q2534 ?_
    refine x_lload dX10_number_35 rfl ?_
    refine x_lmul dX10_number_37 ?_
    obtain ⟨y1, ey1⟩ : ∃ z : Int64, z = (10 * a4) := ⟨_, rfl⟩
    have hT := hT y1 ey1
    refine x_lstore (lo' := [some (.ref w.1), none, some (.long a2), none, some (.long y1), none]) dX10_number_38 (Nat.le_of_ble_eq_true rfl) (by rw [ey1]; rfl) ?_
    refine x_goto (tgt := 21) dX10_number_40 rfl ?_
    exact hT h0 h hW hF
theorem vX10_number_43 {l : Launch} {E : EN} {w : MO} {d : Nat} {s : MS} {Q : Option Value → MS → Prop} {a2 : Int64} {a4 : Int64} (hT : (((lg_cmp a4 0) ≤ 0 → Q none s) ∧ (¬ (lg_cmp a4 0) ≤ 0 → (¬ a4 = 0 ∧ (EvM l E w d MX10_says [.ref w.1, .int (48 + ((a2 / a4) - (a2 / a4) / 10 * 10)).toInt32] s (fun r s1 => r = none ∧ (∀ y2 : Int64, y2 = (a4 / 10) → ExM l E w (d + 1) MX10_number 43 [some (.ref w.1), none, some (.long a2), none, some (.long y2), none] [] s1 Q))))))) : ExM l E w (d + 1) MX10_number 43 [some (.ref w.1), none, some (.long a2), none, some (.long a4), none] [] s Q := by
  intro h0 h hW hF
  refine x_lload dX10_number_43 rfl ?_
  refine x_lconst (v := 0) dX10_number_45 rfl ?_
  refine x_lcmp dX10_number_46 ?_
  refine x_if_le (tgt := 78) dX10_number_47 rfl (fun c => ?_) (fun c => ?_)
  · have hT := hT.1 c
    exact x_vret dX10_number_78 rfl ⟨_, _, rfl, hW, hF, hT⟩
  · have hT := hT.2 c
    refine x_aload_n dX10_number_50 rfl rfl rfl ?_
    refine x_ldc2 dX10_number_51 q2535 ?_
    refine x_lload_n dX10_number_54 rfl rfl ?_
    refine x_lload dX10_number_55 rfl ?_
    obtain ⟨hb, hT⟩ := hT
    refine x_ldiv dX10_number_57 hb ?_
    refine x_ldc2 dX10_number_58 q2534 ?_
    refine x_lrem dX10_number_61 (by decide) ?_
    refine x_ladd dX10_number_62 ?_
    refine x_l2i dX10_number_63 ?_
    refine m_inv (vs := [.int (48 + ((a2 / a4) - (a2 / a4) / 10 * 10)).toInt32]) dX10_number_64 oX10_says q2919 q2917 qs150 rfl rfl (Nat.le_of_ble_eq_true rfl) rfl hW hF hT ?_
    rintro _ s1 ⟨rfl, hT⟩ h hW hF
    refine x_lload dX10_number_67 rfl ?_
    refine x_ldc2 dX10_number_69 q2534 ?_
    refine x_ldiv dX10_number_72 (by decide) ?_
    obtain ⟨y2, ey2⟩ : ∃ z : Int64, z = (a4 / 10) := ⟨_, rfl⟩
    have hT := hT y2 ey2
    refine x_lstore (lo' := [some (.ref w.1), none, some (.long a2), none, some (.long y2), none]) dX10_number_73 (Nat.le_of_ble_eq_true rfl) (by rw [ey2]; rfl) ?_
    refine x_goto (tgt := 43) dX10_number_75 rfl ?_
    exact hT h0 h hW hF
theorem vX10_says_0 {l : Launch} {E : EN} {w : MO} {d : Nat} {s : MS} {Q : Option Value → MS → Prop} {x1 : Int32} (hT : ((600 ≤ (s.1 144) → Q none (sI s 144 ((s.1 144) + 1))) ∧ (¬ 600 ≤ (s.1 144) → (inB (s.1 144) 600 ∧ Q none (sI (sA s 143 (s.1 144).toNatClampNeg x1.toInt8.toInt32.toInt8.toInt32) 144 ((s.1 144) + 1)))))) : ExM l E w d MX10_says 0 [some (.ref w.1), some (.int x1)] [] s Q := by
  intro h0 h hW hF
  refine x_aload_n dX10_says_0 rfl rfl rfl ?_
  refine m_geti (v := (s.1 144)) dX10_says_1 f_TallySlateModel_555 (by decide) rfl hW rfl ?_
  refine x_sipush (v := 600) dX10_says_4 rfl ?_
  refine x_icmp_ge (tgt := 21) dX10_says_7 rfl (fun c => ?_) (fun c => ?_)
  · have hT := hT.1 c
    refine x_aload_n dX10_says_21 rfl rfl rfl ?_
    refine x_dup dX10_says_22 rfl ?_
    refine m_geti (v := (s.1 144)) dX10_says_23 f_TallySlateModel_555 (by decide) rfl hW rfl ?_
    refine x_iconst (v := 1) dX10_says_26 rfl ?_
    refine x_iadd dX10_says_27 ?_
    refine m_puti dX10_says_28 f_TallySlateModel_555 (by decide) rfl rfl rfl rfl hW hF ?_
    intro h hW hF
    exact x_vret dX10_says_31 rfl ⟨_, _, rfl, hW, hF, hT⟩
  · have hT := hT.2 c
    refine x_aload_n dX10_says_10 rfl rfl rfl ?_
    refine m_geta dX10_says_11 f_TallySlateModel_249 (by decide) rfl hW ?_
    refine x_aload_n dX10_says_14 rfl rfl rfl ?_
    refine m_geti (v := (s.1 144)) dX10_says_15 f_TallySlateModel_555 (by decide) rfl hW rfl ?_
    refine x_iload_n dX10_says_18 rfl rfl ?_
    refine x_i2b dX10_says_19 ?_
    obtain ⟨hb, hT⟩ := hT
    refine m_bast dX10_says_20 rfl hb hW hF ?_
    intro h hW hF
    refine x_aload_n dX10_says_21 rfl rfl rfl ?_
    refine x_dup dX10_says_22 rfl ?_
    refine m_geti (v := (s.1 144)) dX10_says_23 f_TallySlateModel_555 (by decide) rfl hW rfl ?_
    refine x_iconst (v := 1) dX10_says_26 rfl ?_
    refine x_iadd dX10_says_27 ?_
    refine m_puti dX10_says_28 f_TallySlateModel_555 (by decide) rfl rfl rfl rfl hW hF ?_
    intro h hW hF
    exact x_vret dX10_says_31 rfl ⟨_, _, rfl, hW, hF, hT⟩
theorem eX10_says {l : Launch} {E : EN} {w : MO} {d : Nat} {s : MS} {Q : Option Value → MS → Prop} {x1 : Int32} (hst : l.stackTraces = false) (hT : ((600 ≤ (s.1 144) → Q none (sI s 144 ((s.1 144) + 1))) ∧ (¬ 600 ≤ (s.1 144) → (inB (s.1 144) 600 ∧ Q none (sI (sA s 143 (s.1 144).toNatClampNeg x1.toInt8.toInt32.toInt8.toInt32) 144 ((s.1 144) + 1)))))) : EvM l E w d MX10_says [.ref w.1, .int x1] s Q :=
  EvM.of hst (by decide) (Nat.le_of_ble_eq_true rfl) (vX10_says_0 hT)
