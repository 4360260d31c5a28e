/-! weakest preconditions of methods of the model: printed by wp.py -/
set_option maxRecDepth 100000
theorem vX10_reduced_0 {l : Launch} {E : EN} {w : MO} {d : Nat} {s : MS} {Q : Option Value → MS → Prop} {x1 : Int32} {x2 : Int32} (hT : ((¬ x1 = 9 → (inB (x2 + 2) 166300 ∧ (∀ y1 : Int32, y1 = (s.2.2.1 104 (x2 + 2).toNatClampNeg) → ExM l E w (d + 1) MX10_reduced 22 [some (.ref w.1), some (.int x1), some (.int x2), some (.int y1), some (.int 0), none] [] s Q))) ∧ (x1 = 9 → ExM l E w (d + 1) MX10_reduced 22 [some (.ref w.1), some (.int x1), some (.int x2), some (.int 0), some (.int 0), none] [] s Q))) : ExM l E w (d + 1) MX10_reduced 0 [some (.ref w.1), some (.int x1), some (.int x2), none, none, none] [] s Q := by
  intro h0 h hW hF
  refine x_iload_n dX10_reduced_0 rfl rfl ?_
  refine x_bipush (v := 9) dX10_reduced_1 rfl ?_
  refine x_icmp_ne (tgt := 10) dX10_reduced_3 rfl (fun c => ?_) (fun c => ?_)
  · have hT := hT.1 c
    refine x_aload_n dX10_reduced_10 rfl rfl rfl ?_
    refine m_geta dX10_reduced_11 f_TallySlateModel_183 (by decide) rfl hW ?_
    refine x_iload_n dX10_reduced_14 rfl rfl ?_
    refine x_iconst (v := 2) dX10_reduced_15 rfl ?_
    refine x_iadd dX10_reduced_16 ?_
    obtain ⟨hb, hT⟩ := hT
    refine m_iald (v := (s.2.2.1 104 (x2 + 2).toNatClampNeg)) dX10_reduced_17 rfl hb hW rfl ?_
    obtain ⟨y1, ey1⟩ : ∃ z : Int32, z = (s.2.2.1 104 (x2 + 2).toNatClampNeg) := ⟨_, rfl⟩
    have hT := hT y1 ey1
    refine x_istore_n (lo' := [some (.ref w.1), some (.int x1), some (.int x2), some (.int y1), none, none]) dX10_reduced_18 rfl (Nat.le_of_ble_eq_true rfl) (by rw [ey1]; rfl) ?_
    refine x_iconst (v := 0) dX10_reduced_19 rfl ?_
    refine x_istore (lo' := [some (.ref w.1), some (.int x1), some (.int x2), some (.int y1), some (.int 0), none]) dX10_reduced_20 (Nat.le_of_ble_eq_true rfl) rfl ?_
    exact hT h0 h hW hF
  · have hT := hT.2 c
    refine x_iconst (v := 0) dX10_reduced_6 rfl ?_
    refine x_goto (tgt := 18) dX10_reduced_7 rfl ?_
    refine x_istore_n (lo' := [some (.ref w.1), some (.int x1), some (.int x2), some (.int 0), none, none]) dX10_reduced_18 rfl (Nat.le_of_ble_eq_true rfl) rfl ?_
    refine x_iconst (v := 0) dX10_reduced_19 rfl ?_
    refine x_istore (lo' := [some (.ref w.1), some (.int x1), some (.int x2), some (.int 0), some (.int 0), none]) dX10_reduced_20 (Nat.le_of_ble_eq_true rfl) rfl ?_
    exact hT h0 h hW hF
theorem eX10_reduced {l : Launch} {E : EN} {w : MO} {d : Nat} {s : MS} {Q : Option Value → MS → Prop} {x1 : Int32} {x2 : Int32} (hst : l.stackTraces = false) (hT : ((¬ x1 = 9 → (inB (x2 + 2) 166300 ∧ (∀ y1 : Int32, y1 = (s.2.2.1 104 (x2 + 2).toNatClampNeg) → ExM l E w (d + 1) MX10_reduced 22 [some (.ref w.1), some (.int x1), some (.int x2), some (.int y1), some (.int 0), none] [] s Q))) ∧ (x1 = 9 → ExM l E w (d + 1) MX10_reduced 22 [some (.ref w.1), some (.int x1), some (.int x2), some (.int 0), some (.int 0), none] [] s Q))) : EvM l E w (d + 1) MX10_reduced [.ref w.1, .int x1, .int x2] s Q :=
  EvM.of hst (by decide) (Nat.le_of_ble_eq_true rfl) (vX10_reduced_0 hT)
set_option maxHeartbeats 16000000 in
theorem vX10_reduced_22 {l : Launch} {E : EN} {w : MO} {d : Nat} {s : MS} {Q : Option Value → MS → Prop} {a1 : Int32} {a2 : Int32} {a3 : Int32} {a4 : Int32} (hT : (EvM l E w d MX10_sizeAt [.ref w.1, .int a2] s (fun r s1 => ∃ v2 : Int32, r = some (.int v2) ∧ ((v2 ≤ a4 → Q (some (.int a3)) s1) ∧ (¬ v2 ≤ a4 → (inB ((a2 + 2) + a4) 166300 ∧ (∀ y3 : Int32, y3 = (s1.2.2.1 104 ((a2 + 2) + a4).toNatClampNeg) → ((¬ a1 = 9 → ((¬ a1 = 10 → ((a3 ≤ y3 → ExM l E w (d + 1) MX10_reduced 22 [some (.ref w.1), some (.int a1), some (.int a2), some (.int a3), some (.int (a4 + 1)), none] [] s1 Q) ∧ (¬ a3 ≤ y3 → ExM l E w (d + 1) MX10_reduced 22 [some (.ref w.1), some (.int a1), some (.int a2), some (.int y3), some (.int (a4 + 1)), none] [] s1 Q))) ∧ (a1 = 10 → ((y3 ≤ a3 → ExM l E w (d + 1) MX10_reduced 22 [some (.ref w.1), some (.int a1), some (.int a2), some (.int a3), some (.int (a4 + 1)), none] [] s1 Q) ∧ (¬ y3 ≤ a3 → ExM l E w (d + 1) MX10_reduced 22 [some (.ref w.1), some (.int a1), some (.int a2), some (.int y3), some (.int (a4 + 1)), none] [] s1 Q))))) ∧ (a1 = 9 → (∀ y4 : Int32, y4 = (a3 + y3) → ExM l E w (d + 1) MX10_reduced 22 [some (.ref w.1), some (.int a1), some (.int a2), some (.int y4), some (.int (a4 + 1)), none] [] s1 Q)))))))))) : ExM l E w (d + 1) MX10_reduced 22 [some (.ref w.1), some (.int a1), some (.int a2), some (.int a3), some (.int a4), none] [] s Q := by
  intro h0 h hW hF
  refine x_iload dX10_reduced_22 rfl ?_
  refine x_aload_n dX10_reduced_24 rfl rfl rfl ?_
  refine x_iload_n dX10_reduced_25 rfl rfl ?_
  refine m_inv (vs := [.int a2]) dX10_reduced_26 oX10_sizeAt q2735 q2733 qs107 rfl rfl (Nat.le_of_ble_eq_true rfl) rfl hW hF hT ?_
  rintro _ s1 ⟨v2, rfl, hT⟩ h hW hF
  refine x_icmp_ge (tgt := 89) dX10_reduced_29 rfl (fun c => ?_) (fun c => ?_)
  · have hT := hT.1 c
    refine x_iload_n dX10_reduced_89 rfl rfl ?_
    exact x_iret dX10_reduced_90 rfl rfl ⟨_, _, rfl, hW, hF, hT⟩
  · have hT := hT.2 c
    refine x_aload_n dX10_reduced_32 rfl rfl rfl ?_
    refine m_geta dX10_reduced_33 f_TallySlateModel_183 (by decide) rfl hW ?_
    refine x_iload_n dX10_reduced_36 rfl rfl ?_
    refine x_iconst (v := 2) dX10_reduced_37 rfl ?_
    refine x_iadd dX10_reduced_38 ?_
    refine x_iload dX10_reduced_39 rfl ?_
    refine x_iadd dX10_reduced_41 ?_
    obtain ⟨hb, hT⟩ := hT
    refine m_iald (v := (s1.2.2.1 104 ((a2 + 2) + a4).toNatClampNeg)) dX10_reduced_42 rfl hb hW rfl ?_
    obtain ⟨y3, ey3⟩ : ∃ z : Int32, z = (s1.2.2.1 104 ((a2 + 2) + a4).toNatClampNeg) := ⟨_, rfl⟩
    have hT := hT y3 ey3
    refine x_istore (lo' := [some (.ref w.1), some (.int a1), some (.int a2), some (.int a3), some (.int a4), some (.int y3)]) dX10_reduced_43 (Nat.le_of_ble_eq_true rfl) (by rw [ey3]; rfl) ?_
    refine x_iload_n dX10_reduced_45 rfl rfl ?_
    refine x_bipush (v := 9) dX10_reduced_46 rfl ?_
    refine x_icmp_ne (tgt := 59) dX10_reduced_48 rfl (fun c => ?_) (fun c => ?_)
    · have hT := hT.1 c
      refine x_iload_n dX10_reduced_59 rfl rfl ?_
      refine x_bipush (v := 10) dX10_reduced_60 rfl ?_
      refine x_icmp_ne (tgt := 74) dX10_reduced_62 rfl (fun c => ?_) (fun c => ?_)
      · have hT := hT.1 c
        refine x_iload dX10_reduced_74 rfl ?_
        refine x_iload_n dX10_reduced_76 rfl rfl ?_
        refine x_icmp_ge (tgt := 83) dX10_reduced_77 rfl (fun c => ?_) (fun c => ?_)
        · have hT := hT.1 c
          refine x_iinc (lo' := [some (.ref w.1), some (.int a1), some (.int a2), some (.int a3), some (.int (a4 + 1)), some (.int y3)]) dX10_reduced_83 rfl (show _ = (a4 + 1) from rfl) rfl ?_
          refine x_goto (tgt := 22) dX10_reduced_86 rfl ?_
          refine Ex.wkl (lo' := [some (.ref w.1), some (.int a1), some (.int a2), some (.int a3), some (.int (a4 + 1)), none]) ⟨rfl, rfl, rfl, rfl, rfl, trivial⟩ ?_
          exact hT h0 h hW hF
        · have hT := hT.2 c
          refine x_iload dX10_reduced_80 rfl ?_
          refine x_istore_n (lo' := [some (.ref w.1), some (.int a1), some (.int a2), some (.int y3), some (.int a4), some (.int y3)]) dX10_reduced_82 rfl (Nat.le_of_ble_eq_true rfl) rfl ?_
          refine x_iinc (lo' := [some (.ref w.1), some (.int a1), some (.int a2), some (.int y3), some (.int (a4 + 1)), some (.int y3)]) dX10_reduced_83 rfl (show _ = (a4 + 1) from rfl) rfl ?_
          refine x_goto (tgt := 22) dX10_reduced_86 rfl ?_
          refine Ex.wkl (lo' := [some (.ref w.1), some (.int a1), some (.int a2), some (.int y3), some (.int (a4 + 1)), none]) ⟨rfl, rfl, rfl, rfl, rfl, trivial⟩ ?_
          exact hT h0 h hW hF
      · have hT := hT.2 c
        refine x_iload dX10_reduced_65 rfl ?_
        refine x_iload_n dX10_reduced_67 rfl rfl ?_
        refine x_icmp_le (tgt := 83) dX10_reduced_68 rfl (fun c => ?_) (fun c => ?_)
        · have hT := hT.1 c
          refine x_iinc (lo' := [some (.ref w.1), some (.int a1), some (.int a2), some (.int a3), some (.int (a4 + 1)), some (.int y3)]) dX10_reduced_83 rfl (show _ = (a4 + 1) from rfl) rfl ?_
          refine x_goto (tgt := 22) dX10_reduced_86 rfl ?_
          refine Ex.wkl (lo' := [some (.ref w.1), some (.int a1), some (.int a2), some (.int a3), some (.int (a4 + 1)), none]) ⟨rfl, rfl, rfl, rfl, rfl, trivial⟩ ?_
          exact hT h0 h hW hF
        · have hT := hT.2 c
          refine x_goto (tgt := 80) dX10_reduced_71 rfl ?_
          refine x_iload dX10_reduced_80 rfl ?_
          refine x_istore_n (lo' := [some (.ref w.1), some (.int a1), some (.int a2), some (.int y3), some (.int a4), some (.int y3)]) dX10_reduced_82 rfl (Nat.le_of_ble_eq_true rfl) rfl ?_
          refine x_iinc (lo' := [some (.ref w.1), some (.int a1), some (.int a2), some (.int y3), some (.int (a4 + 1)), some (.int y3)]) dX10_reduced_83 rfl (show _ = (a4 + 1) from rfl) rfl ?_
          refine x_goto (tgt := 22) dX10_reduced_86 rfl ?_
          refine Ex.wkl (lo' := [some (.ref w.1), some (.int a1), some (.int a2), some (.int y3), some (.int (a4 + 1)), none]) ⟨rfl, rfl, rfl, rfl, rfl, trivial⟩ ?_
          exact hT h0 h hW hF
    · have hT := hT.2 c
      refine x_iload_n dX10_reduced_51 rfl rfl ?_
      refine x_iload dX10_reduced_52 rfl ?_
      refine x_iadd dX10_reduced_54 ?_
      obtain ⟨y4, ey4⟩ : ∃ z : Int32, z = (a3 + y3) := ⟨_, rfl⟩
      have hT := hT y4 ey4
      refine x_istore_n (lo' := [some (.ref w.1), some (.int a1), some (.int a2), some (.int y4), some (.int a4), some (.int y3)]) dX10_reduced_55 rfl (Nat.le_of_ble_eq_true rfl) (by rw [ey4]; rfl) ?_
      refine x_goto (tgt := 83) dX10_reduced_56 rfl ?_
      refine x_iinc (lo' := [some (.ref w.1), some (.int a1), some (.int a2), some (.int y4), some (.int (a4 + 1)), some (.int y3)]) dX10_reduced_83 rfl (show _ = (a4 + 1) from rfl) rfl ?_
      refine x_goto (tgt := 22) dX10_reduced_86 rfl ?_
      refine Ex.wkl (lo' := [some (.ref w.1), some (.int a1), some (.int a2), some (.int y4), some (.int (a4 + 1)), none]) ⟨rfl, rfl, rfl, rfl, rfl, trivial⟩ ?_
      exact hT h0 h hW hF
theorem vX10_shapes_0 {l : Launch} {E : EN} {w : MO} {d : Nat} {s : MS} {Q : Option Value → MS → Prop} {x1 : Int32} {x2 : Int32} {x3 : Int32} (hT : (inB x2 166300 ∧ (∀ y1 : Int32, y1 = (s.2.2.1 104 x2.toNatClampNeg) → ((¬ x1 = 16 → ((¬ x1 = 17 → ExM l E w (d + 1) MX10_shapes 282 [some (.ref w.1), none, some (.int x2), some (.int x3), some (.int y1), some (.int 0), some (.int 0), some (.int 0), none, none] [] (sI s 108 x3) Q) ∧ (x1 = 17 → ExM l E w (d + 1) MX10_shapes 242 [some (.ref w.1), none, some (.int x2), some (.int x3), some (.int y1), some (.int 0), some (.int 0), some (.int 0), none, none] [] (sI s 108 x3) Q))) ∧ (x1 = 16 → ExM l E w (d + 1) MX10_shapes 28 [some (.ref w.1), none, some (.int x2), some (.int x3), some (.int y1), none, some (.int 0), some (.int 0), none, none] [] (sI s 108 x3) Q))))) : ExM l E w (d + 1) MX10_shapes 0 [some (.ref w.1), some (.int x1), some (.int x2), some (.int x3), none, none, none, none, none, none] [] s Q := by
  intro h0 h hW hF
  refine x_aload_n dX10_shapes_0 rfl rfl rfl ?_
  refine m_geta dX10_shapes_1 f_TallySlateModel_183 (by decide) rfl hW ?_
  refine x_iload_n dX10_shapes_4 rfl rfl ?_
  obtain ⟨hb, hT⟩ := hT
  refine m_iald (v := (s.2.2.1 104 x2.toNatClampNeg)) dX10_shapes_5 rfl hb hW rfl ?_
  obtain ⟨y1, ey1⟩ : ∃ z : Int32, z = (s.2.2.1 104 x2.toNatClampNeg) := ⟨_, rfl⟩
  have hT := hT y1 ey1
  refine x_istore (lo' := [some (.ref w.1), some (.int x1), some (.int x2), some (.int x3), some (.int y1), none, none, none, none, none]) dX10_shapes_6 (Nat.le_of_ble_eq_true rfl) (by rw [ey1]; rfl) ?_
  refine x_aload_n dX10_shapes_8 rfl rfl rfl ?_
  refine x_iload_n dX10_shapes_9 rfl rfl ?_
  refine m_puti dX10_shapes_10 f_TallySlateModel_461 (by decide) rfl rfl rfl rfl hW hF ?_
  intro h hW hF
  refine x_iconst (v := 0) dX10_shapes_13 rfl ?_
  refine x_istore (lo' := [some (.ref w.1), some (.int x1), some (.int x2), some (.int x3), some (.int y1), some (.int 0), none, none, none, none]) dX10_shapes_14 (Nat.le_of_ble_eq_true rfl) rfl ?_
  refine x_iload_n dX10_shapes_16 rfl rfl ?_
  refine x_bipush (v := 16) dX10_shapes_17 rfl ?_
  refine x_icmp_ne (tgt := 230) dX10_shapes_19 rfl (fun c => ?_) (fun c => ?_)
  · have hT := hT.1 c
    refine x_iconst (v := 0) dX10_shapes_230 rfl ?_
    refine x_istore (lo' := [some (.ref w.1), some (.int x1), some (.int x2), some (.int x3), some (.int y1), some (.int 0), some (.int 0), none, none, none]) dX10_shapes_231 (Nat.le_of_ble_eq_true rfl) rfl ?_
    refine x_iload_n dX10_shapes_233 rfl rfl ?_
    refine x_bipush (v := 17) dX10_shapes_234 rfl ?_
    refine x_icmp_ne (tgt := 279) dX10_shapes_236 rfl (fun c => ?_) (fun c => ?_)
    · have hT := hT.1 c
      refine x_iconst (v := 0) dX10_shapes_279 rfl ?_
      refine x_istore (lo' := [some (.ref w.1), some (.int x1), some (.int x2), some (.int x3), some (.int y1), some (.int 0), some (.int 0), some (.int 0), none, none]) dX10_shapes_280 (Nat.le_of_ble_eq_true rfl) rfl ?_
      refine Ex.wkl (lo' := [some (.ref w.1), none, some (.int x2), some (.int x3), some (.int y1), some (.int 0), some (.int 0), some (.int 0), none, none]) ⟨rfl, rfl, rfl, rfl, rfl, rfl, rfl, trivial⟩ ?_
      exact hT h0 h hW hF
    · have hT := hT.2 c
      refine x_iconst (v := 0) dX10_shapes_239 rfl ?_
      refine x_istore (lo' := [some (.ref w.1), some (.int x1), some (.int x2), some (.int x3), some (.int y1), some (.int 0), some (.int 0), some (.int 0), none, none]) dX10_shapes_240 (Nat.le_of_ble_eq_true rfl) rfl ?_
      refine Ex.wkl (lo' := [some (.ref w.1), none, some (.int x2), some (.int x3), some (.int y1), some (.int 0), some (.int 0), some (.int 0), none, none]) ⟨rfl, rfl, rfl, rfl, rfl, rfl, rfl, trivial⟩ ?_
      exact hT h0 h hW hF
  · have hT := hT.2 c
    refine x_iconst (v := 0) dX10_shapes_22 rfl ?_
    refine x_istore (lo' := [some (.ref w.1), some (.int x1), some (.int x2), some (.int x3), some (.int y1), some (.int 0), some (.int 0), none, none, none]) dX10_shapes_23 (Nat.le_of_ble_eq_true rfl) rfl ?_
    refine x_iconst (v := 0) dX10_shapes_25 rfl ?_
    refine x_istore (lo' := [some (.ref w.1), some (.int x1), some (.int x2), some (.int x3), some (.int y1), some (.int 0), some (.int 0), some (.int 0), none, none]) dX10_shapes_26 (Nat.le_of_ble_eq_true rfl) rfl ?_
    refine Ex.wkl (lo' := [some (.ref w.1), none, some (.int x2), some (.int x3), some (.int y1), none, some (.int 0), some (.int 0), none, none]) ⟨rfl, rfl, rfl, rfl, rfl, rfl, trivial⟩ ?_
    exact hT h0 h hW hF
theorem eX10_shapes {l : Launch} {E : EN} {w : MO} {d : Nat} {s : MS} {Q : Option Value → MS → Prop} {x1 : Int32} {x2 : Int32} {x3 : Int32} (hst : l.stackTraces = false) (hT : (inB x2 166300 ∧ (∀ y1 : Int32, y1 = (s.2.2.1 104 x2.toNatClampNeg) → ((¬ x1 = 16 → ((¬ x1 = 17 → ExM l E w (d + 1) MX10_shapes 282 [some (.ref w.1), none, some (.int x2), some (.int x3), some (.int y1), some (.int 0), some (.int 0), some (.int 0), none, none] [] (sI s 108 x3) Q) ∧ (x1 = 17 → ExM l E w (d + 1) MX10_shapes 242 [some (.ref w.1), none, some (.int x2), some (.int x3), some (.int y1), some (.int 0), some (.int 0), some (.int 0), none, none] [] (sI s 108 x3) Q))) ∧ (x1 = 16 → ExM l E w (d + 1) MX10_shapes 28 [some (.ref w.1), none, some (.int x2), some (.int x3), some (.int y1), none, some (.int 0), some (.int 0), none, none] [] (sI s 108 x3) Q))))) : EvM l E w (d + 1) MX10_shapes [.ref w.1, .int x1, .int x2, .int x3] s Q :=
  EvM.of hst (by decide) (Nat.le_of_ble_eq_true rfl) (vX10_shapes_0 hT)
set_option maxHeartbeats 16000000 in
theorem vX10_shapes_282 {l : Launch} {E : EN} {w : MO} {d : Nat} {s : MS} {Q : Option Value → MS → Prop} {a2 : Int32} {a3 : Int32} {a4 : Int32} {a5 : Int32} {a6 : Int32} {a7 : Int32} (hT : (EvM l E w d MX10_sizeAt [.ref w.1, .int a2] s (fun r s1 => ∃ v2 : Int32, r = some (.int v2) ∧ ((v2 ≤ a7 → ((20 < a5 → ((a5 ≤ 20 → (EvM l E w d MX10_trouble [.ref w.1, .int 1, .int (s1.1 127)] s1 (fun r s3 => r = none ∧ Q none s3))) ∧ (¬ a5 ≤ 20 → (EvM l E w d MX10_trouble [.ref w.1, .int 2, .int (s1.1 127)] s1 (fun r s4 => r = none ∧ Q none s4))))) ∧ (¬ 20 < a5 → ((0 ≤ a6 → ExM l E w (d + 1) MX10_shapes 393 [some (.ref w.1), none, some (.int a2), some (.int a3), some (.int a4), some (.int a5), none, some (.int 0), none, none] [] s1 Q) ∧ (¬ 0 ≤ a6 → ((a5 ≤ 20 → (EvM l E w d MX10_trouble [.ref w.1, .int 1, .int (s1.1 127)] s1 (fun r s5 => r = none ∧ Q none s5))) ∧ (¬ a5 ≤ 20 → (EvM l E w d MX10_trouble [.ref w.1, .int 2, .int (s1.1 127)] s1 (fun r s6 => r = none ∧ Q none s6))))))))) ∧ (¬ v2 ≤ a7 → (inB ((a2 + 2) + a7) 166300 ∧ (∀ y7 : Int32, y7 = (s1.2.2.1 104 ((a2 + 2) + a7).toNatClampNeg) → ((y7 ≤ 19 → ((y7 < 0 → ((a6 ≤ y7 → ExM l E w (d + 1) MX10_shapes 282 [some (.ref w.1), none, some (.int a2), some (.int a3), some (.int a4), some (.int a5), some (.int a6), some (.int (a7 + 1)), none, none] [] s1 Q) ∧ (¬ a6 ≤ y7 → ExM l E w (d + 1) MX10_shapes 282 [some (.ref w.1), none, some (.int a2), some (.int a3), some (.int a4), some (.int a5), some (.int y7), some (.int (a7 + 1)), none, none] [] s1 Q))) ∧ (¬ y7 < 0 → (EvM l E w d MX10_most [.int a5, .int (y7 + 1)] s1 (fun r s8 => ∃ v9 : Int32, r = some (.int v9) ∧ ((a6 ≤ y7 → ExM l E w (d + 1) MX10_shapes 282 [some (.ref w.1), none, some (.int a2), some (.int a3), some (.int a4), some (.int v9), some (.int a6), some (.int (a7 + 1)), none, none] [] s8 Q) ∧ (¬ a6 ≤ y7 → ExM l E w (d + 1) MX10_shapes 282 [some (.ref w.1), none, some (.int a2), some (.int a3), some (.int a4), some (.int v9), some (.int y7), some (.int (a7 + 1)), none, none] [] s8 Q))))))) ∧ (¬ y7 ≤ 19 → ((a6 ≤ y7 → ExM l E w (d + 1) MX10_shapes 282 [some (.ref w.1), none, some (.int a2), some (.int a3), some (.int a4), some (.int 21), some (.int a6), some (.int (a7 + 1)), none, none] [] s1 Q) ∧ (¬ a6 ≤ y7 → ExM l E w (d + 1) MX10_shapes 282 [some (.ref w.1), none, some (.int a2), some (.int a3), some (.int a4), some (.int 21), some (.int y7), some (.int (a7 + 1)), none, none] [] s1 Q))))))))))) : ExM l E w (d + 1) MX10_shapes 282 [some (.ref w.1), none, some (.int a2), some (.int a3), some (.int a4), some (.int a5), some (.int a6), some (.int a7), none, none] [] s Q := by
  intro h0 h hW hF
  refine x_iload dX10_shapes_282 rfl ?_
  refine x_aload_n dX10_shapes_284 rfl rfl rfl ?_
  refine x_iload_n dX10_shapes_285 rfl rfl ?_
  refine m_inv (vs := [.int a2]) dX10_shapes_286 oX10_sizeAt q2735 q2733 qs107 rfl rfl (Nat.le_of_ble_eq_true rfl) rfl hW hF hT ?_
  rintro _ s1 ⟨v2, rfl, hT⟩ h hW hF
  refine x_icmp_ge (tgt := 357) dX10_shapes_289 rfl (fun c => ?_) (fun c => ?_)
  · have hT := hT.1 c
    refine x_iload dX10_shapes_357 rfl ?_
    refine x_bipush (v := 20) dX10_shapes_359 rfl ?_
    refine x_icmp_gt (tgt := 369) dX10_shapes_361 rfl (fun c => ?_) (fun c => ?_)
    · have hT := hT.1 c
      refine x_aload_n dX10_shapes_369 rfl rfl rfl ?_
      refine x_iload dX10_shapes_370 rfl ?_
      refine x_bipush (v := 20) dX10_shapes_372 rfl ?_
      refine x_icmp_le (tgt := 381) dX10_shapes_374 rfl (fun c => ?_) (fun c => ?_)
      · have hT := hT.1 c
        refine x_iconst (v := 1) dX10_shapes_381 rfl ?_
        refine x_aload_n dX10_shapes_382 rfl rfl rfl ?_
        refine m_geti (v := (s1.1 127)) dX10_shapes_383 f_TallySlateModel_507 (by decide) rfl hW rfl ?_
        refine m_inv (vs := [.int 1, .int (s1.1 127)]) dX10_shapes_386 oX10_trouble q2696 q2694 qs98 rfl rfl (Nat.le_of_ble_eq_true rfl) rfl hW hF hT ?_
        rintro _ s3 ⟨rfl, hT⟩ h hW hF
        exact x_vret dX10_shapes_389 rfl ⟨_, _, rfl, hW, hF, hT⟩
      · have hT := hT.2 c
        refine x_iconst (v := 2) dX10_shapes_377 rfl ?_
        refine x_goto (tgt := 382) dX10_shapes_378 rfl ?_
        refine x_aload_n dX10_shapes_382 rfl rfl rfl ?_
        refine m_geti (v := (s1.1 127)) dX10_shapes_383 f_TallySlateModel_507 (by decide) rfl hW rfl ?_
        refine m_inv (vs := [.int 2, .int (s1.1 127)]) dX10_shapes_386 oX10_trouble q2696 q2694 qs98 rfl rfl (Nat.le_of_ble_eq_true rfl) rfl hW hF hT ?_
        rintro _ s4 ⟨rfl, hT⟩ h hW hF
        exact x_vret dX10_shapes_389 rfl ⟨_, _, rfl, hW, hF, hT⟩
    · have hT := hT.2 c
      refine x_iload dX10_shapes_364 rfl ?_
      refine x_if_ge (tgt := 390) dX10_shapes_366 rfl (fun c => ?_) (fun c => ?_)
      · have hT := hT.1 c
        refine x_iconst (v := 0) dX10_shapes_390 rfl ?_
        refine x_istore (lo' := [some (.ref w.1), none, some (.int a2), some (.int a3), some (.int a4), some (.int a5), some (.int a6), some (.int 0), none, none]) dX10_shapes_391 (Nat.le_of_ble_eq_true rfl) rfl ?_
        refine Ex.wkl (lo' := [some (.ref w.1), none, some (.int a2), some (.int a3), some (.int a4), some (.int a5), none, some (.int 0), none, none]) ⟨rfl, rfl, rfl, rfl, rfl, rfl, trivial⟩ ?_
        exact hT h0 h hW hF
      · have hT := hT.2 c
        refine x_aload_n dX10_shapes_369 rfl rfl rfl ?_
        refine x_iload dX10_shapes_370 rfl ?_
        refine x_bipush (v := 20) dX10_shapes_372 rfl ?_
        refine x_icmp_le (tgt := 381) dX10_shapes_374 rfl (fun c => ?_) (fun c => ?_)
        · have hT := hT.1 c
          refine x_iconst (v := 1) dX10_shapes_381 rfl ?_
          refine x_aload_n dX10_shapes_382 rfl rfl rfl ?_
          refine m_geti (v := (s1.1 127)) dX10_shapes_383 f_TallySlateModel_507 (by decide) rfl hW rfl ?_
          refine m_inv (vs := [.int 1, .int (s1.1 127)]) dX10_shapes_386 oX10_trouble q2696 q2694 qs98 rfl rfl (Nat.le_of_ble_eq_true rfl) rfl hW hF hT ?_
          rintro _ s5 ⟨rfl, hT⟩ h hW hF
          exact x_vret dX10_shapes_389 rfl ⟨_, _, rfl, hW, hF, hT⟩
        · have hT := hT.2 c
          refine x_iconst (v := 2) dX10_shapes_377 rfl ?_
          refine x_goto (tgt := 382) dX10_shapes_378 rfl ?_
          refine x_aload_n dX10_shapes_382 rfl rfl rfl ?_
          refine m_geti (v := (s1.1 127)) dX10_shapes_383 f_TallySlateModel_507 (by decide) rfl hW rfl ?_
          refine m_inv (vs := [.int 2, .int (s1.1 127)]) dX10_shapes_386 oX10_trouble q2696 q2694 qs98 rfl rfl (Nat.le_of_ble_eq_true rfl) rfl hW hF hT ?_
          rintro _ s6 ⟨rfl, hT⟩ h hW hF
          exact x_vret dX10_shapes_389 rfl ⟨_, _, rfl, hW, hF, hT⟩
  · have hT := hT.2 c
    refine x_aload_n dX10_shapes_292 rfl rfl rfl ?_
    refine m_geta dX10_shapes_293 f_TallySlateModel_183 (by decide) rfl hW ?_
    refine x_iload_n dX10_shapes_296 rfl rfl ?_
    refine x_iconst (v := 2) dX10_shapes_297 rfl ?_
    refine x_iadd dX10_shapes_298 ?_
    refine x_iload dX10_shapes_299 rfl ?_
    refine x_iadd dX10_shapes_301 ?_
    obtain ⟨hb, hT⟩ := hT
    refine m_iald (v := (s1.2.2.1 104 ((a2 + 2) + a7).toNatClampNeg)) dX10_shapes_302 rfl hb hW rfl ?_
    obtain ⟨y7, ey7⟩ : ∃ z : Int32, z = (s1.2.2.1 104 ((a2 + 2) + a7).toNatClampNeg) := ⟨_, rfl⟩
    have hT := hT y7 ey7
    refine x_istore (lo' := [some (.ref w.1), none, some (.int a2), some (.int a3), some (.int a4), some (.int a5), some (.int a6), some (.int a7), some (.int y7), none]) dX10_shapes_303 (Nat.le_of_ble_eq_true rfl) (by rw [ey7]; rfl) ?_
    refine x_iload dX10_shapes_305 rfl ?_
    refine x_bipush (v := 19) dX10_shapes_307 rfl ?_
    refine x_icmp_le (tgt := 319) dX10_shapes_309 rfl (fun c => ?_) (fun c => ?_)
    · have hT := hT.1 c
      refine x_iload dX10_shapes_319 rfl ?_
      refine x_if_lt (tgt := 335) dX10_shapes_321 rfl (fun c => ?_) (fun c => ?_)
      · have hT := hT.1 c
        refine x_iload dX10_shapes_335 rfl ?_
        refine x_iload dX10_shapes_337 rfl ?_
        refine x_icmp_ge (tgt := 347) dX10_shapes_339 rfl (fun c => ?_) (fun c => ?_)
        · have hT := hT.1 c
          refine x_iload dX10_shapes_347 rfl ?_
          refine x_istore (lo' := [some (.ref w.1), none, some (.int a2), some (.int a3), some (.int a4), some (.int a5), some (.int a6), some (.int a7), some (.int y7), none]) dX10_shapes_349 (Nat.le_of_ble_eq_true rfl) rfl ?_
          refine x_iinc (lo' := [some (.ref w.1), none, some (.int a2), some (.int a3), some (.int a4), some (.int a5), some (.int a6), some (.int (a7 + 1)), some (.int y7), none]) dX10_shapes_351 rfl (show _ = (a7 + 1) from rfl) rfl ?_
          refine x_goto (tgt := 282) dX10_shapes_354 rfl ?_
          refine Ex.wkl (lo' := [some (.ref w.1), none, some (.int a2), some (.int a3), some (.int a4), some (.int a5), some (.int a6), some (.int (a7 + 1)), none, none]) ⟨rfl, rfl, rfl, rfl, rfl, rfl, rfl, trivial⟩ ?_
          exact hT h0 h hW hF
        · have hT := hT.2 c
          refine x_iload dX10_shapes_342 rfl ?_
          refine x_goto (tgt := 349) dX10_shapes_344 rfl ?_
          refine x_istore (lo' := [some (.ref w.1), none, some (.int a2), some (.int a3), some (.int a4), some (.int a5), some (.int y7), some (.int a7), some (.int y7), none]) dX10_shapes_349 (Nat.le_of_ble_eq_true rfl) rfl ?_
          refine x_iinc (lo' := [some (.ref w.1), none, some (.int a2), some (.int a3), some (.int a4), some (.int a5), some (.int y7), some (.int (a7 + 1)), some (.int y7), none]) dX10_shapes_351 rfl (show _ = (a7 + 1) from rfl) rfl ?_
          refine x_goto (tgt := 282) dX10_shapes_354 rfl ?_
          refine Ex.wkl (lo' := [some (.ref w.1), none, some (.int a2), some (.int a3), some (.int a4), some (.int a5), some (.int y7), some (.int (a7 + 1)), none, none]) ⟨rfl, rfl, rfl, rfl, rfl, rfl, rfl, trivial⟩ ?_
          exact hT h0 h hW hF
      · have hT := hT.2 c
        refine x_iload dX10_shapes_324 rfl ?_
        refine x_iload dX10_shapes_326 rfl ?_
        refine x_iconst (v := 1) dX10_shapes_328 rfl ?_
        refine x_iadd dX10_shapes_329 ?_
        refine m_invS (vs := [.int a5, .int (y7 + 1)]) dX10_shapes_330 oX10_most q2837 q2836 rfl rfl (Nat.le_of_ble_eq_true rfl) rfl hW hF hT ?_
        rintro _ s8 ⟨v9, rfl, hT⟩ h hW hF
        refine x_istore (lo' := [some (.ref w.1), none, some (.int a2), some (.int a3), some (.int a4), some (.int v9), some (.int a6), some (.int a7), some (.int y7), none]) dX10_shapes_333 (Nat.le_of_ble_eq_true rfl) rfl ?_
        refine x_iload dX10_shapes_335 rfl ?_
        refine x_iload dX10_shapes_337 rfl ?_
        refine x_icmp_ge (tgt := 347) dX10_shapes_339 rfl (fun c => ?_) (fun c => ?_)
        · have hT := hT.1 c
          refine x_iload dX10_shapes_347 rfl ?_
          refine x_istore (lo' := [some (.ref w.1), none, some (.int a2), some (.int a3), some (.int a4), some (.int v9), some (.int a6), some (.int a7), some (.int y7), none]) dX10_shapes_349 (Nat.le_of_ble_eq_true rfl) rfl ?_
          refine x_iinc (lo' := [some (.ref w.1), none, some (.int a2), some (.int a3), some (.int a4), some (.int v9), some (.int a6), some (.int (a7 + 1)), some (.int y7), none]) dX10_shapes_351 rfl (show _ = (a7 + 1) from rfl) rfl ?_
          refine x_goto (tgt := 282) dX10_shapes_354 rfl ?_
          refine Ex.wkl (lo' := [some (.ref w.1), none, some (.int a2), some (.int a3), some (.int a4), some (.int v9), some (.int a6), some (.int (a7 + 1)), none, none]) ⟨rfl, rfl, rfl, rfl, rfl, rfl, rfl, trivial⟩ ?_
          exact hT h0 h hW hF
        · have hT := hT.2 c
          refine x_iload dX10_shapes_342 rfl ?_
          refine x_goto (tgt := 349) dX10_shapes_344 rfl ?_
          refine x_istore (lo' := [some (.ref w.1), none, some (.int a2), some (.int a3), some (.int a4), some (.int v9), some (.int y7), some (.int a7), some (.int y7), none]) dX10_shapes_349 (Nat.le_of_ble_eq_true rfl) rfl ?_
          refine x_iinc (lo' := [some (.ref w.1), none, some (.int a2), some (.int a3), some (.int a4), some (.int v9), some (.int y7), some (.int (a7 + 1)), some (.int y7), none]) dX10_shapes_351 rfl (show _ = (a7 + 1) from rfl) rfl ?_
          refine x_goto (tgt := 282) dX10_shapes_354 rfl ?_
          refine Ex.wkl (lo' := [some (.ref w.1), none, some (.int a2), some (.int a3), some (.int a4), some (.int v9), some (.int y7), some (.int (a7 + 1)), none, none]) ⟨rfl, rfl, rfl, rfl, rfl, rfl, rfl, trivial⟩ ?_
          exact hT h0 h hW hF
    · have hT := hT.2 c
      refine x_bipush (v := 21) dX10_shapes_312 rfl ?_
      refine x_istore (lo' := [some (.ref w.1), none, some (.int a2), some (.int a3), some (.int a4), some (.int 21), some (.int a6), some (.int a7), some (.int y7), none]) dX10_shapes_314 (Nat.le_of_ble_eq_true rfl) rfl ?_
      refine x_goto (tgt := 335) dX10_shapes_316 rfl ?_
      refine x_iload dX10_shapes_335 rfl ?_
      refine x_iload dX10_shapes_337 rfl ?_
      refine x_icmp_ge (tgt := 347) dX10_shapes_339 rfl (fun c => ?_) (fun c => ?_)
      · have hT := hT.1 c
        refine x_iload dX10_shapes_347 rfl ?_
        refine x_istore (lo' := [some (.ref w.1), none, some (.int a2), some (.int a3), some (.int a4), some (.int 21), some (.int a6), some (.int a7), some (.int y7), none]) dX10_shapes_349 (Nat.le_of_ble_eq_true rfl) rfl ?_
        refine x_iinc (lo' := [some (.ref w.1), none, some (.int a2), some (.int a3), some (.int a4), some (.int 21), some (.int a6), some (.int (a7 + 1)), some (.int y7), none]) dX10_shapes_351 rfl (show _ = (a7 + 1) from rfl) rfl ?_
        refine x_goto (tgt := 282) dX10_shapes_354 rfl ?_
        refine Ex.wkl (lo' := [some (.ref w.1), none, some (.int a2), some (.int a3), some (.int a4), some (.int 21), some (.int a6), some (.int (a7 + 1)), none, none]) ⟨rfl, rfl, rfl, rfl, rfl, rfl, rfl, trivial⟩ ?_
        exact hT h0 h hW hF
      · have hT := hT.2 c
        refine x_iload dX10_shapes_342 rfl ?_
        refine x_goto (tgt := 349) dX10_shapes_344 rfl ?_
        refine x_istore (lo' := [some (.ref w.1), none, some (.int a2), some (.int a3), some (.int a4), some (.int 21), some (.int y7), some (.int a7), some (.int y7), none]) dX10_shapes_349 (Nat.le_of_ble_eq_true rfl) rfl ?_
        refine x_iinc (lo' := [some (.ref w.1), none, some (.int a2), some (.int a3), some (.int a4), some (.int 21), some (.int y7), some (.int (a7 + 1)), some (.int y7), none]) dX10_shapes_351 rfl (show _ = (a7 + 1) from rfl) rfl ?_
        refine x_goto (tgt := 282) dX10_shapes_354 rfl ?_
        refine Ex.wkl (lo' := [some (.ref w.1), none, some (.int a2), some (.int a3), some (.int a4), some (.int 21), some (.int y7), some (.int (a7 + 1)), none, none]) ⟨rfl, rfl, rfl, rfl, rfl, rfl, rfl, trivial⟩ ?_
        exact hT h0 h hW hF
set_option maxHeartbeats 16000000 in
theorem vX10_shapes_242 {l : Launch} {E : EN} {w : MO} {d : Nat} {s : MS} {Q : Option Value → MS → Prop} {a2 : Int32} {a3 : Int32} {a4 : Int32} {a5 : Int32} {a6 : Int32} {a7 : Int32} (hT : (EvM l E w d MX10_sizeAt [.ref w.1, .int a2] s (fun r s1 => ∃ v2 : Int32, r = some (.int v2) ∧ ((v2 ≤ a7 → ((20 < a5 → ((a5 ≤ 20 → (EvM l E w d MX10_trouble [.ref w.1, .int 1, .int (s1.1 127)] s1 (fun r s3 => r = none ∧ Q none s3))) ∧ (¬ a5 ≤ 20 → (EvM l E w d MX10_trouble [.ref w.1, .int 2, .int (s1.1 127)] s1 (fun r s4 => r = none ∧ Q none s4))))) ∧ (¬ 20 < a5 → ((0 ≤ a6 → ExM l E w (d + 1) MX10_shapes 393 [some (.ref w.1), none, some (.int a2), some (.int a3), some (.int a4), some (.int a5), none, some (.int 0), none, none] [] s1 Q) ∧ (¬ 0 ≤ a6 → ((a5 ≤ 20 → (EvM l E w d MX10_trouble [.ref w.1, .int 1, .int (s1.1 127)] s1 (fun r s5 => r = none ∧ Q none s5))) ∧ (¬ a5 ≤ 20 → (EvM l E w d MX10_trouble [.ref w.1, .int 2, .int (s1.1 127)] s1 (fun r s6 => r = none ∧ Q none s6))))))))) ∧ (¬ v2 ≤ a7 → (EvM l E w d MX10_partAt [.ref w.1, .int a2, .int a7] s1 (fun r s7 => ∃ v8 : Int32, r = some (.int v8) ∧ (EvM l E w d MX10_sizeAt [.ref w.1, .int v8] s7 (fun r s9 => ∃ v10 : Int32, r = some (.int v10) ∧ (EvM l E w d MX10_most [.int a5, .int v10] s9 (fun r s11 => ∃ v12 : Int32, r = some (.int v12) ∧ ExM l E w (d + 1) MX10_shapes 242 [some (.ref w.1), none, some (.int a2), some (.int a3), some (.int a4), some (.int v12), some (.int a6), some (.int (a7 + 1)), none, none] [] s11 Q))))))))))) : ExM l E w (d + 1) MX10_shapes 242 [some (.ref w.1), none, some (.int a2), some (.int a3), some (.int a4), some (.int a5), some (.int a6), some (.int a7), none, none] [] s Q := by
  intro h0 h hW hF
  refine x_iload dX10_shapes_242 rfl ?_
  refine x_aload_n dX10_shapes_244 rfl rfl rfl ?_
  refine x_iload_n dX10_shapes_245 rfl rfl ?_
  refine m_inv (vs := [.int a2]) dX10_shapes_246 oX10_sizeAt q2735 q2733 qs107 rfl rfl (Nat.le_of_ble_eq_true rfl) rfl hW hF hT ?_
  rintro _ s1 ⟨v2, rfl, hT⟩ h hW hF
  refine x_icmp_ge (tgt := 276) dX10_shapes_249 rfl (fun c => ?_) (fun c => ?_)
  · have hT := hT.1 c
    refine x_goto (tgt := 357) dX10_shapes_276 rfl ?_
    refine x_iload dX10_shapes_357 rfl ?_
    refine x_bipush (v := 20) dX10_shapes_359 rfl ?_
    refine x_icmp_gt (tgt := 369) dX10_shapes_361 rfl (fun c => ?_) (fun c => ?_)
    · have hT := hT.1 c
      refine x_aload_n dX10_shapes_369 rfl rfl rfl ?_
      refine x_iload dX10_shapes_370 rfl ?_
      refine x_bipush (v := 20) dX10_shapes_372 rfl ?_
      refine x_icmp_le (tgt := 381) dX10_shapes_374 rfl (fun c => ?_) (fun c => ?_)
      · have hT := hT.1 c
        refine x_iconst (v := 1) dX10_shapes_381 rfl ?_
        refine x_aload_n dX10_shapes_382 rfl rfl rfl ?_
        refine m_geti (v := (s1.1 127)) dX10_shapes_383 f_TallySlateModel_507 (by decide) rfl hW rfl ?_
        refine m_inv (vs := [.int 1, .int (s1.1 127)]) dX10_shapes_386 oX10_trouble q2696 q2694 qs98 rfl rfl (Nat.le_of_ble_eq_true rfl) rfl hW hF hT ?_
        rintro _ s3 ⟨rfl, hT⟩ h hW hF
        exact x_vret dX10_shapes_389 rfl ⟨_, _, rfl, hW, hF, hT⟩
      · have hT := hT.2 c
        refine x_iconst (v := 2) dX10_shapes_377 rfl ?_
        refine x_goto (tgt := 382) dX10_shapes_378 rfl ?_
        refine x_aload_n dX10_shapes_382 rfl rfl rfl ?_
        refine m_geti (v := (s1.1 127)) dX10_shapes_383 f_TallySlateModel_507 (by decide) rfl hW rfl ?_
        refine m_inv (vs := [.int 2, .int (s1.1 127)]) dX10_shapes_386 oX10_trouble q2696 q2694 qs98 rfl rfl (Nat.le_of_ble_eq_true rfl) rfl hW hF hT ?_
        rintro _ s4 ⟨rfl, hT⟩ h hW hF
        exact x_vret dX10_shapes_389 rfl ⟨_, _, rfl, hW, hF, hT⟩
    · have hT := hT.2 c
      refine x_iload dX10_shapes_364 rfl ?_
      refine x_if_ge (tgt := 390) dX10_shapes_366 rfl (fun c => ?_) (fun c => ?_)
      · have hT := hT.1 c
        refine x_iconst (v := 0) dX10_shapes_390 rfl ?_
        refine x_istore (lo' := [some (.ref w.1), none, some (.int a2), some (.int a3), some (.int a4), some (.int a5), some (.int a6), some (.int 0), none, none]) dX10_shapes_391 (Nat.le_of_ble_eq_true rfl) rfl ?_
        refine Ex.wkl (lo' := [some (.ref w.1), none, some (.int a2), some (.int a3), some (.int a4), some (.int a5), none, some (.int 0), none, none]) ⟨rfl, rfl, rfl, rfl, rfl, rfl, trivial⟩ ?_
        exact hT h0 h hW hF
      · have hT := hT.2 c
        refine x_aload_n dX10_shapes_369 rfl rfl rfl ?_
        refine x_iload dX10_shapes_370 rfl ?_
        refine x_bipush (v := 20) dX10_shapes_372 rfl ?_
        refine x_icmp_le (tgt := 381) dX10_shapes_374 rfl (fun c => ?_) (fun c => ?_)
        · have hT := hT.1 c
          refine x_iconst (v := 1) dX10_shapes_381 rfl ?_
          refine x_aload_n dX10_shapes_382 rfl rfl rfl ?_
          refine m_geti (v := (s1.1 127)) dX10_shapes_383 f_TallySlateModel_507 (by decide) rfl hW rfl ?_
          refine m_inv (vs := [.int 1, .int (s1.1 127)]) dX10_shapes_386 oX10_trouble q2696 q2694 qs98 rfl rfl (Nat.le_of_ble_eq_true rfl) rfl hW hF hT ?_
          rintro _ s5 ⟨rfl, hT⟩ h hW hF
          exact x_vret dX10_shapes_389 rfl ⟨_, _, rfl, hW, hF, hT⟩
        · have hT := hT.2 c
          refine x_iconst (v := 2) dX10_shapes_377 rfl ?_
          refine x_goto (tgt := 382) dX10_shapes_378 rfl ?_
          refine x_aload_n dX10_shapes_382 rfl rfl rfl ?_
          refine m_geti (v := (s1.1 127)) dX10_shapes_383 f_TallySlateModel_507 (by decide) rfl hW rfl ?_
          refine m_inv (vs := [.int 2, .int (s1.1 127)]) dX10_shapes_386 oX10_trouble q2696 q2694 qs98 rfl rfl (Nat.le_of_ble_eq_true rfl) rfl hW hF hT ?_
          rintro _ s6 ⟨rfl, hT⟩ h hW hF
          exact x_vret dX10_shapes_389 rfl ⟨_, _, rfl, hW, hF, hT⟩
  · have hT := hT.2 c
    refine x_iload dX10_shapes_252 rfl ?_
    refine x_aload_n dX10_shapes_254 rfl rfl rfl ?_
    refine x_aload_n dX10_shapes_255 rfl rfl rfl ?_
    refine x_iload_n dX10_shapes_256 rfl rfl ?_
    refine x_iload dX10_shapes_257 rfl ?_
    refine m_inv (vs := [.int a2, .int a7]) dX10_shapes_259 oX10_partAt q2751 q2749 qs111 rfl rfl (Nat.le_of_ble_eq_true rfl) rfl hW hF hT ?_
    rintro _ s7 ⟨v8, rfl, hT⟩ h hW hF
    refine m_inv (vs := [.int v8]) dX10_shapes_262 oX10_sizeAt q2735 q2733 qs107 rfl rfl (Nat.le_of_ble_eq_true rfl) rfl hW hF hT ?_
    rintro _ s9 ⟨v10, rfl, hT⟩ h hW hF
    refine m_invS (vs := [.int a5, .int v10]) dX10_shapes_265 oX10_most q2837 q2836 rfl rfl (Nat.le_of_ble_eq_true rfl) rfl hW hF hT ?_
    rintro _ s11 ⟨v12, rfl, hT⟩ h hW hF
    refine x_istore (lo' := [some (.ref w.1), none, some (.int a2), some (.int a3), some (.int a4), some (.int v12), some (.int a6), some (.int a7), none, none]) dX10_shapes_268 (Nat.le_of_ble_eq_true rfl) rfl ?_
    refine x_iinc (lo' := [some (.ref w.1), none, some (.int a2), some (.int a3), some (.int a4), some (.int v12), some (.int a6), some (.int (a7 + 1)), none, none]) dX10_shapes_270 rfl (show _ = (a7 + 1) from rfl) rfl ?_
    refine x_goto (tgt := 242) dX10_shapes_273 rfl ?_
    exact hT h0 h hW hF
set_option maxHeartbeats 16000000 in
theorem vX10_shapes_28 {l : Launch} {E : EN} {w : MO} {d : Nat} {s : MS} {Q : Option Value → MS → Prop} {a2 : Int32} {a3 : Int32} {a4 : Int32} {a6 : Int32} {a7 : Int32} (hT : (EvM l E w d MX10_sizeAt [.ref w.1, .int a2] s (fun r s1 => ∃ v2 : Int32, r = some (.int v2) ∧ ((v2 ≤ a7 → ((a6 ≤ 64 → ExM l E w (d + 1) MX10_shapes 143 [some (.ref w.1), none, some (.int a2), some (.int a3), some (.int a4), none, none, some (.int 0), none, none] [] s1 Q) ∧ (¬ a6 ≤ 64 → (EvM l E w d MX10_trouble [.ref w.1, .int 2, .int (s1.1 127)] s1 (fun r s3 => r = none ∧ Q none s3))))) ∧ (¬ v2 ≤ a7 → ((¬ a4 = 3 → (EvM l E w d MX10_partAt [.ref w.1, .int a2, .int a7] s1 (fun r s4 => ∃ v5 : Int32, r = some (.int v5) ∧ (inB v5 166300 ∧ (((s4.2.2.1 104 v5.toNatClampNeg) ≤ 1 → (EvM l E w d MX10_partAt [.ref w.1, .int a2, .int a7] s4 (fun r s6 => ∃ v7 : Int32, r = some (.int v7) ∧ (EvM l E w d MX10_sizeAt [.ref w.1, .int v7] s6 (fun r s8 => ∃ v9 : Int32, r = some (.int v9) ∧ (∀ y10 : Int32, y10 = (a6 + v9) → ExM l E w (d + 1) MX10_shapes 28 [some (.ref w.1), none, some (.int a2), some (.int a3), some (.int a4), none, some (.int y10), some (.int (a7 + 1)), none, none] [] s8 Q)))))) ∧ (¬ (s4.2.2.1 104 v5.toNatClampNeg) ≤ 1 → (EvM l E w d MX10_trouble [.ref w.1, .int 3, .int (s4.1 127)] s4 (fun r s11 => r = none ∧ Q none s11)))))))) ∧ (a4 = 3 → (EvM l E w d MX10_isInt [.ref w.1, .int a2, .int a7] s1 (fun r s12 => ∃ v13 : Int32, r = some (.int v13) ∧ ((v13 = 0 → (EvM l E w d MX10_partAt [.ref w.1, .int a2, .int a7] s12 (fun r s14 => ∃ v15 : Int32, r = some (.int v15) ∧ (inB v15 166300 ∧ (((s14.2.2.1 104 v15.toNatClampNeg) ≤ 1 → (EvM l E w d MX10_partAt [.ref w.1, .int a2, .int a7] s14 (fun r s16 => ∃ v17 : Int32, r = some (.int v17) ∧ (EvM l E w d MX10_sizeAt [.ref w.1, .int v17] s16 (fun r s18 => ∃ v19 : Int32, r = some (.int v19) ∧ (∀ y20 : Int32, y20 = (a6 + v19) → ExM l E w (d + 1) MX10_shapes 28 [some (.ref w.1), none, some (.int a2), some (.int a3), some (.int a4), none, some (.int y20), some (.int (a7 + 1)), none, none] [] s18 Q)))))) ∧ (¬ (s14.2.2.1 104 v15.toNatClampNeg) ≤ 1 → (EvM l E w d MX10_trouble [.ref w.1, .int 3, .int (s14.1 127)] s14 (fun r s21 => r = none ∧ Q none s21)))))))) ∧ (¬ v13 = 0 → (∀ y22 : Int32, y22 = (a6 + 1) → ExM l E w (d + 1) MX10_shapes 28 [some (.ref w.1), none, some (.int a2), some (.int a3), some (.int a4), none, some (.int y22), some (.int (a7 + 1)), none, none] [] s12 Q)))))))))))) : ExM l E w (d + 1) MX10_shapes 28 [some (.ref w.1), none, some (.int a2), some (.int a3), some (.int a4), none, some (.int a6), some (.int a7), none, none] [] s Q := by
  intro h0 h hW hF
  refine x_iload dX10_shapes_28 rfl ?_
  refine x_aload_n dX10_shapes_30 rfl rfl rfl ?_
  refine x_iload_n dX10_shapes_31 rfl rfl ?_
  refine m_inv (vs := [.int a2]) dX10_shapes_32 oX10_sizeAt q2735 q2733 qs107 rfl rfl (Nat.le_of_ble_eq_true rfl) rfl hW hF hT ?_
  rintro _ s1 ⟨v2, rfl, hT⟩ h hW hF
  refine x_icmp_ge (tgt := 123) dX10_shapes_35 rfl (fun c => ?_) (fun c => ?_)
  · have hT := hT.1 c
    refine x_iload dX10_shapes_123 rfl ?_
    refine x_bipush (v := 64) dX10_shapes_125 rfl ?_
    refine x_icmp_le (tgt := 140) dX10_shapes_127 rfl (fun c => ?_) (fun c => ?_)
    · have hT := hT.1 c
      refine x_iconst (v := 0) dX10_shapes_140 rfl ?_
      refine x_istore (lo' := [some (.ref w.1), none, some (.int a2), some (.int a3), some (.int a4), none, some (.int a6), some (.int 0), none, none]) dX10_shapes_141 (Nat.le_of_ble_eq_true rfl) rfl ?_
      refine Ex.wkl (lo' := [some (.ref w.1), none, some (.int a2), some (.int a3), some (.int a4), none, none, some (.int 0), none, none]) ⟨rfl, rfl, rfl, rfl, rfl, trivial⟩ ?_
      exact hT h0 h hW hF
    · have hT := hT.2 c
      refine x_aload_n dX10_shapes_130 rfl rfl rfl ?_
      refine x_iconst (v := 2) dX10_shapes_131 rfl ?_
      refine x_aload_n dX10_shapes_132 rfl rfl rfl ?_
      refine m_geti (v := (s1.1 127)) dX10_shapes_133 f_TallySlateModel_507 (by decide) rfl hW rfl ?_
      refine m_inv (vs := [.int 2, .int (s1.1 127)]) dX10_shapes_136 oX10_trouble q2696 q2694 qs98 rfl rfl (Nat.le_of_ble_eq_true rfl) rfl hW hF hT ?_
      rintro _ s3 ⟨rfl, hT⟩ h hW hF
      exact x_vret dX10_shapes_139 rfl ⟨_, _, rfl, hW, hF, hT⟩
  · have hT := hT.2 c
    refine x_iload dX10_shapes_38 rfl ?_
    refine x_iconst (v := 3) dX10_shapes_40 rfl ?_
    refine x_icmp_ne (tgt := 58) dX10_shapes_41 rfl (fun c => ?_) (fun c => ?_)
    · have hT := hT.1 c
      refine x_iconst (v := 0) dX10_shapes_58 rfl ?_
      refine x_istore (lo' := [some (.ref w.1), none, some (.int a2), some (.int a3), some (.int a4), none, some (.int a6), some (.int a7), some (.int 0), none]) dX10_shapes_59 (Nat.le_of_ble_eq_true rfl) rfl ?_
      refine x_iload dX10_shapes_61 rfl ?_
      refine x_if_ne (tgt := 92) dX10_shapes_63 rfl (fun c => absurd c (by decide)) (fun _ => ?_)
      refine x_aload_n dX10_shapes_66 rfl rfl rfl ?_
      refine m_geta dX10_shapes_67 f_TallySlateModel_183 (by decide) rfl hW ?_
      refine x_aload_n dX10_shapes_70 rfl rfl rfl ?_
      refine x_iload_n dX10_shapes_71 rfl rfl ?_
      refine x_iload dX10_shapes_72 rfl ?_
      refine m_inv (vs := [.int a2, .int a7]) dX10_shapes_74 oX10_partAt q2751 q2749 qs111 rfl rfl (Nat.le_of_ble_eq_true rfl) rfl hW hF hT ?_
      rintro _ s4 ⟨v5, rfl, hT⟩ h hW hF
      obtain ⟨hb, hT⟩ := hT
      refine m_iald (v := (s4.2.2.1 104 v5.toNatClampNeg)) dX10_shapes_77 rfl hb hW rfl ?_
      refine x_iconst (v := 1) dX10_shapes_78 rfl ?_
      refine x_icmp_le (tgt := 92) dX10_shapes_79 rfl (fun c => ?_) (fun c => ?_)
      · have hT := hT.1 c
        refine x_iload dX10_shapes_92 rfl ?_
        refine x_iload dX10_shapes_94 rfl ?_
        refine x_if_eq (tgt := 103) dX10_shapes_96 rfl (fun _ => ?_) (fun c => absurd c (by decide))
        refine x_aload_n dX10_shapes_103 rfl rfl rfl ?_
        refine x_aload_n dX10_shapes_104 rfl rfl rfl ?_
        refine x_iload_n dX10_shapes_105 rfl rfl ?_
        refine x_iload dX10_shapes_106 rfl ?_
        refine m_inv (vs := [.int a2, .int a7]) dX10_shapes_108 oX10_partAt q2751 q2749 qs111 rfl rfl (Nat.le_of_ble_eq_true rfl) rfl hW hF hT ?_
        rintro _ s6 ⟨v7, rfl, hT⟩ h hW hF
        refine m_inv (vs := [.int v7]) dX10_shapes_111 oX10_sizeAt q2735 q2733 qs107 rfl rfl (Nat.le_of_ble_eq_true rfl) rfl hW hF hT ?_
        rintro _ s8 ⟨v9, rfl, hT⟩ h hW hF
        refine x_iadd dX10_shapes_114 ?_
        obtain ⟨y10, ey10⟩ : ∃ z : Int32, z = (a6 + v9) := ⟨_, rfl⟩
        have hT := hT y10 ey10
        refine x_istore (lo' := [some (.ref w.1), none, some (.int a2), some (.int a3), some (.int a4), none, some (.int y10), some (.int a7), some (.int 0), none]) dX10_shapes_115 (Nat.le_of_ble_eq_true rfl) (by rw [ey10]; rfl) ?_
        refine x_iinc (lo' := [some (.ref w.1), none, some (.int a2), some (.int a3), some (.int a4), none, some (.int y10), some (.int (a7 + 1)), some (.int 0), none]) dX10_shapes_117 rfl (show _ = (a7 + 1) from rfl) rfl ?_
        refine x_goto (tgt := 28) dX10_shapes_120 rfl ?_
        refine Ex.wkl (lo' := [some (.ref w.1), none, some (.int a2), some (.int a3), some (.int a4), none, some (.int y10), some (.int (a7 + 1)), none, none]) ⟨rfl, rfl, rfl, rfl, rfl, rfl, trivial⟩ ?_
        exact hT h0 h hW hF
      · have hT := hT.2 c
        refine x_aload_n dX10_shapes_82 rfl rfl rfl ?_
        refine x_iconst (v := 3) dX10_shapes_83 rfl ?_
        refine x_aload_n dX10_shapes_84 rfl rfl rfl ?_
        refine m_geti (v := (s4.1 127)) dX10_shapes_85 f_TallySlateModel_507 (by decide) rfl hW rfl ?_
        refine m_inv (vs := [.int 3, .int (s4.1 127)]) dX10_shapes_88 oX10_trouble q2696 q2694 qs98 rfl rfl (Nat.le_of_ble_eq_true rfl) rfl hW hF hT ?_
        rintro _ s11 ⟨rfl, hT⟩ h hW hF
        exact x_vret dX10_shapes_91 rfl ⟨_, _, rfl, hW, hF, hT⟩
    · have hT := hT.2 c
      refine x_aload_n dX10_shapes_44 rfl rfl rfl ?_
      refine x_iload_n dX10_shapes_45 rfl rfl ?_
      refine x_iload dX10_shapes_46 rfl ?_
      refine m_inv (vs := [.int a2, .int a7]) dX10_shapes_48 oX10_isInt q2759 q2757 qs113 rfl rfl (Nat.le_of_ble_eq_true rfl) rfl hW hF hT ?_
      rintro _ s12 ⟨v13, rfl, hT⟩ h hW hF
      refine x_if_eq (tgt := 58) dX10_shapes_51 rfl (fun c => ?_) (fun c => ?_)
      · have hT := hT.1 c
        refine x_iconst (v := 0) dX10_shapes_58 rfl ?_
        refine x_istore (lo' := [some (.ref w.1), none, some (.int a2), some (.int a3), some (.int a4), none, some (.int a6), some (.int a7), some (.int 0), none]) dX10_shapes_59 (Nat.le_of_ble_eq_true rfl) rfl ?_
        refine x_iload dX10_shapes_61 rfl ?_
        refine x_if_ne (tgt := 92) dX10_shapes_63 rfl (fun c => absurd c (by decide)) (fun _ => ?_)
        refine x_aload_n dX10_shapes_66 rfl rfl rfl ?_
        refine m_geta dX10_shapes_67 f_TallySlateModel_183 (by decide) rfl hW ?_
        refine x_aload_n dX10_shapes_70 rfl rfl rfl ?_
        refine x_iload_n dX10_shapes_71 rfl rfl ?_
        refine x_iload dX10_shapes_72 rfl ?_
        refine m_inv (vs := [.int a2, .int a7]) dX10_shapes_74 oX10_partAt q2751 q2749 qs111 rfl rfl (Nat.le_of_ble_eq_true rfl) rfl hW hF hT ?_
        rintro _ s14 ⟨v15, rfl, hT⟩ h hW hF
        obtain ⟨hb, hT⟩ := hT
        refine m_iald (v := (s14.2.2.1 104 v15.toNatClampNeg)) dX10_shapes_77 rfl hb hW rfl ?_
        refine x_iconst (v := 1) dX10_shapes_78 rfl ?_
        refine x_icmp_le (tgt := 92) dX10_shapes_79 rfl (fun c => ?_) (fun c => ?_)
        · have hT := hT.1 c
          refine x_iload dX10_shapes_92 rfl ?_
          refine x_iload dX10_shapes_94 rfl ?_
          refine x_if_eq (tgt := 103) dX10_shapes_96 rfl (fun _ => ?_) (fun c => absurd c (by decide))
          refine x_aload_n dX10_shapes_103 rfl rfl rfl ?_
          refine x_aload_n dX10_shapes_104 rfl rfl rfl ?_
          refine x_iload_n dX10_shapes_105 rfl rfl ?_
          refine x_iload dX10_shapes_106 rfl ?_
          refine m_inv (vs := [.int a2, .int a7]) dX10_shapes_108 oX10_partAt q2751 q2749 qs111 rfl rfl (Nat.le_of_ble_eq_true rfl) rfl hW hF hT ?_
          rintro _ s16 ⟨v17, rfl, hT⟩ h hW hF
          refine m_inv (vs := [.int v17]) dX10_shapes_111 oX10_sizeAt q2735 q2733 qs107 rfl rfl (Nat.le_of_ble_eq_true rfl) rfl hW hF hT ?_
          rintro _ s18 ⟨v19, rfl, hT⟩ h hW hF
          refine x_iadd dX10_shapes_114 ?_
          obtain ⟨y20, ey20⟩ : ∃ z : Int32, z = (a6 + v19) := ⟨_, rfl⟩
          have hT := hT y20 ey20
          refine x_istore (lo' := [some (.ref w.1), none, some (.int a2), some (.int a3), some (.int a4), none, some (.int y20), some (.int a7), some (.int 0), none]) dX10_shapes_115 (Nat.le_of_ble_eq_true rfl) (by rw [ey20]; rfl) ?_
          refine x_iinc (lo' := [some (.ref w.1), none, some (.int a2), some (.int a3), some (.int a4), none, some (.int y20), some (.int (a7 + 1)), some (.int 0), none]) dX10_shapes_117 rfl (show _ = (a7 + 1) from rfl) rfl ?_
          refine x_goto (tgt := 28) dX10_shapes_120 rfl ?_
          refine Ex.wkl (lo' := [some (.ref w.1), none, some (.int a2), some (.int a3), some (.int a4), none, some (.int y20), some (.int (a7 + 1)), none, none]) ⟨rfl, rfl, rfl, rfl, rfl, rfl, trivial⟩ ?_
          exact hT h0 h hW hF
        · have hT := hT.2 c
          refine x_aload_n dX10_shapes_82 rfl rfl rfl ?_
          refine x_iconst (v := 3) dX10_shapes_83 rfl ?_
          refine x_aload_n dX10_shapes_84 rfl rfl rfl ?_
          refine m_geti (v := (s14.1 127)) dX10_shapes_85 f_TallySlateModel_507 (by decide) rfl hW rfl ?_
          refine m_inv (vs := [.int 3, .int (s14.1 127)]) dX10_shapes_88 oX10_trouble q2696 q2694 qs98 rfl rfl (Nat.le_of_ble_eq_true rfl) rfl hW hF hT ?_
          rintro _ s21 ⟨rfl, hT⟩ h hW hF
          exact x_vret dX10_shapes_91 rfl ⟨_, _, rfl, hW, hF, hT⟩
      · have hT := hT.2 c
        refine x_iconst (v := 1) dX10_shapes_54 rfl ?_
        refine x_goto (tgt := 59) dX10_shapes_55 rfl ?_
        refine x_istore (lo' := [some (.ref w.1), none, some (.int a2), some (.int a3), some (.int a4), none, some (.int a6), some (.int a7), some (.int 1), none]) dX10_shapes_59 (Nat.le_of_ble_eq_true rfl) rfl ?_
        refine x_iload dX10_shapes_61 rfl ?_
        refine x_if_ne (tgt := 92) dX10_shapes_63 rfl (fun _ => ?_) (fun c => absurd c (by decide))
        refine x_iload dX10_shapes_92 rfl ?_
        refine x_iload dX10_shapes_94 rfl ?_
        refine x_if_eq (tgt := 103) dX10_shapes_96 rfl (fun c => absurd c (by decide)) (fun _ => ?_)
        refine x_iconst (v := 1) dX10_shapes_99 rfl ?_
        refine x_goto (tgt := 114) dX10_shapes_100 rfl ?_
        refine x_iadd dX10_shapes_114 ?_
        obtain ⟨y22, ey22⟩ : ∃ z : Int32, z = (a6 + 1) := ⟨_, rfl⟩
        have hT := hT y22 ey22
        refine x_istore (lo' := [some (.ref w.1), none, some (.int a2), some (.int a3), some (.int a4), none, some (.int y22), some (.int a7), some (.int 1), none]) dX10_shapes_115 (Nat.le_of_ble_eq_true rfl) (by rw [ey22]; rfl) ?_
        refine x_iinc (lo' := [some (.ref w.1), none, some (.int a2), some (.int a3), some (.int a4), none, some (.int y22), some (.int (a7 + 1)), some (.int 1), none]) dX10_shapes_117 rfl (show _ = (a7 + 1) from rfl) rfl ?_
        refine x_goto (tgt := 28) dX10_shapes_120 rfl ?_
        refine Ex.wkl (lo' := [some (.ref w.1), none, some (.int a2), some (.int a3), some (.int a4), none, some (.int y22), some (.int (a7 + 1)), none, none]) ⟨rfl, rfl, rfl, rfl, rfl, rfl, trivial⟩ ?_
        exact hT h0 h hW hF
theorem vX10_shapes_393 {l : Launch} {E : EN} {w : MO} {d : Nat} {s : MS} {Q : Option Value → MS → Prop} {a2 : Int32} {a3 : Int32} {a4 : Int32} {a5 : Int32} {a7 : Int32} (hT : ((a5 ≤ a7 → (EvM l E w d MX10_builds [.ref w.1, .int 2, .int a3] s (fun r s1 => r = none ∧ Q none s1))) ∧ (¬ a5 ≤ a7 → (∀ y2 : Int32, y2 = (s.1 108) → ExM l E w (d + 1) MX10_shapes 409 [some (.ref w.1), none, some (.int a2), some (.int a3), some (.int a4), some (.int a5), none, some (.int a7), some (.int y2), some (.int 0)] [] s Q)))) : ExM l E w (d + 1) MX10_shapes 393 [some (.ref w.1), none, some (.int a2), some (.int a3), some (.int a4), some (.int a5), none, some (.int a7), none, none] [] s Q := by
  intro h0 h hW hF
  refine x_iload dX10_shapes_393 rfl ?_
  refine x_iload dX10_shapes_395 rfl ?_
  refine x_icmp_ge (tgt := 501) dX10_shapes_397 rfl (fun c => ?_) (fun c => ?_)
  · have hT := hT.1 c
    refine x_aload_n dX10_shapes_501 rfl rfl rfl ?_
    refine x_iconst (v := 2) dX10_shapes_502 rfl ?_
    refine x_iload_n dX10_shapes_503 rfl rfl ?_
    refine m_inv (vs := [.int 2, .int a3]) dX10_shapes_504 oX10_builds q2739 q2737 qs108 rfl rfl (Nat.le_of_ble_eq_true rfl) rfl hW hF hT ?_
    rintro _ s1 ⟨rfl, hT⟩ h hW hF
    exact x_vret dX10_shapes_507 rfl ⟨_, _, rfl, hW, hF, hT⟩
  · have hT := hT.2 c
    refine x_aload_n dX10_shapes_400 rfl rfl rfl ?_
    refine m_geti (v := (s.1 108)) dX10_shapes_401 f_TallySlateModel_461 (by decide) rfl hW rfl ?_
    obtain ⟨y2, ey2⟩ : ∃ z : Int32, z = (s.1 108) := ⟨_, rfl⟩
    have hT := hT y2 ey2
    refine x_istore (lo' := [some (.ref w.1), none, some (.int a2), some (.int a3), some (.int a4), some (.int a5), none, some (.int a7), some (.int y2), none]) dX10_shapes_404 (Nat.le_of_ble_eq_true rfl) (by rw [ey2]; rfl) ?_
    refine x_iconst (v := 0) dX10_shapes_406 rfl ?_
    refine x_istore (lo' := [some (.ref w.1), none, some (.int a2), some (.int a3), some (.int a4), some (.int a5), none, some (.int a7), some (.int y2), some (.int 0)]) dX10_shapes_407 (Nat.le_of_ble_eq_true rfl) rfl ?_
    exact hT h0 h hW hF
theorem vX10_shapes_143 {l : Launch} {E : EN} {w : MO} {d : Nat} {s : MS} {Q : Option Value → MS → Prop} {a2 : Int32} {a3 : Int32} {a4 : Int32} {a7 : Int32} (hT : (EvM l E w d MX10_sizeAt [.ref w.1, .int a2] s (fun r s1 => ∃ v2 : Int32, r = some (.int v2) ∧ ((v2 ≤ a7 → (EvM l E w d MX10_builds [.ref w.1, .int 1, .int a3] s1 (fun r s3 => r = none ∧ Q none s3))) ∧ (¬ v2 ≤ a7 → ((¬ a4 = 3 → ExM l E w (d + 1) MX10_shapes 182 [some (.ref w.1), none, some (.int a2), some (.int a3), some (.int a4), none, none, some (.int a7), some (.int 0), none] [] s1 Q) ∧ (a4 = 3 → (EvM l E w d MX10_isInt [.ref w.1, .int a2, .int a7] s1 (fun r s4 => ∃ v5 : Int32, r = some (.int v5) ∧ ((v5 = 0 → ExM l E w (d + 1) MX10_shapes 182 [some (.ref w.1), none, some (.int a2), some (.int a3), some (.int a4), none, none, some (.int a7), some (.int 0), none] [] s4 Q) ∧ (¬ v5 = 0 → (EvM l E w d MX10_element [.ref w.1, .int a2, .int a7] s4 (fun r s6 => r = none ∧ ExM l E w (d + 1) MX10_shapes 143 [some (.ref w.1), none, some (.int a2), some (.int a3), some (.int a4), none, none, some (.int (a7 + 1)), none, none] [] s6 Q))))))))))))) : ExM l E w (d + 1) MX10_shapes 143 [some (.ref w.1), none, some (.int a2), some (.int a3), some (.int a4), none, none, some (.int a7), none, none] [] s Q := by
  intro h0 h hW hF
  refine x_iload dX10_shapes_143 rfl ?_
  refine x_aload_n dX10_shapes_145 rfl rfl rfl ?_
  refine x_iload_n dX10_shapes_146 rfl rfl ?_
  refine m_inv (vs := [.int a2]) dX10_shapes_147 oX10_sizeAt q2735 q2733 qs107 rfl rfl (Nat.le_of_ble_eq_true rfl) rfl hW hF hT ?_
  rintro _ s1 ⟨v2, rfl, hT⟩ h hW hF
  refine x_icmp_ge (tgt := 223) dX10_shapes_150 rfl (fun c => ?_) (fun c => ?_)
  · have hT := hT.1 c
    refine x_aload_n dX10_shapes_223 rfl rfl rfl ?_
    refine x_iconst (v := 1) dX10_shapes_224 rfl ?_
    refine x_iload_n dX10_shapes_225 rfl rfl ?_
    refine m_inv (vs := [.int 1, .int a3]) dX10_shapes_226 oX10_builds q2739 q2737 qs108 rfl rfl (Nat.le_of_ble_eq_true rfl) rfl hW hF hT ?_
    rintro _ s3 ⟨rfl, hT⟩ h hW hF
    exact x_vret dX10_shapes_229 rfl ⟨_, _, rfl, hW, hF, hT⟩
  · have hT := hT.2 c
    refine x_iload dX10_shapes_153 rfl ?_
    refine x_iconst (v := 3) dX10_shapes_155 rfl ?_
    refine x_icmp_ne (tgt := 179) dX10_shapes_156 rfl (fun c => ?_) (fun c => ?_)
    · have hT := hT.1 c
      refine x_iconst (v := 0) dX10_shapes_179 rfl ?_
      refine x_istore (lo' := [some (.ref w.1), none, some (.int a2), some (.int a3), some (.int a4), none, none, some (.int a7), some (.int 0), none]) dX10_shapes_180 (Nat.le_of_ble_eq_true rfl) rfl ?_
      exact hT h0 h hW hF
    · have hT := hT.2 c
      refine x_aload_n dX10_shapes_159 rfl rfl rfl ?_
      refine x_iload_n dX10_shapes_160 rfl rfl ?_
      refine x_iload dX10_shapes_161 rfl ?_
      refine m_inv (vs := [.int a2, .int a7]) dX10_shapes_163 oX10_isInt q2759 q2757 qs113 rfl rfl (Nat.le_of_ble_eq_true rfl) rfl hW hF hT ?_
      rintro _ s4 ⟨v5, rfl, hT⟩ h hW hF
      refine x_if_eq (tgt := 179) dX10_shapes_166 rfl (fun c => ?_) (fun c => ?_)
      · have hT := hT.1 c
        refine x_iconst (v := 0) dX10_shapes_179 rfl ?_
        refine x_istore (lo' := [some (.ref w.1), none, some (.int a2), some (.int a3), some (.int a4), none, none, some (.int a7), some (.int 0), none]) dX10_shapes_180 (Nat.le_of_ble_eq_true rfl) rfl ?_
        exact hT h0 h hW hF
      · have hT := hT.2 c
        refine x_aload_n dX10_shapes_169 rfl rfl rfl ?_
        refine x_iload_n dX10_shapes_170 rfl rfl ?_
        refine x_iload dX10_shapes_171 rfl ?_
        refine m_inv (vs := [.int a2, .int a7]) dX10_shapes_173 oX10_element q2798 q2796 qs122 rfl rfl (Nat.le_of_ble_eq_true rfl) rfl hW hF hT ?_
        rintro _ s6 ⟨rfl, hT⟩ h hW hF
        refine x_goto (tgt := 217) dX10_shapes_176 rfl ?_
        refine x_iinc (lo' := [some (.ref w.1), none, some (.int a2), some (.int a3), some (.int a4), none, none, some (.int (a7 + 1)), none, none]) dX10_shapes_217 rfl (show _ = (a7 + 1) from rfl) rfl ?_
        refine x_goto (tgt := 143) dX10_shapes_220 rfl ?_
        exact hT h0 h hW hF
set_option maxHeartbeats 16000000 in
theorem vX10_shapes_409 {l : Launch} {E : EN} {w : MO} {d : Nat} {s : MS} {Q : Option Value → MS → Prop} {a2 : Int32} {a3 : Int32} {a4 : Int32} {a5 : Int32} {a7 : Int32} {a8 : Int32} {a9 : Int32} (hT : (EvM l E w d MX10_sizeAt [.ref w.1, .int a2] s (fun r s1 => ∃ v2 : Int32, r = some (.int v2) ∧ ((v2 ≤ a9 → (EvM l E w d MX10_rowOf [.ref w.1, .int a8] s1 (fun r s3 => r = none ∧ ExM l E w (d + 1) MX10_shapes 393 [some (.ref w.1), none, some (.int a2), some (.int a3), some (.int a4), some (.int a5), none, some (.int (a7 + 1)), none, none] [] s3 Q))) ∧ (¬ v2 ≤ a9 → ((¬ a4 = 1 → ((¬ a4 = 2 → ExM l E w (d + 1) MX10_shapes 409 [some (.ref w.1), none, some (.int a2), some (.int a3), some (.int a4), some (.int a5), none, some (.int a7), some (.int a8), some (.int (a9 + 1))] [] s1 Q) ∧ (a4 = 2 → (EvM l E w d MX10_partAt [.ref w.1, .int a2, .int a9] s1 (fun r s4 => ∃ v5 : Int32, r = some (.int v5) ∧ (EvM l E w d MX10_sizeAt [.ref w.1, .int v5] s4 (fun r s6 => ∃ v7 : Int32, r = some (.int v7) ∧ ((v7 ≤ a7 → ExM l E w (d + 1) MX10_shapes 409 [some (.ref w.1), none, some (.int a2), some (.int a3), some (.int a4), some (.int a5), none, some (.int a7), some (.int a8), some (.int (a9 + 1))] [] s6 Q) ∧ (¬ v7 ≤ a7 → (EvM l E w d MX10_partAt [.ref w.1, .int a2, .int a9] s6 (fun r s8 => ∃ v9 : Int32, r = some (.int v9) ∧ (EvM l E w d MX10_element [.ref w.1, .int v9, .int a7] s8 (fun r s10 => r = none ∧ ExM l E w (d + 1) MX10_shapes 409 [some (.ref w.1), none, some (.int a2), some (.int a3), some (.int a4), some (.int a5), none, some (.int a7), some (.int a8), some (.int (a9 + 1))] [] s10 Q))))))))))))) ∧ (a4 = 1 → (inB ((a2 + 2) + a9) 166300 ∧ ((¬ (s1.2.2.1 104 ((a2 + 2) + a9).toNatClampNeg) = a7 → ((¬ a4 = 2 → ExM l E w (d + 1) MX10_shapes 409 [some (.ref w.1), none, some (.int a2), some (.int a3), some (.int a4), some (.int a5), none, some (.int a7), some (.int a8), some (.int (a9 + 1))] [] s1 Q) ∧ (a4 = 2 → (EvM l E w d MX10_partAt [.ref w.1, .int a2, .int a9] s1 (fun r s11 => ∃ v12 : Int32, r = some (.int v12) ∧ (EvM l E w d MX10_sizeAt [.ref w.1, .int v12] s11 (fun r s13 => ∃ v14 : Int32, r = some (.int v14) ∧ ((v14 ≤ a7 → ExM l E w (d + 1) MX10_shapes 409 [some (.ref w.1), none, some (.int a2), some (.int a3), some (.int a4), some (.int a5), none, some (.int a7), some (.int a8), some (.int (a9 + 1))] [] s13 Q) ∧ (¬ v14 ≤ a7 → (EvM l E w d MX10_partAt [.ref w.1, .int a2, .int a9] s13 (fun r s15 => ∃ v16 : Int32, r = some (.int v16) ∧ (EvM l E w d MX10_element [.ref w.1, .int v16, .int a7] s15 (fun r s17 => r = none ∧ ExM l E w (d + 1) MX10_shapes 409 [some (.ref w.1), none, some (.int a2), some (.int a3), some (.int a4), some (.int a5), none, some (.int a7), some (.int a8), some (.int (a9 + 1))] [] s17 Q))))))))))))) ∧ ((s1.2.2.1 104 ((a2 + 2) + a9).toNatClampNeg) = a7 → (EvM l E w d MX10_push [.ref w.1, .int 0, .int a9] s1 (fun r s18 => r = none ∧ ((¬ a4 = 2 → ExM l E w (d + 1) MX10_shapes 409 [some (.ref w.1), none, some (.int a2), some (.int a3), some (.int a4), some (.int a5), none, some (.int a7), some (.int a8), some (.int (a9 + 1))] [] s18 Q) ∧ (a4 = 2 → (EvM l E w d MX10_partAt [.ref w.1, .int a2, .int a9] s18 (fun r s19 => ∃ v20 : Int32, r = some (.int v20) ∧ (EvM l E w d MX10_sizeAt [.ref w.1, .int v20] s19 (fun r s21 => ∃ v22 : Int32, r = some (.int v22) ∧ ((v22 ≤ a7 → ExM l E w (d + 1) MX10_shapes 409 [some (.ref w.1), none, some (.int a2), some (.int a3), some (.int a4), some (.int a5), none, some (.int a7), some (.int a8), some (.int (a9 + 1))] [] s21 Q) ∧ (¬ v22 ≤ a7 → (EvM l E w d MX10_partAt [.ref w.1, .int a2, .int a9] s21 (fun r s23 => ∃ v24 : Int32, r = some (.int v24) ∧ (EvM l E w d MX10_element [.ref w.1, .int v24, .int a7] s23 (fun r s25 => r = none ∧ ExM l E w (d + 1) MX10_shapes 409 [some (.ref w.1), none, some (.int a2), some (.int a3), some (.int a4), some (.int a5), none, some (.int a7), some (.int a8), some (.int (a9 + 1))] [] s25 Q)))))))))))))))))))))))) : ExM l E w (d + 1) MX10_shapes 409 [some (.ref w.1), none, some (.int a2), some (.int a3), some (.int a4), some (.int a5), none, some (.int a7), some (.int a8), some (.int a9)] [] s Q := by
  intro h0 h hW hF
  refine x_iload dX10_shapes_409 rfl ?_
  refine x_aload_n dX10_shapes_411 rfl rfl rfl ?_
  refine x_iload_n dX10_shapes_412 rfl rfl ?_
  refine m_inv (vs := [.int a2]) dX10_shapes_413 oX10_sizeAt q2735 q2733 qs107 rfl rfl (Nat.le_of_ble_eq_true rfl) rfl hW hF hT ?_
  rintro _ s1 ⟨v2, rfl, hT⟩ h hW hF
  refine x_icmp_ge (tgt := 489) dX10_shapes_416 rfl (fun c => ?_) (fun c => ?_)
  · have hT := hT.1 c
    refine x_aload_n dX10_shapes_489 rfl rfl rfl ?_
    refine x_iload dX10_shapes_490 rfl ?_
    refine m_inv (vs := [.int a8]) dX10_shapes_492 oX10_rowOf q2775 q2773 qs117 rfl rfl (Nat.le_of_ble_eq_true rfl) rfl hW hF hT ?_
    rintro _ s3 ⟨rfl, hT⟩ h hW hF
    refine x_iinc (lo' := [some (.ref w.1), none, some (.int a2), some (.int a3), some (.int a4), some (.int a5), none, some (.int (a7 + 1)), some (.int a8), some (.int a9)]) dX10_shapes_495 rfl (show _ = (a7 + 1) from rfl) rfl ?_
    refine x_goto (tgt := 393) dX10_shapes_498 rfl ?_
    refine Ex.wkl (lo' := [some (.ref w.1), none, some (.int a2), some (.int a3), some (.int a4), some (.int a5), none, some (.int (a7 + 1)), none, none]) ⟨rfl, rfl, rfl, rfl, rfl, rfl, trivial⟩ ?_
    exact hT h0 h hW hF
  · have hT := hT.2 c
    refine x_iload dX10_shapes_419 rfl ?_
    refine x_iconst (v := 1) dX10_shapes_421 rfl ?_
    refine x_icmp_ne (tgt := 448) dX10_shapes_422 rfl (fun c => ?_) (fun c => ?_)
    · have hT := hT.1 c
      refine x_iload dX10_shapes_448 rfl ?_
      refine x_iconst (v := 2) dX10_shapes_450 rfl ?_
      refine x_icmp_ne (tgt := 483) dX10_shapes_451 rfl (fun c => ?_) (fun c => ?_)
      · have hT := hT.1 c
        refine x_iinc (lo' := [some (.ref w.1), none, some (.int a2), some (.int a3), some (.int a4), some (.int a5), none, some (.int a7), some (.int a8), some (.int (a9 + 1))]) dX10_shapes_483 rfl (show _ = (a9 + 1) from rfl) rfl ?_
        refine x_goto (tgt := 409) dX10_shapes_486 rfl ?_
        exact hT h0 h hW hF
      · have hT := hT.2 c
        refine x_aload_n dX10_shapes_454 rfl rfl rfl ?_
        refine x_aload_n dX10_shapes_455 rfl rfl rfl ?_
        refine x_iload_n dX10_shapes_456 rfl rfl ?_
        refine x_iload dX10_shapes_457 rfl ?_
        refine m_inv (vs := [.int a2, .int a9]) dX10_shapes_459 oX10_partAt q2751 q2749 qs111 rfl rfl (Nat.le_of_ble_eq_true rfl) rfl hW hF hT ?_
        rintro _ s4 ⟨v5, rfl, hT⟩ h hW hF
        refine m_inv (vs := [.int v5]) dX10_shapes_462 oX10_sizeAt q2735 q2733 qs107 rfl rfl (Nat.le_of_ble_eq_true rfl) rfl hW hF hT ?_
        rintro _ s6 ⟨v7, rfl, hT⟩ h hW hF
        refine x_iload dX10_shapes_465 rfl ?_
        refine x_icmp_le (tgt := 483) dX10_shapes_467 rfl (fun c => ?_) (fun c => ?_)
        · have hT := hT.1 c
          refine x_iinc (lo' := [some (.ref w.1), none, some (.int a2), some (.int a3), some (.int a4), some (.int a5), none, some (.int a7), some (.int a8), some (.int (a9 + 1))]) dX10_shapes_483 rfl (show _ = (a9 + 1) from rfl) rfl ?_
          refine x_goto (tgt := 409) dX10_shapes_486 rfl ?_
          exact hT h0 h hW hF
        · have hT := hT.2 c
          refine x_aload_n dX10_shapes_470 rfl rfl rfl ?_
          refine x_aload_n dX10_shapes_471 rfl rfl rfl ?_
          refine x_iload_n dX10_shapes_472 rfl rfl ?_
          refine x_iload dX10_shapes_473 rfl ?_
          refine m_inv (vs := [.int a2, .int a9]) dX10_shapes_475 oX10_partAt q2751 q2749 qs111 rfl rfl (Nat.le_of_ble_eq_true rfl) rfl hW hF hT ?_
          rintro _ s8 ⟨v9, rfl, hT⟩ h hW hF
          refine x_iload dX10_shapes_478 rfl ?_
          refine m_inv (vs := [.int v9, .int a7]) dX10_shapes_480 oX10_element q2798 q2796 qs122 rfl rfl (Nat.le_of_ble_eq_true rfl) rfl hW hF hT ?_
          rintro _ s10 ⟨rfl, hT⟩ h hW hF
          refine x_iinc (lo' := [some (.ref w.1), none, some (.int a2), some (.int a3), some (.int a4), some (.int a5), none, some (.int a7), some (.int a8), some (.int (a9 + 1))]) dX10_shapes_483 rfl (show _ = (a9 + 1) from rfl) rfl ?_
          refine x_goto (tgt := 409) dX10_shapes_486 rfl ?_
          exact hT h0 h hW hF
    · have hT := hT.2 c
      refine x_aload_n dX10_shapes_425 rfl rfl rfl ?_
      refine m_geta dX10_shapes_426 f_TallySlateModel_183 (by decide) rfl hW ?_
      refine x_iload_n dX10_shapes_429 rfl rfl ?_
      refine x_iconst (v := 2) dX10_shapes_430 rfl ?_
      refine x_iadd dX10_shapes_431 ?_
      refine x_iload dX10_shapes_432 rfl ?_
      refine x_iadd dX10_shapes_434 ?_
      obtain ⟨hb, hT⟩ := hT
      refine m_iald (v := (s1.2.2.1 104 ((a2 + 2) + a9).toNatClampNeg)) dX10_shapes_435 rfl hb hW rfl ?_
      refine x_iload dX10_shapes_436 rfl ?_
      refine x_icmp_ne (tgt := 448) dX10_shapes_438 rfl (fun c => ?_) (fun c => ?_)
      · have hT := hT.1 c
        refine x_iload dX10_shapes_448 rfl ?_
        refine x_iconst (v := 2) dX10_shapes_450 rfl ?_
        refine x_icmp_ne (tgt := 483) dX10_shapes_451 rfl (fun c => ?_) (fun c => ?_)
        · have hT := hT.1 c
          refine x_iinc (lo' := [some (.ref w.1), none, some (.int a2), some (.int a3), some (.int a4), some (.int a5), none, some (.int a7), some (.int a8), some (.int (a9 + 1))]) dX10_shapes_483 rfl (show _ = (a9 + 1) from rfl) rfl ?_
          refine x_goto (tgt := 409) dX10_shapes_486 rfl ?_
          exact hT h0 h hW hF
        · have hT := hT.2 c
          refine x_aload_n dX10_shapes_454 rfl rfl rfl ?_
          refine x_aload_n dX10_shapes_455 rfl rfl rfl ?_
          refine x_iload_n dX10_shapes_456 rfl rfl ?_
          refine x_iload dX10_shapes_457 rfl ?_
          refine m_inv (vs := [.int a2, .int a9]) dX10_shapes_459 oX10_partAt q2751 q2749 qs111 rfl rfl (Nat.le_of_ble_eq_true rfl) rfl hW hF hT ?_
          rintro _ s11 ⟨v12, rfl, hT⟩ h hW hF
          refine m_inv (vs := [.int v12]) dX10_shapes_462 oX10_sizeAt q2735 q2733 qs107 rfl rfl (Nat.le_of_ble_eq_true rfl) rfl hW hF hT ?_
          rintro _ s13 ⟨v14, rfl, hT⟩ h hW hF
          refine x_iload dX10_shapes_465 rfl ?_
          refine x_icmp_le (tgt := 483) dX10_shapes_467 rfl (fun c => ?_) (fun c => ?_)
          · have hT := hT.1 c
            refine x_iinc (lo' := [some (.ref w.1), none, some (.int a2), some (.int a3), some (.int a4), some (.int a5), none, some (.int a7), some (.int a8), some (.int (a9 + 1))]) dX10_shapes_483 rfl (show _ = (a9 + 1) from rfl) rfl ?_
            refine x_goto (tgt := 409) dX10_shapes_486 rfl ?_
            exact hT h0 h hW hF
          · have hT := hT.2 c
            refine x_aload_n dX10_shapes_470 rfl rfl rfl ?_
            refine x_aload_n dX10_shapes_471 rfl rfl rfl ?_
            refine x_iload_n dX10_shapes_472 rfl rfl ?_
            refine x_iload dX10_shapes_473 rfl ?_
            refine m_inv (vs := [.int a2, .int a9]) dX10_shapes_475 oX10_partAt q2751 q2749 qs111 rfl rfl (Nat.le_of_ble_eq_true rfl) rfl hW hF hT ?_
            rintro _ s15 ⟨v16, rfl, hT⟩ h hW hF
            refine x_iload dX10_shapes_478 rfl ?_
            refine m_inv (vs := [.int v16, .int a7]) dX10_shapes_480 oX10_element q2798 q2796 qs122 rfl rfl (Nat.le_of_ble_eq_true rfl) rfl hW hF hT ?_
            rintro _ s17 ⟨rfl, hT⟩ h hW hF
            refine x_iinc (lo' := [some (.ref w.1), none, some (.int a2), some (.int a3), some (.int a4), some (.int a5), none, some (.int a7), some (.int a8), some (.int (a9 + 1))]) dX10_shapes_483 rfl (show _ = (a9 + 1) from rfl) rfl ?_
            refine x_goto (tgt := 409) dX10_shapes_486 rfl ?_
            exact hT h0 h hW hF
      · have hT := hT.2 c
        refine x_aload_n dX10_shapes_441 rfl rfl rfl ?_
        refine x_iconst (v := 0) dX10_shapes_442 rfl ?_
        refine x_iload dX10_shapes_443 rfl ?_
        refine m_inv (vs := [.int 0, .int a9]) dX10_shapes_445 oX10_push q2708 q2706 qs101 rfl rfl (Nat.le_of_ble_eq_true rfl) rfl hW hF hT ?_
        rintro _ s18 ⟨rfl, hT⟩ h hW hF
        refine x_iload dX10_shapes_448 rfl ?_
        refine x_iconst (v := 2) dX10_shapes_450 rfl ?_
        refine x_icmp_ne (tgt := 483) dX10_shapes_451 rfl (fun c => ?_) (fun c => ?_)
        · have hT := hT.1 c
          refine x_iinc (lo' := [some (.ref w.1), none, some (.int a2), some (.int a3), some (.int a4), some (.int a5), none, some (.int a7), some (.int a8), some (.int (a9 + 1))]) dX10_shapes_483 rfl (show _ = (a9 + 1) from rfl) rfl ?_
          refine x_goto (tgt := 409) dX10_shapes_486 rfl ?_
          exact hT h0 h hW hF
        · have hT := hT.2 c
          refine x_aload_n dX10_shapes_454 rfl rfl rfl ?_
          refine x_aload_n dX10_shapes_455 rfl rfl rfl ?_
          refine x_iload_n dX10_shapes_456 rfl rfl ?_
          refine x_iload dX10_shapes_457 rfl ?_
          refine m_inv (vs := [.int a2, .int a9]) dX10_shapes_459 oX10_partAt q2751 q2749 qs111 rfl rfl (Nat.le_of_ble_eq_true rfl) rfl hW hF hT ?_
          rintro _ s19 ⟨v20, rfl, hT⟩ h hW hF
          refine m_inv (vs := [.int v20]) dX10_shapes_462 oX10_sizeAt q2735 q2733 qs107 rfl rfl (Nat.le_of_ble_eq_true rfl) rfl hW hF hT ?_
          rintro _ s21 ⟨v22, rfl, hT⟩ h hW hF
          refine x_iload dX10_shapes_465 rfl ?_
          refine x_icmp_le (tgt := 483) dX10_shapes_467 rfl (fun c => ?_) (fun c => ?_)
          · have hT := hT.1 c
            refine x_iinc (lo' := [some (.ref w.1), none, some (.int a2), some (.int a3), some (.int a4), some (.int a5), none, some (.int a7), some (.int a8), some (.int (a9 + 1))]) dX10_shapes_483 rfl (show _ = (a9 + 1) from rfl) rfl ?_
            refine x_goto (tgt := 409) dX10_shapes_486 rfl ?_
            exact hT h0 h hW hF
          · have hT := hT.2 c
            refine x_aload_n dX10_shapes_470 rfl rfl rfl ?_
            refine x_aload_n dX10_shapes_471 rfl rfl rfl ?_
            refine x_iload_n dX10_shapes_472 rfl rfl ?_
            refine x_iload dX10_shapes_473 rfl ?_
            refine m_inv (vs := [.int a2, .int a9]) dX10_shapes_475 oX10_partAt q2751 q2749 qs111 rfl rfl (Nat.le_of_ble_eq_true rfl) rfl hW hF hT ?_
            rintro _ s23 ⟨v24, rfl, hT⟩ h hW hF
            refine x_iload dX10_shapes_478 rfl ?_
            refine m_inv (vs := [.int v24, .int a7]) dX10_shapes_480 oX10_element q2798 q2796 qs122 rfl rfl (Nat.le_of_ble_eq_true rfl) rfl hW hF hT ?_
            rintro _ s25 ⟨rfl, hT⟩ h hW hF
            refine x_iinc (lo' := [some (.ref w.1), none, some (.int a2), some (.int a3), some (.int a4), some (.int a5), none, some (.int a7), some (.int a8), some (.int (a9 + 1))]) dX10_shapes_483 rfl (show _ = (a9 + 1) from rfl) rfl ?_
            refine x_goto (tgt := 409) dX10_shapes_486 rfl ?_
            exact hT h0 h hW hF
theorem vX10_shapes_182 {l : Launch} {E : EN} {w : MO} {d : Nat} {s : MS} {Q : Option Value → MS → Prop} {a2 : Int32} {a3 : Int32} {a4 : Int32} {a7 : Int32} {a8 : Int32} (hT : (EvM l E w d MX10_partAt [.ref w.1, .int a2, .int a7] s (fun r s1 => ∃ v2 : Int32, r = some (.int v2) ∧ (EvM l E w d MX10_sizeAt [.ref w.1, .int v2] s1 (fun r s3 => ∃ v4 : Int32, r = some (.int v4) ∧ ((v4 ≤ a8 → ExM l E w (d + 1) MX10_shapes 143 [some (.ref w.1), none, some (.int a2), some (.int a3), some (.int a4), none, none, some (.int (a7 + 1)), none, none] [] s3 Q) ∧ (¬ v4 ≤ a8 → (EvM l E w d MX10_partAt [.ref w.1, .int a2, .int a7] s3 (fun r s5 => ∃ v6 : Int32, r = some (.int v6) ∧ (EvM l E w d MX10_element [.ref w.1, .int v6, .int a8] s5 (fun r s7 => r = none ∧ ExM l E w (d + 1) MX10_shapes 182 [some (.ref w.1), none, some (.int a2), some (.int a3), some (.int a4), none, none, some (.int a7), some (.int (a8 + 1)), none] [] s7 Q))))))))))) : ExM l E w (d + 1) MX10_shapes 182 [some (.ref w.1), none, some (.int a2), some (.int a3), some (.int a4), none, none, some (.int a7), some (.int a8), none] [] s Q := by
  intro h0 h hW hF
  refine x_iload dX10_shapes_182 rfl ?_
  refine x_aload_n dX10_shapes_184 rfl rfl rfl ?_
  refine x_aload_n dX10_shapes_185 rfl rfl rfl ?_
  refine x_iload_n dX10_shapes_186 rfl rfl ?_
  refine x_iload dX10_shapes_187 rfl ?_
  refine m_inv (vs := [.int a2, .int a7]) dX10_shapes_189 oX10_partAt q2751 q2749 qs111 rfl rfl (Nat.le_of_ble_eq_true rfl) rfl hW hF hT ?_
  rintro _ s1 ⟨v2, rfl, hT⟩ h hW hF
  refine m_inv (vs := [.int v2]) dX10_shapes_192 oX10_sizeAt q2735 q2733 qs107 rfl rfl (Nat.le_of_ble_eq_true rfl) rfl hW hF hT ?_
  rintro _ s3 ⟨v4, rfl, hT⟩ h hW hF
  refine x_icmp_ge (tgt := 217) dX10_shapes_195 rfl (fun c => ?_) (fun c => ?_)
  · have hT := hT.1 c
    refine x_iinc (lo' := [some (.ref w.1), none, some (.int a2), some (.int a3), some (.int a4), none, none, some (.int (a7 + 1)), some (.int a8), none]) dX10_shapes_217 rfl (show _ = (a7 + 1) from rfl) rfl ?_
    refine x_goto (tgt := 143) dX10_shapes_220 rfl ?_
    refine Ex.wkl (lo' := [some (.ref w.1), none, some (.int a2), some (.int a3), some (.int a4), none, none, some (.int (a7 + 1)), none, none]) ⟨rfl, rfl, rfl, rfl, rfl, trivial⟩ ?_
    exact hT h0 h hW hF
  · have hT := hT.2 c
    refine x_aload_n dX10_shapes_198 rfl rfl rfl ?_
    refine x_aload_n dX10_shapes_199 rfl rfl rfl ?_
    refine x_iload_n dX10_shapes_200 rfl rfl ?_
    refine x_iload dX10_shapes_201 rfl ?_
    refine m_inv (vs := [.int a2, .int a7]) dX10_shapes_203 oX10_partAt q2751 q2749 qs111 rfl rfl (Nat.le_of_ble_eq_true rfl) rfl hW hF hT ?_
    rintro _ s5 ⟨v6, rfl, hT⟩ h hW hF
    refine x_iload dX10_shapes_206 rfl ?_
    refine m_inv (vs := [.int v6, .int a8]) dX10_shapes_208 oX10_element q2798 q2796 qs122 rfl rfl (Nat.le_of_ble_eq_true rfl) rfl hW hF hT ?_
    rintro _ s7 ⟨rfl, hT⟩ h hW hF
    refine x_iinc (lo' := [some (.ref w.1), none, some (.int a2), some (.int a3), some (.int a4), none, none, some (.int a7), some (.int (a8 + 1)), none]) dX10_shapes_211 rfl (show _ = (a8 + 1) from rfl) rfl ?_
    refine x_goto (tgt := 182) dX10_shapes_214 rfl ?_
    exact hT h0 h hW hF
theorem vX10_most_0 {l : Launch} {E : EN} {w : MO} {d : Nat} {s : MS} {Q : Option Value → MS → Prop} {x1 : Int32} {x2 : Int32} (hT : ((x1 ≤ x2 → Q (some (.int x2)) s) ∧ (¬ x1 ≤ x2 → Q (some (.int x1)) s))) : ExM l E w d MX10_most 0 [some (.int x1), some (.int x2)] [] s Q := by
  intro h0 h hW hF
  refine x_iload_n dX10_most_0 rfl rfl ?_
  refine x_iload_n dX10_most_1 rfl rfl ?_
  refine x_icmp_le (tgt := 9) dX10_most_2 rfl (fun c => ?_) (fun c => ?_)
  · have hT := hT.1 c
    refine x_iload_n dX10_most_9 rfl rfl ?_
    exact x_iret dX10_most_10 rfl rfl ⟨_, _, rfl, hW, hF, hT⟩
  · have hT := hT.2 c
    refine x_iload_n dX10_most_5 rfl rfl ?_
    refine x_goto (tgt := 10) dX10_most_6 rfl ?_
    exact x_iret dX10_most_10 rfl rfl ⟨_, _, rfl, hW, hF, hT⟩
theorem eX10_most {l : Launch} {E : EN} {w : MO} {d : Nat} {s : MS} {Q : Option Value → MS → Prop} {x1 : Int32} {x2 : Int32} (hst : l.stackTraces = false) (hT : ((x1 ≤ x2 → Q (some (.int x2)) s) ∧ (¬ x1 ≤ x2 → Q (some (.int x1)) s))) : EvM l E w d MX10_most [.int x1, .int x2] s Q :=
  EvM.of hst (by decide) (Nat.le_of_ble_eq_true rfl) (vX10_most_0 hT)
set_option maxHeartbeats 16000000 in
theorem vX10_ofTwo_0 {l : Launch} {E : EN} {w : MO} {d : Nat} {s : MS} {Q : Option Value → MS → Prop} {x1 : Int32} {x2 : Int32} {x3 : Int32} {x4 : Int32} (hT : ((x1 = 19 → (EvM l E w d MX10_join [.ref w.1, .int x2, .int x3, .int x4] s (fun r s1 => r = none ∧ Q none s1))) ∧ (¬ (x1 = 19) → ((x1 = 20 ∨ x1 = 21 → (EvM l E w d MX10_ends2_2 [.ref w.1, .int x1, .int x2, .int x3, .int x4] s (fun r s2 => r = none ∧ Q none s2))) ∧ (¬ (x1 = 20 ∨ x1 = 21) → ((x1 = 22 → (EvM l E w d MX10_cut [.ref w.1, .int x2, .int x3, .int x4] s (fun r s3 => r = none ∧ Q none s3))) ∧ (¬ (x1 = 22) → ((x1 = 23 → (EvM l E w d MX10_pick [.ref w.1, .int x2, .int x3, .int x4] s (fun r s4 => r = none ∧ Q none s4))) ∧ (¬ (x1 = 23) → ((x1 = 24 → (EvM l E w d MX10_kindAt [.ref w.1, .int (x4 + 1)] s (fun r s5 => ∃ v6 : Int32, r = some (.int v6) ∧ ((¬ v6 = 0 → ExM l E w (d + 1) MX10_ofTwo 123 [some (.ref w.1), none, some (.int x2), some (.int x3), some (.int x4), none, some (.int 0)] [] (sI s5 108 x4) Q) ∧ (v6 = 0 → (EvM l E w d MX10_findIn [.ref w.1, .int x2, .int x3] (sI s5 108 x4) (fun r s7 => ∃ v8 : Int32, r = some (.int v8) ∧ (EvM l E w d MX10_push [.ref w.1, .int 0, .int v8] s7 (fun r s9 => r = none ∧ Q none s9))))))))) ∧ (¬ (x1 = 24) → ((x1 = 25 → (EvM l E w d MX10_pad [.ref w.1, .int x2, .int x3, .int x4] s (fun r s10 => r = none ∧ Q none s10))) ∧ (¬ (x1 = 25) → ((x1 = 26 → (EvM l E w d MX10_outer [.ref w.1, .int x2, .int x3, .int x4] s (fun r s11 => r = none ∧ Q none s11))) ∧ (¬ (x1 = 26) → ((inB x4 9000 ∧ (inB (x4 + 1) 9000 ∧ ((¬ (s.2.2.1 106 x4.toNatClampNeg) = (s.2.2.1 106 (x4 + 1).toNatClampNeg) → (EvM l E w d MX10_push [.ref w.1, .int 0, .int 0] (sI s 108 x4) (fun r s12 => r = none ∧ Q none s12))) ∧ ((s.2.2.1 106 x4.toNatClampNeg) = (s.2.2.1 106 (x4 + 1).toNatClampNeg) → (inB x4 9000 ∧ ((¬ (s.2.2.1 106 x4.toNatClampNeg) = 0 → (EvM l E w d MX10_areSame [.ref w.1, .int x2, .int x3] s (fun r s13 => ∃ v14 : Int32, r = some (.int v14) ∧ ((v14 = 0 → (EvM l E w d MX10_push [.ref w.1, .int 0, .int 0] (sI s13 108 x4) (fun r s15 => r = none ∧ Q none s15))) ∧ (¬ v14 = 0 → (EvM l E w d MX10_push [.ref w.1, .int 0, .int 1] (sI s13 108 x4) (fun r s16 => r = none ∧ Q none s16))))))) ∧ ((s.2.2.1 106 x4.toNatClampNeg) = 0 → ((¬ x2 = x3 → (EvM l E w d MX10_push [.ref w.1, .int 0, .int 0] (sI s 108 x4) (fun r s17 => r = none ∧ Q none s17))) ∧ (x2 = x3 → (EvM l E w d MX10_push [.ref w.1, .int 0, .int 1] (sI s 108 x4) (fun r s18 => r = none ∧ Q none s18))))))))))))))))))))))))))) : ExM l E w (d + 1) MX10_ofTwo 0 [some (.ref w.1), some (.int x1), some (.int x2), some (.int x3), some (.int x4), none, none] [] s Q := by
  intro h0 h hW hF
  refine x_iload_n dX10_ofTwo_0 rfl rfl ?_
  by_cases c : x1 = 19
  · have hT := hT.1 c
    refine x_tableIn (tgt := 48) (off := 47) dX10_ofTwo_1 (by rw [c]; decide) (by rw [c]; decide) (by rw [c]; rfl) rfl ?_
    refine x_aload_n dX10_ofTwo_48 rfl rfl rfl ?_
    refine x_iload_n dX10_ofTwo_49 rfl rfl ?_
    refine x_iload_n dX10_ofTwo_50 rfl rfl ?_
    refine x_iload dX10_ofTwo_51 rfl ?_
    refine m_inv (vs := [.int x2, .int x3, .int x4]) dX10_ofTwo_53 oX10_join q2845 q2843 qs132 rfl rfl (Nat.le_of_ble_eq_true rfl) rfl hW hF hT ?_
    rintro _ s1 ⟨rfl, hT⟩ h hW hF
    exact x_vret dX10_ofTwo_56 rfl ⟨_, _, rfl, hW, hF, hT⟩
  · have hT := hT.2 c
    have cs0 := c
    by_cases c : x1 = 20 ∨ x1 = 21
    · have hT := hT.1 c
      rcases c with c | c
      · refine x_tableIn (tgt := 57) (off := 56) dX10_ofTwo_1 (by rw [c]; decide) (by rw [c]; decide) (by rw [c]; rfl) rfl ?_
        refine x_aload_n dX10_ofTwo_57 rfl rfl rfl ?_
        refine x_iload_n dX10_ofTwo_58 rfl rfl ?_
        refine x_iload_n dX10_ofTwo_59 rfl rfl ?_
        refine x_iload_n dX10_ofTwo_60 rfl rfl ?_
        refine x_iload dX10_ofTwo_61 rfl ?_
        refine m_inv (vs := [.int x1, .int x2, .int x3, .int x4]) dX10_ofTwo_63 oX10_ends2_2 q2853 q2851 qs134 rfl rfl (Nat.le_of_ble_eq_true rfl) rfl hW hF hT ?_
        rintro _ s2 ⟨rfl, hT⟩ h hW hF
        exact x_vret dX10_ofTwo_66 rfl ⟨_, _, rfl, hW, hF, hT⟩
      · refine x_tableIn (tgt := 57) (off := 56) dX10_ofTwo_1 (by rw [c]; decide) (by rw [c]; decide) (by rw [c]; rfl) rfl ?_
        refine x_aload_n dX10_ofTwo_57 rfl rfl rfl ?_
        refine x_iload_n dX10_ofTwo_58 rfl rfl ?_
        refine x_iload_n dX10_ofTwo_59 rfl rfl ?_
        refine x_iload_n dX10_ofTwo_60 rfl rfl ?_
        refine x_iload dX10_ofTwo_61 rfl ?_
        refine m_inv (vs := [.int x1, .int x2, .int x3, .int x4]) dX10_ofTwo_63 oX10_ends2_2 q2853 q2851 qs134 rfl rfl (Nat.le_of_ble_eq_true rfl) rfl hW hF hT ?_
        rintro _ s2 ⟨rfl, hT⟩ h hW hF
        exact x_vret dX10_ofTwo_66 rfl ⟨_, _, rfl, hW, hF, hT⟩
    · have hT := hT.2 c
      have cs1 := c
      by_cases c : x1 = 22
      · have hT := hT.1 c
        refine x_tableIn (tgt := 67) (off := 66) dX10_ofTwo_1 (by rw [c]; decide) (by rw [c]; decide) (by rw [c]; rfl) rfl ?_
        refine x_aload_n dX10_ofTwo_67 rfl rfl rfl ?_
        refine x_iload_n dX10_ofTwo_68 rfl rfl ?_
        refine x_iload_n dX10_ofTwo_69 rfl rfl ?_
        refine x_iload dX10_ofTwo_70 rfl ?_
        refine m_inv (vs := [.int x2, .int x3, .int x4]) dX10_ofTwo_72 oX10_cut q2859 q2857 qs135 rfl rfl (Nat.le_of_ble_eq_true rfl) rfl hW hF hT ?_
        rintro _ s3 ⟨rfl, hT⟩ h hW hF
        exact x_vret dX10_ofTwo_75 rfl ⟨_, _, rfl, hW, hF, hT⟩
      · have hT := hT.2 c
        have cs2 := c
        by_cases c : x1 = 23
        · have hT := hT.1 c
          refine x_tableIn (tgt := 76) (off := 75) dX10_ofTwo_1 (by rw [c]; decide) (by rw [c]; decide) (by rw [c]; rfl) rfl ?_
          refine x_aload_n dX10_ofTwo_76 rfl rfl rfl ?_
          refine x_iload_n dX10_ofTwo_77 rfl rfl ?_
          refine x_iload_n dX10_ofTwo_78 rfl rfl ?_
          refine x_iload dX10_ofTwo_79 rfl ?_
          refine m_inv (vs := [.int x2, .int x3, .int x4]) dX10_ofTwo_81 oX10_pick q2863 q2861 qs136 rfl rfl (Nat.le_of_ble_eq_true rfl) rfl hW hF hT ?_
          rintro _ s4 ⟨rfl, hT⟩ h hW hF
          exact x_vret dX10_ofTwo_84 rfl ⟨_, _, rfl, hW, hF, hT⟩
        · have hT := hT.2 c
          have cs3 := c
          by_cases c : x1 = 24
          · have hT := hT.1 c
            refine x_tableIn (tgt := 85) (off := 84) dX10_ofTwo_1 (by rw [c]; decide) (by rw [c]; decide) (by rw [c]; rfl) rfl ?_
            refine x_aload_n dX10_ofTwo_85 rfl rfl rfl ?_
            refine x_iload dX10_ofTwo_86 rfl ?_
            refine x_iconst (v := 1) dX10_ofTwo_88 rfl ?_
            refine x_iadd dX10_ofTwo_89 ?_
            refine m_inv (vs := [.int (x4 + 1)]) dX10_ofTwo_90 oX10_kindAt q2728 q2726 qs106 rfl rfl (Nat.le_of_ble_eq_true rfl) rfl hW hF hT ?_
            rintro _ s5 ⟨v6, rfl, hT⟩ h hW hF
            refine x_istore (lo' := [some (.ref w.1), some (.int x1), some (.int x2), some (.int x3), some (.int x4), some (.int v6), none]) dX10_ofTwo_93 (Nat.le_of_ble_eq_true rfl) rfl ?_
            refine x_aload_n dX10_ofTwo_95 rfl rfl rfl ?_
            refine x_iload dX10_ofTwo_96 rfl ?_
            refine m_puti dX10_ofTwo_98 f_TallySlateModel_461 (by decide) rfl rfl rfl rfl hW hF ?_
            intro h hW hF
            refine x_iload dX10_ofTwo_101 rfl ?_
            refine x_if_ne (tgt := 120) dX10_ofTwo_103 rfl (fun c => ?_) (fun c => ?_)
            · have hT := hT.1 c
              refine x_iconst (v := 0) dX10_ofTwo_120 rfl ?_
              refine x_istore (lo' := [some (.ref w.1), some (.int x1), some (.int x2), some (.int x3), some (.int x4), some (.int v6), some (.int 0)]) dX10_ofTwo_121 (Nat.le_of_ble_eq_true rfl) rfl ?_
              refine Ex.wkl (lo' := [some (.ref w.1), none, some (.int x2), some (.int x3), some (.int x4), none, some (.int 0)]) ⟨rfl, rfl, rfl, rfl, rfl, trivial⟩ ?_
              exact hT h0 h hW hF
            · have hT := hT.2 c
              refine x_aload_n dX10_ofTwo_106 rfl rfl rfl ?_
              refine x_iconst (v := 0) dX10_ofTwo_107 rfl ?_
              refine x_aload_n dX10_ofTwo_108 rfl rfl rfl ?_
              refine x_iload_n dX10_ofTwo_109 rfl rfl ?_
              refine x_iload_n dX10_ofTwo_110 rfl rfl ?_
              refine m_inv (vs := [.int x2, .int x3]) dX10_ofTwo_111 oX10_findIn q2867 q2865 qs137 rfl rfl (Nat.le_of_ble_eq_true rfl) rfl hW hF hT ?_
              rintro _ s7 ⟨v8, rfl, hT⟩ h hW hF
              refine m_inv (vs := [.int 0, .int v8]) dX10_ofTwo_114 oX10_push q2708 q2706 qs101 rfl rfl (Nat.le_of_ble_eq_true rfl) rfl hW hF hT ?_
              rintro _ s9 ⟨rfl, hT⟩ h hW hF
              refine x_goto (tgt := 167) dX10_ofTwo_117 rfl ?_
              exact x_vret dX10_ofTwo_167 rfl ⟨_, _, rfl, hW, hF, hT⟩
          · have hT := hT.2 c
            have cs4 := c
            by_cases c : x1 = 25
            · have hT := hT.1 c
              refine x_tableIn (tgt := 168) (off := 167) dX10_ofTwo_1 (by rw [c]; decide) (by rw [c]; decide) (by rw [c]; rfl) rfl ?_
              refine x_aload_n dX10_ofTwo_168 rfl rfl rfl ?_
              refine x_iload_n dX10_ofTwo_169 rfl rfl ?_
              refine x_iload_n dX10_ofTwo_170 rfl rfl ?_
              refine x_iload dX10_ofTwo_171 rfl ?_
              refine m_inv (vs := [.int x2, .int x3, .int x4]) dX10_ofTwo_173 oX10_pad q2871 q2869 qs138 rfl rfl (Nat.le_of_ble_eq_true rfl) rfl hW hF hT ?_
              rintro _ s10 ⟨rfl, hT⟩ h hW hF
              exact x_vret dX10_ofTwo_176 rfl ⟨_, _, rfl, hW, hF, hT⟩
            · have hT := hT.2 c
              have cs5 := c
              by_cases c : x1 = 26
              · have hT := hT.1 c
                refine x_tableIn (tgt := 177) (off := 176) dX10_ofTwo_1 (by rw [c]; decide) (by rw [c]; decide) (by rw [c]; rfl) rfl ?_
                refine x_aload_n dX10_ofTwo_177 rfl rfl rfl ?_
                refine x_iload_n dX10_ofTwo_178 rfl rfl ?_
                refine x_iload_n dX10_ofTwo_179 rfl rfl ?_
                refine x_iload dX10_ofTwo_180 rfl ?_
                refine m_inv (vs := [.int x2, .int x3, .int x4]) dX10_ofTwo_182 oX10_outer q2875 q2873 qs139 rfl rfl (Nat.le_of_ble_eq_true rfl) rfl hW hF hT ?_
                rintro _ s11 ⟨rfl, hT⟩ h hW hF
                exact x_vret dX10_ofTwo_185 rfl ⟨_, _, rfl, hW, hF, hT⟩
              · have hT := hT.2 c
                have cs6 := c
                refine x_tableD (tgt := 186) [19, 20, 21, 22, 23, 24, 25, 26] dX10_ofTwo_1 (List.forall_mem_cons.mpr ⟨fun h => cs0 (i32_of (h.trans (show (19 : Int) = (19 : Int32).toInt from by decide))), List.forall_mem_cons.mpr ⟨fun h => cs1 (Or.inl (i32_of (h.trans (show (20 : Int) = (20 : Int32).toInt from by decide)))), List.forall_mem_cons.mpr ⟨fun h => cs1 (Or.inr (i32_of (h.trans (show (21 : Int) = (21 : Int32).toInt from by decide)))), List.forall_mem_cons.mpr ⟨fun h => cs2 (i32_of (h.trans (show (22 : Int) = (22 : Int32).toInt from by decide))), List.forall_mem_cons.mpr ⟨fun h => cs3 (i32_of (h.trans (show (23 : Int) = (23 : Int32).toInt from by decide))), List.forall_mem_cons.mpr ⟨fun h => cs4 (i32_of (h.trans (show (24 : Int) = (24 : Int32).toInt from by decide))), List.forall_mem_cons.mpr ⟨fun h => cs5 (i32_of (h.trans (show (25 : Int) = (25 : Int32).toInt from by decide))), List.forall_mem_cons.mpr ⟨fun h => cs6 (i32_of (h.trans (show (26 : Int) = (26 : Int32).toInt from by decide))), fun _ h => absurd h List.not_mem_nil⟩⟩⟩⟩⟩⟩⟩⟩) (by decide) (by decide) rfl ?_
                refine x_aload_n dX10_ofTwo_186 rfl rfl rfl ?_
                refine m_geta dX10_ofTwo_187 f_TallySlateModel_186 (by decide) rfl hW ?_
                refine x_iload dX10_ofTwo_190 rfl ?_
                obtain ⟨hb, hT⟩ := hT
                refine m_iald (v := (s.2.2.1 106 x4.toNatClampNeg)) dX10_ofTwo_192 rfl hb hW rfl ?_
                refine x_aload_n dX10_ofTwo_193 rfl rfl rfl ?_
                refine m_geta dX10_ofTwo_194 f_TallySlateModel_186 (by decide) rfl hW ?_
                refine x_iload dX10_ofTwo_197 rfl ?_
                refine x_iconst (v := 1) dX10_ofTwo_199 rfl ?_
                refine x_iadd dX10_ofTwo_200 ?_
                obtain ⟨hb, hT⟩ := hT
                refine m_iald (v := (s.2.2.1 106 (x4 + 1).toNatClampNeg)) dX10_ofTwo_201 rfl hb hW rfl ?_
                refine x_icmp_ne (tgt := 236) dX10_ofTwo_202 rfl (fun c => ?_) (fun c => ?_)
                · have hT := hT.1 c
                  refine x_iconst (v := 0) dX10_ofTwo_236 rfl ?_
                  refine x_istore (lo' := [some (.ref w.1), some (.int x1), some (.int x2), some (.int x3), some (.int x4), none, some (.int 0)]) dX10_ofTwo_237 (Nat.le_of_ble_eq_true rfl) rfl ?_
                  refine x_aload_n dX10_ofTwo_239 rfl rfl rfl ?_
                  refine x_iload dX10_ofTwo_240 rfl ?_
                  refine m_puti dX10_ofTwo_242 f_TallySlateModel_461 (by decide) rfl rfl rfl rfl hW hF ?_
                  intro h hW hF
                  refine x_aload_n dX10_ofTwo_245 rfl rfl rfl ?_
                  refine x_iconst (v := 0) dX10_ofTwo_246 rfl ?_
                  refine x_iload dX10_ofTwo_247 rfl ?_
                  refine x_if_eq (tgt := 256) dX10_ofTwo_249 rfl (fun _ => ?_) (fun c => absurd c (by decide))
                  refine x_iconst (v := 0) dX10_ofTwo_256 rfl ?_
                  refine m_inv (vs := [.int 0, .int 0]) dX10_ofTwo_257 oX10_push q2708 q2706 qs101 rfl rfl (Nat.le_of_ble_eq_true rfl) rfl hW hF hT ?_
                  rintro _ s12 ⟨rfl, hT⟩ h hW hF
                  exact x_vret dX10_ofTwo_260 rfl ⟨_, _, rfl, hW, hF, hT⟩
                · have hT := hT.2 c
                  refine x_aload_n dX10_ofTwo_205 rfl rfl rfl ?_
                  refine m_geta dX10_ofTwo_206 f_TallySlateModel_186 (by decide) rfl hW ?_
                  refine x_iload dX10_ofTwo_209 rfl ?_
                  obtain ⟨hb, hT⟩ := hT
                  refine m_iald (v := (s.2.2.1 106 x4.toNatClampNeg)) dX10_ofTwo_211 rfl hb hW rfl ?_
                  refine x_if_ne (tgt := 223) dX10_ofTwo_212 rfl (fun c => ?_) (fun c => ?_)
                  · have hT := hT.1 c
                    refine x_aload_n dX10_ofTwo_223 rfl rfl rfl ?_
                    refine x_iload_n dX10_ofTwo_224 rfl rfl ?_
                    refine x_iload_n dX10_ofTwo_225 rfl rfl ?_
                    refine m_inv (vs := [.int x2, .int x3]) dX10_ofTwo_226 oX10_areSame q2879 q2877 qs140 rfl rfl (Nat.le_of_ble_eq_true rfl) rfl hW hF hT ?_
                    rintro _ s13 ⟨v14, rfl, hT⟩ h hW hF
                    refine x_if_eq (tgt := 236) dX10_ofTwo_229 rfl (fun c => ?_) (fun c => ?_)
                    · have hT := hT.1 c
                      refine x_iconst (v := 0) dX10_ofTwo_236 rfl ?_
                      refine x_istore (lo' := [some (.ref w.1), some (.int x1), some (.int x2), some (.int x3), some (.int x4), none, some (.int 0)]) dX10_ofTwo_237 (Nat.le_of_ble_eq_true rfl) rfl ?_
                      refine x_aload_n dX10_ofTwo_239 rfl rfl rfl ?_
                      refine x_iload dX10_ofTwo_240 rfl ?_
                      refine m_puti dX10_ofTwo_242 f_TallySlateModel_461 (by decide) rfl rfl rfl rfl hW hF ?_
                      intro h hW hF
                      refine x_aload_n dX10_ofTwo_245 rfl rfl rfl ?_
                      refine x_iconst (v := 0) dX10_ofTwo_246 rfl ?_
                      refine x_iload dX10_ofTwo_247 rfl ?_
                      refine x_if_eq (tgt := 256) dX10_ofTwo_249 rfl (fun _ => ?_) (fun c => absurd c (by decide))
                      refine x_iconst (v := 0) dX10_ofTwo_256 rfl ?_
                      refine m_inv (vs := [.int 0, .int 0]) dX10_ofTwo_257 oX10_push q2708 q2706 qs101 rfl rfl (Nat.le_of_ble_eq_true rfl) rfl hW hF hT ?_
                      rintro _ s15 ⟨rfl, hT⟩ h hW hF
                      exact x_vret dX10_ofTwo_260 rfl ⟨_, _, rfl, hW, hF, hT⟩
                    · have hT := hT.2 c
                      refine x_iconst (v := 1) dX10_ofTwo_232 rfl ?_
                      refine x_goto (tgt := 237) dX10_ofTwo_233 rfl ?_
                      refine x_istore (lo' := [some (.ref w.1), some (.int x1), some (.int x2), some (.int x3), some (.int x4), none, some (.int 1)]) dX10_ofTwo_237 (Nat.le_of_ble_eq_true rfl) rfl ?_
                      refine x_aload_n dX10_ofTwo_239 rfl rfl rfl ?_
                      refine x_iload dX10_ofTwo_240 rfl ?_
                      refine m_puti dX10_ofTwo_242 f_TallySlateModel_461 (by decide) rfl rfl rfl rfl hW hF ?_
                      intro h hW hF
                      refine x_aload_n dX10_ofTwo_245 rfl rfl rfl ?_
                      refine x_iconst (v := 0) dX10_ofTwo_246 rfl ?_
                      refine x_iload dX10_ofTwo_247 rfl ?_
                      refine x_if_eq (tgt := 256) dX10_ofTwo_249 rfl (fun c => absurd c (by decide)) (fun _ => ?_)
                      refine x_iconst (v := 1) dX10_ofTwo_252 rfl ?_
                      refine x_goto (tgt := 257) dX10_ofTwo_253 rfl ?_
                      refine m_inv (vs := [.int 0, .int 1]) dX10_ofTwo_257 oX10_push q2708 q2706 qs101 rfl rfl (Nat.le_of_ble_eq_true rfl) rfl hW hF hT ?_
                      rintro _ s16 ⟨rfl, hT⟩ h hW hF
                      exact x_vret dX10_ofTwo_260 rfl ⟨_, _, rfl, hW, hF, hT⟩
                  · have hT := hT.2 c
                    refine x_iload_n dX10_ofTwo_215 rfl rfl ?_
                    refine x_iload_n dX10_ofTwo_216 rfl rfl ?_
                    refine x_icmp_ne (tgt := 236) dX10_ofTwo_217 rfl (fun c => ?_) (fun c => ?_)
                    · have hT := hT.1 c
                      refine x_iconst (v := 0) dX10_ofTwo_236 rfl ?_
                      refine x_istore (lo' := [some (.ref w.1), some (.int x1), some (.int x2), some (.int x3), some (.int x4), none, some (.int 0)]) dX10_ofTwo_237 (Nat.le_of_ble_eq_true rfl) rfl ?_
                      refine x_aload_n dX10_ofTwo_239 rfl rfl rfl ?_
                      refine x_iload dX10_ofTwo_240 rfl ?_
                      refine m_puti dX10_ofTwo_242 f_TallySlateModel_461 (by decide) rfl rfl rfl rfl hW hF ?_
                      intro h hW hF
                      refine x_aload_n dX10_ofTwo_245 rfl rfl rfl ?_
                      refine x_iconst (v := 0) dX10_ofTwo_246 rfl ?_
                      refine x_iload dX10_ofTwo_247 rfl ?_
                      refine x_if_eq (tgt := 256) dX10_ofTwo_249 rfl (fun _ => ?_) (fun c => absurd c (by decide))
                      refine x_iconst (v := 0) dX10_ofTwo_256 rfl ?_
                      refine m_inv (vs := [.int 0, .int 0]) dX10_ofTwo_257 oX10_push q2708 q2706 qs101 rfl rfl (Nat.le_of_ble_eq_true rfl) rfl hW hF hT ?_
                      rintro _ s17 ⟨rfl, hT⟩ h hW hF
                      exact x_vret dX10_ofTwo_260 rfl ⟨_, _, rfl, hW, hF, hT⟩
                    · have hT := hT.2 c
                      refine x_goto (tgt := 232) dX10_ofTwo_220 rfl ?_
                      refine x_iconst (v := 1) dX10_ofTwo_232 rfl ?_
                      refine x_goto (tgt := 237) dX10_ofTwo_233 rfl ?_
                      refine x_istore (lo' := [some (.ref w.1), some (.int x1), some (.int x2), some (.int x3), some (.int x4), none, some (.int 1)]) dX10_ofTwo_237 (Nat.le_of_ble_eq_true rfl) rfl ?_
                      refine x_aload_n dX10_ofTwo_239 rfl rfl rfl ?_
                      refine x_iload dX10_ofTwo_240 rfl ?_
                      refine m_puti dX10_ofTwo_242 f_TallySlateModel_461 (by decide) rfl rfl rfl rfl hW hF ?_
                      intro h hW hF
                      refine x_aload_n dX10_ofTwo_245 rfl rfl rfl ?_
                      refine x_iconst (v := 0) dX10_ofTwo_246 rfl ?_
                      refine x_iload dX10_ofTwo_247 rfl ?_
                      refine x_if_eq (tgt := 256) dX10_ofTwo_249 rfl (fun c => absurd c (by decide)) (fun _ => ?_)
                      refine x_iconst (v := 1) dX10_ofTwo_252 rfl ?_
                      refine x_goto (tgt := 257) dX10_ofTwo_253 rfl ?_
                      refine m_inv (vs := [.int 0, .int 1]) dX10_ofTwo_257 oX10_push q2708 q2706 qs101 rfl rfl (Nat.le_of_ble_eq_true rfl) rfl hW hF hT ?_
                      rintro _ s18 ⟨rfl, hT⟩ h hW hF
                      exact x_vret dX10_ofTwo_260 rfl ⟨_, _, rfl, hW, hF, hT⟩
theorem eX10_ofTwo {l : Launch} {E : EN} {w : MO} {d : Nat} {s : MS} {Q : Option Value → MS → Prop} {x1 : Int32} {x2 : Int32} {x3 : Int32} {x4 : Int32} (hst : l.stackTraces = false) (hT : ((x1 = 19 → (EvM l E w d MX10_join [.ref w.1, .int x2, .int x3, .int x4] s (fun r s1 => r = none ∧ Q none s1))) ∧ (¬ (x1 = 19) → ((x1 = 20 ∨ x1 = 21 → (EvM l E w d MX10_ends2_2 [.ref w.1, .int x1, .int x2, .int x3, .int x4] s (fun r s2 => r = none ∧ Q none s2))) ∧ (¬ (x1 = 20 ∨ x1 = 21) → ((x1 = 22 → (EvM l E w d MX10_cut [.ref w.1, .int x2, .int x3, .int x4] s (fun r s3 => r = none ∧ Q none s3))) ∧ (¬ (x1 = 22) → ((x1 = 23 → (EvM l E w d MX10_pick [.ref w.1, .int x2, .int x3, .int x4] s (fun r s4 => r = none ∧ Q none s4))) ∧ (¬ (x1 = 23) → ((x1 = 24 → (EvM l E w d MX10_kindAt [.ref w.1, .int (x4 + 1)] s (fun r s5 => ∃ v6 : Int32, r = some (.int v6) ∧ ((¬ v6 = 0 → ExM l E w (d + 1) MX10_ofTwo 123 [some (.ref w.1), none, some (.int x2), some (.int x3), some (.int x4), none, some (.int 0)] [] (sI s5 108 x4) Q) ∧ (v6 = 0 → (EvM l E w d MX10_findIn [.ref w.1, .int x2, .int x3] (sI s5 108 x4) (fun r s7 => ∃ v8 : Int32, r = some (.int v8) ∧ (EvM l E w d MX10_push [.ref w.1, .int 0, .int v8] s7 (fun r s9 => r = none ∧ Q none s9))))))))) ∧ (¬ (x1 = 24) → ((x1 = 25 → (EvM l E w d MX10_pad [.ref w.1, .int x2, .int x3, .int x4] s (fun r s10 => r = none ∧ Q none s10))) ∧ (¬ (x1 = 25) → ((x1 = 26 → (EvM l E w d MX10_outer [.ref w.1, .int x2, .int x3, .int x4] s (fun r s11 => r = none ∧ Q none s11))) ∧ (¬ (x1 = 26) → ((inB x4 9000 ∧ (inB (x4 + 1) 9000 ∧ ((¬ (s.2.2.1 106 x4.toNatClampNeg) = (s.2.2.1 106 (x4 + 1).toNatClampNeg) → (EvM l E w d MX10_push [.ref w.1, .int 0, .int 0] (sI s 108 x4) (fun r s12 => r = none ∧ Q none s12))) ∧ ((s.2.2.1 106 x4.toNatClampNeg) = (s.2.2.1 106 (x4 + 1).toNatClampNeg) → (inB x4 9000 ∧ ((¬ (s.2.2.1 106 x4.toNatClampNeg) = 0 → (EvM l E w d MX10_areSame [.ref w.1, .int x2, .int x3] s (fun r s13 => ∃ v14 : Int32, r = some (.int v14) ∧ ((v14 = 0 → (EvM l E w d MX10_push [.ref w.1, .int 0, .int 0] (sI s13 108 x4) (fun r s15 => r = none ∧ Q none s15))) ∧ (¬ v14 = 0 → (EvM l E w d MX10_push [.ref w.1, .int 0, .int 1] (sI s13 108 x4) (fun r s16 => r = none ∧ Q none s16))))))) ∧ ((s.2.2.1 106 x4.toNatClampNeg) = 0 → ((¬ x2 = x3 → (EvM l E w d MX10_push [.ref w.1, .int 0, .int 0] (sI s 108 x4) (fun r s17 => r = none ∧ Q none s17))) ∧ (x2 = x3 → (EvM l E w d MX10_push [.ref w.1, .int 0, .int 1] (sI s 108 x4) (fun r s18 => r = none ∧ Q none s18))))))))))))))))))))))))))) : EvM l E w (d + 1) MX10_ofTwo [.ref w.1, .int x1, .int x2, .int x3, .int x4] s Q :=
  EvM.of hst (by decide) (Nat.le_of_ble_eq_true rfl) (vX10_ofTwo_0 hT)
theorem vX10_ofTwo_123 {l : Launch} {E : EN} {w : MO} {d : Nat} {s : MS} {Q : Option Value → MS → Prop} {a2 : Int32} {a3 : Int32} {a4 : Int32} {a6 : Int32} (hT : (EvM l E w d MX10_sizeAt [.ref w.1, .int a3] s (fun r s1 => ∃ v2 : Int32, r = some (.int v2) ∧ ((v2 ≤ a6 → (EvM l E w d MX10_builds [.ref w.1, .int 1, .int a4] s1 (fun r s3 => r = none ∧ Q none s3))) ∧ (¬ v2 ≤ a6 → (inB ((a3 + 2) + a6) 166300 ∧ (EvM l E w d MX10_findIn [.ref w.1, .int a2, .int (s1.2.2.1 104 ((a3 + 2) + a6).toNatClampNeg)] s1 (fun r s4 => ∃ v5 : Int32, r = some (.int v5) ∧ (EvM l E w d MX10_push [.ref w.1, .int 0, .int v5] s4 (fun r s6 => r = none ∧ ExM l E w (d + 1) MX10_ofTwo 123 [some (.ref w.1), none, some (.int a2), some (.int a3), some (.int a4), none, some (.int (a6 + 1))] [] s6 Q)))))))))) : ExM l E w (d + 1) MX10_ofTwo 123 [some (.ref w.1), none, some (.int a2), some (.int a3), some (.int a4), none, some (.int a6)] [] s Q := by
  intro h0 h hW hF
  refine x_iload dX10_ofTwo_123 rfl ?_
  refine x_aload_n dX10_ofTwo_125 rfl rfl rfl ?_
  refine x_iload_n dX10_ofTwo_126 rfl rfl ?_
  refine m_inv (vs := [.int a3]) dX10_ofTwo_127 oX10_sizeAt q2735 q2733 qs107 rfl rfl (Nat.le_of_ble_eq_true rfl) rfl hW hF hT ?_
  rintro _ s1 ⟨v2, rfl, hT⟩ h hW hF
  refine x_icmp_ge (tgt := 160) dX10_ofTwo_130 rfl (fun c => ?_) (fun c => ?_)
  · have hT := hT.1 c
    refine x_aload_n dX10_ofTwo_160 rfl rfl rfl ?_
    refine x_iconst (v := 1) dX10_ofTwo_161 rfl ?_
    refine x_iload dX10_ofTwo_162 rfl ?_
    refine m_inv (vs := [.int 1, .int a4]) dX10_ofTwo_164 oX10_builds q2739 q2737 qs108 rfl rfl (Nat.le_of_ble_eq_true rfl) rfl hW hF hT ?_
    rintro _ s3 ⟨rfl, hT⟩ h hW hF
    exact x_vret dX10_ofTwo_167 rfl ⟨_, _, rfl, hW, hF, hT⟩
  · have hT := hT.2 c
    refine x_aload_n dX10_ofTwo_133 rfl rfl rfl ?_
    refine x_iconst (v := 0) dX10_ofTwo_134 rfl ?_
    refine x_aload_n dX10_ofTwo_135 rfl rfl rfl ?_
    refine x_iload_n dX10_ofTwo_136 rfl rfl ?_
    refine x_aload_n dX10_ofTwo_137 rfl rfl rfl ?_
    refine m_geta dX10_ofTwo_138 f_TallySlateModel_183 (by decide) rfl hW ?_
    refine x_iload_n dX10_ofTwo_141 rfl rfl ?_
    refine x_iconst (v := 2) dX10_ofTwo_142 rfl ?_
    refine x_iadd dX10_ofTwo_143 ?_
    refine x_iload dX10_ofTwo_144 rfl ?_
    refine x_iadd dX10_ofTwo_146 ?_
    obtain ⟨hb, hT⟩ := hT
    refine m_iald (v := (s1.2.2.1 104 ((a3 + 2) + a6).toNatClampNeg)) dX10_ofTwo_147 rfl hb hW rfl ?_
    refine m_inv (vs := [.int a2, .int (s1.2.2.1 104 ((a3 + 2) + a6).toNatClampNeg)]) dX10_ofTwo_148 oX10_findIn q2867 q2865 qs137 rfl rfl (Nat.le_of_ble_eq_true rfl) rfl hW hF hT ?_
    rintro _ s4 ⟨v5, rfl, hT⟩ h hW hF
    refine m_inv (vs := [.int 0, .int v5]) dX10_ofTwo_151 oX10_push q2708 q2706 qs101 rfl rfl (Nat.le_of_ble_eq_true rfl) rfl hW hF hT ?_
    rintro _ s6 ⟨rfl, hT⟩ h hW hF
    refine x_iinc (lo' := [some (.ref w.1), none, some (.int a2), some (.int a3), some (.int a4), none, some (.int (a6 + 1))]) dX10_ofTwo_154 rfl (show _ = (a6 + 1) from rfl) rfl ?_
    refine x_goto (tgt := 123) dX10_ofTwo_157 rfl ?_
    exact hT h0 h hW hF
set_option maxHeartbeats 16000000 in
theorem vX10_join_0 {l : Launch} {E : EN} {w : MO} {d : Nat} {s : MS} {Q : Option Value → MS → Prop} {x1 : Int32} {x2 : Int32} {x3 : Int32} (hT : (inB x3 9000 ∧ (∀ y1 : Int32, y1 = (s.2.2.1 106 x3.toNatClampNeg) → (inB (x3 + 1) 9000 ∧ (∀ y2 : Int32, y2 = (s.2.2.1 106 (x3 + 1).toNatClampNeg) → (EvM l E w d MX10_kindAt [.ref w.1, .int x3] s (fun r s3 => ∃ v4 : Int32, r = some (.int v4) ∧ (EvM l E w d MX10_kindAt [.ref w.1, .int (x3 + 1)] s3 (fun r s5 => ∃ v6 : Int32, r = some (.int v6) ∧ ((v4 = 3 → ExM l E w (d + 1) MX10_join 67 [some (.ref w.1), some (.int x1), some (.int x2), some (.int x3), some (.int y1), some (.int y2), some (.int v4), some (.int v6), none] [.int 3] s5 Q) ∧ (¬ v4 = 3 → ((¬ v6 = 3 → ((v4 = 2 → ExM l E w (d + 1) MX10_join 67 [some (.ref w.1), some (.int x1), some (.int x2), some (.int x3), some (.int y1), some (.int y2), some (.int v4), some (.int v6), none] [.int 2] s5 Q) ∧ (¬ v4 = 2 → ((¬ v6 = 2 → ExM l E w (d + 1) MX10_join 67 [some (.ref w.1), some (.int x1), some (.int x2), some (.int x3), some (.int y1), some (.int y2), some (.int v4), some (.int v6), none] [.int 1] s5 Q) ∧ (v6 = 2 → ExM l E w (d + 1) MX10_join 67 [some (.ref w.1), some (.int x1), some (.int x2), some (.int x3), some (.int y1), some (.int y2), some (.int v4), some (.int v6), none] [.int 2] s5 Q))))) ∧ (v6 = 3 → ExM l E w (d + 1) MX10_join 67 [some (.ref w.1), some (.int x1), some (.int x2), some (.int x3), some (.int y1), some (.int y2), some (.int v4), some (.int v6), none] [.int 3] s5 Q))))))))))))) : ExM l E w (d + 1) MX10_join 0 [some (.ref w.1), some (.int x1), some (.int x2), some (.int x3), none, none, none, none, none] [] s Q := by
  intro h0 h hW hF
  refine x_aload_n dX10_join_0 rfl rfl rfl ?_
  refine m_geta dX10_join_1 f_TallySlateModel_186 (by decide) rfl hW ?_
  refine x_iload_n dX10_join_4 rfl rfl ?_
  obtain ⟨hb, hT⟩ := hT
  refine m_iald (v := (s.2.2.1 106 x3.toNatClampNeg)) dX10_join_5 rfl hb hW rfl ?_
  obtain ⟨y1, ey1⟩ : ∃ z : Int32, z = (s.2.2.1 106 x3.toNatClampNeg) := ⟨_, rfl⟩
  have hT := hT y1 ey1
  refine x_istore (lo' := [some (.ref w.1), some (.int x1), some (.int x2), some (.int x3), some (.int y1), none, none, none, none]) dX10_join_6 (Nat.le_of_ble_eq_true rfl) (by rw [ey1]; rfl) ?_
  refine x_aload_n dX10_join_8 rfl rfl rfl ?_
  refine m_geta dX10_join_9 f_TallySlateModel_186 (by decide) rfl hW ?_
  refine x_iload_n dX10_join_12 rfl rfl ?_
  refine x_iconst (v := 1) dX10_join_13 rfl ?_
  refine x_iadd dX10_join_14 ?_
  obtain ⟨hb, hT⟩ := hT
  refine m_iald (v := (s.2.2.1 106 (x3 + 1).toNatClampNeg)) dX10_join_15 rfl hb hW rfl ?_
  obtain ⟨y2, ey2⟩ : ∃ z : Int32, z = (s.2.2.1 106 (x3 + 1).toNatClampNeg) := ⟨_, rfl⟩
  have hT := hT y2 ey2
  refine x_istore (lo' := [some (.ref w.1), some (.int x1), some (.int x2), some (.int x3), some (.int y1), some (.int y2), none, none, none]) dX10_join_16 (Nat.le_of_ble_eq_true rfl) (by rw [ey2]; rfl) ?_
  refine x_aload_n dX10_join_18 rfl rfl rfl ?_
  refine x_iload_n dX10_join_19 rfl rfl ?_
  refine m_inv (vs := [.int x3]) dX10_join_20 oX10_kindAt q2728 q2726 qs106 rfl rfl (Nat.le_of_ble_eq_true rfl) rfl hW hF hT ?_
  rintro _ s3 ⟨v4, rfl, hT⟩ h hW hF
  refine x_istore (lo' := [some (.ref w.1), some (.int x1), some (.int x2), some (.int x3), some (.int y1), some (.int y2), some (.int v4), none, none]) dX10_join_23 (Nat.le_of_ble_eq_true rfl) rfl ?_
  refine x_aload_n dX10_join_25 rfl rfl rfl ?_
  refine x_iload_n dX10_join_26 rfl rfl ?_
  refine x_iconst (v := 1) dX10_join_27 rfl ?_
  refine x_iadd dX10_join_28 ?_
  refine m_inv (vs := [.int (x3 + 1)]) dX10_join_29 oX10_kindAt q2728 q2726 qs106 rfl rfl (Nat.le_of_ble_eq_true rfl) rfl hW hF hT ?_
  rintro _ s5 ⟨v6, rfl, hT⟩ h hW hF
  refine x_istore (lo' := [some (.ref w.1), some (.int x1), some (.int x2), some (.int x3), some (.int y1), some (.int y2), some (.int v4), some (.int v6), none]) dX10_join_32 (Nat.le_of_ble_eq_true rfl) rfl ?_
  refine x_iload dX10_join_34 rfl ?_
  refine x_iconst (v := 3) dX10_join_36 rfl ?_
  refine x_icmp_eq (tgt := 46) dX10_join_37 rfl (fun c => ?_) (fun c => ?_)
  · have hT := hT.1 c
    refine x_iconst (v := 3) dX10_join_46 rfl ?_
    refine x_goto (tgt := 67) dX10_join_47 rfl ?_
    exact hT h0 h hW hF
  · have hT := hT.2 c
    refine x_iload dX10_join_40 rfl ?_
    refine x_iconst (v := 3) dX10_join_42 rfl ?_
    refine x_icmp_ne (tgt := 50) dX10_join_43 rfl (fun c => ?_) (fun c => ?_)
    · have hT := hT.1 c
      refine x_iload dX10_join_50 rfl ?_
      refine x_iconst (v := 2) dX10_join_52 rfl ?_
      refine x_icmp_eq (tgt := 62) dX10_join_53 rfl (fun c => ?_) (fun c => ?_)
      · have hT := hT.1 c
        refine x_iconst (v := 2) dX10_join_62 rfl ?_
        refine x_goto (tgt := 67) dX10_join_63 rfl ?_
        exact hT h0 h hW hF
      · have hT := hT.2 c
        refine x_iload dX10_join_56 rfl ?_
        refine x_iconst (v := 2) dX10_join_58 rfl ?_
        refine x_icmp_ne (tgt := 66) dX10_join_59 rfl (fun c => ?_) (fun c => ?_)
        · have hT := hT.1 c
          refine x_iconst (v := 1) dX10_join_66 rfl ?_
          exact hT h0 h hW hF
        · have hT := hT.2 c
          refine x_iconst (v := 2) dX10_join_62 rfl ?_
          refine x_goto (tgt := 67) dX10_join_63 rfl ?_
          exact hT h0 h hW hF
    · have hT := hT.2 c
      refine x_iconst (v := 3) dX10_join_46 rfl ?_
      refine x_goto (tgt := 67) dX10_join_47 rfl ?_
      exact hT h0 h hW hF
theorem eX10_join {l : Launch} {E : EN} {w : MO} {d : Nat} {s : MS} {Q : Option Value → MS → Prop} {x1 : Int32} {x2 : Int32} {x3 : Int32} (hst : l.stackTraces = false) (hT : (inB x3 9000 ∧ (∀ y1 : Int32, y1 = (s.2.2.1 106 x3.toNatClampNeg) → (inB (x3 + 1) 9000 ∧ (∀ y2 : Int32, y2 = (s.2.2.1 106 (x3 + 1).toNatClampNeg) → (EvM l E w d MX10_kindAt [.ref w.1, .int x3] s (fun r s3 => ∃ v4 : Int32, r = some (.int v4) ∧ (EvM l E w d MX10_kindAt [.ref w.1, .int (x3 + 1)] s3 (fun r s5 => ∃ v6 : Int32, r = some (.int v6) ∧ ((v4 = 3 → ExM l E w (d + 1) MX10_join 67 [some (.ref w.1), some (.int x1), some (.int x2), some (.int x3), some (.int y1), some (.int y2), some (.int v4), some (.int v6), none] [.int 3] s5 Q) ∧ (¬ v4 = 3 → ((¬ v6 = 3 → ((v4 = 2 → ExM l E w (d + 1) MX10_join 67 [some (.ref w.1), some (.int x1), some (.int x2), some (.int x3), some (.int y1), some (.int y2), some (.int v4), some (.int v6), none] [.int 2] s5 Q) ∧ (¬ v4 = 2 → ((¬ v6 = 2 → ExM l E w (d + 1) MX10_join 67 [some (.ref w.1), some (.int x1), some (.int x2), some (.int x3), some (.int y1), some (.int y2), some (.int v4), some (.int v6), none] [.int 1] s5 Q) ∧ (v6 = 2 → ExM l E w (d + 1) MX10_join 67 [some (.ref w.1), some (.int x1), some (.int x2), some (.int x3), some (.int y1), some (.int y2), some (.int v4), some (.int v6), none] [.int 2] s5 Q))))) ∧ (v6 = 3 → ExM l E w (d + 1) MX10_join 67 [some (.ref w.1), some (.int x1), some (.int x2), some (.int x3), some (.int y1), some (.int y2), some (.int v4), some (.int v6), none] [.int 3] s5 Q))))))))))))) : EvM l E w (d + 1) MX10_join [.ref w.1, .int x1, .int x2, .int x3] s Q :=
  EvM.of hst (by decide) (Nat.le_of_ble_eq_true rfl) (vX10_join_0 hT)
set_option maxHeartbeats 16000000 in
theorem vX10_join_67 {l : Launch} {E : EN} {w : MO} {d : Nat} {s : MS} {Q : Option Value → MS → Prop} {a1 : Int32} {a2 : Int32} {a3 : Int32} {a4 : Int32} {a5 : Int32} {a6 : Int32} {a7 : Int32} {b0 : Int32} (hT : ((¬ a6 = b0 → (EvM l E w d MX10_all [.ref w.1, .int a4, .int a1, .int 0] (sI s 108 a3) (fun r s1 => r = none ∧ ((¬ a7 = b0 → (EvM l E w d MX10_all [.ref w.1, .int a5, .int a2, .int 0] s1 (fun r s2 => r = none ∧ (EvM l E w d MX10_builds [.ref w.1, .int b0, .int a3] s2 (fun r s3 => r = none ∧ Q none s3))))) ∧ (a7 = b0 → (EvM l E w d MX10_all [.ref w.1, .int a5, .int a2, .int 1] s1 (fun r s4 => r = none ∧ (EvM l E w d MX10_builds [.ref w.1, .int b0, .int a3] s4 (fun r s5 => r = none ∧ Q none s5))))))))) ∧ (a6 = b0 → (EvM l E w d MX10_all [.ref w.1, .int a4, .int a1, .int 1] (sI s 108 a3) (fun r s6 => r = none ∧ ((¬ a7 = b0 → (EvM l E w d MX10_all [.ref w.1, .int a5, .int a2, .int 0] s6 (fun r s7 => r = none ∧ (EvM l E w d MX10_builds [.ref w.1, .int b0, .int a3] s7 (fun r s8 => r = none ∧ Q none s8))))) ∧ (a7 = b0 → (EvM l E w d MX10_all [.ref w.1, .int a5, .int a2, .int 1] s6 (fun r s9 => r = none ∧ (EvM l E w d MX10_builds [.ref w.1, .int b0, .int a3] s9 (fun r s10 => r = none ∧ Q none s10))))))))))) : ExM l E w (d + 1) MX10_join 67 [some (.ref w.1), some (.int a1), some (.int a2), some (.int a3), some (.int a4), some (.int a5), some (.int a6), some (.int a7), none] [.int b0] s Q := by
  intro h0 h hW hF
  refine x_istore (lo' := [some (.ref w.1), some (.int a1), some (.int a2), some (.int a3), some (.int a4), some (.int a5), some (.int a6), some (.int a7), some (.int b0)]) dX10_join_67 (Nat.le_of_ble_eq_true rfl) rfl ?_
  refine x_aload_n dX10_join_69 rfl rfl rfl ?_
  refine x_iload_n dX10_join_70 rfl rfl ?_
  refine m_puti dX10_join_71 f_TallySlateModel_461 (by decide) rfl rfl rfl rfl hW hF ?_
  intro h hW hF
  refine x_aload_n dX10_join_74 rfl rfl rfl ?_
  refine x_iload dX10_join_75 rfl ?_
  refine x_iload_n dX10_join_77 rfl rfl ?_
  refine x_iload dX10_join_78 rfl ?_
  refine x_iload dX10_join_80 rfl ?_
  refine x_icmp_ne (tgt := 89) dX10_join_82 rfl (fun c => ?_) (fun c => ?_)
  · have hT := hT.1 c
    refine x_iconst (v := 0) dX10_join_89 rfl ?_
    refine m_inv (vs := [.int a4, .int a1, .int 0]) dX10_join_90 oX10_all q2849 q2847 qs133 rfl rfl (Nat.le_of_ble_eq_true rfl) rfl hW hF hT ?_
    rintro _ s1 ⟨rfl, hT⟩ h hW hF
    refine x_aload_n dX10_join_93 rfl rfl rfl ?_
    refine x_iload dX10_join_94 rfl ?_
    refine x_iload_n dX10_join_96 rfl rfl ?_
    refine x_iload dX10_join_97 rfl ?_
    refine x_iload dX10_join_99 rfl ?_
    refine x_icmp_ne (tgt := 108) dX10_join_101 rfl (fun c => ?_) (fun c => ?_)
    · have hT := hT.1 c
      refine x_iconst (v := 0) dX10_join_108 rfl ?_
      refine m_inv (vs := [.int a5, .int a2, .int 0]) dX10_join_109 oX10_all q2849 q2847 qs133 rfl rfl (Nat.le_of_ble_eq_true rfl) rfl hW hF hT ?_
      rintro _ s2 ⟨rfl, hT⟩ h hW hF
      refine x_aload_n dX10_join_112 rfl rfl rfl ?_
      refine x_iload dX10_join_113 rfl ?_
      refine x_iload_n dX10_join_115 rfl rfl ?_
      refine m_inv (vs := [.int b0, .int a3]) dX10_join_116 oX10_builds q2739 q2737 qs108 rfl rfl (Nat.le_of_ble_eq_true rfl) rfl hW hF hT ?_
      rintro _ s3 ⟨rfl, hT⟩ h hW hF
      exact x_vret dX10_join_119 rfl ⟨_, _, rfl, hW, hF, hT⟩
    · have hT := hT.2 c
      refine x_iconst (v := 1) dX10_join_104 rfl ?_
      refine x_goto (tgt := 109) dX10_join_105 rfl ?_
      refine m_inv (vs := [.int a5, .int a2, .int 1]) dX10_join_109 oX10_all q2849 q2847 qs133 rfl rfl (Nat.le_of_ble_eq_true rfl) rfl hW hF hT ?_
      rintro _ s4 ⟨rfl, hT⟩ h hW hF
      refine x_aload_n dX10_join_112 rfl rfl rfl ?_
      refine x_iload dX10_join_113 rfl ?_
      refine x_iload_n dX10_join_115 rfl rfl ?_
      refine m_inv (vs := [.int b0, .int a3]) dX10_join_116 oX10_builds q2739 q2737 qs108 rfl rfl (Nat.le_of_ble_eq_true rfl) rfl hW hF hT ?_
      rintro _ s5 ⟨rfl, hT⟩ h hW hF
      exact x_vret dX10_join_119 rfl ⟨_, _, rfl, hW, hF, hT⟩
  · have hT := hT.2 c
    refine x_iconst (v := 1) dX10_join_85 rfl ?_
    refine x_goto (tgt := 90) dX10_join_86 rfl ?_
    refine m_inv (vs := [.int a4, .int a1, .int 1]) dX10_join_90 oX10_all q2849 q2847 qs133 rfl rfl (Nat.le_of_ble_eq_true rfl) rfl hW hF hT ?_
    rintro _ s6 ⟨rfl, hT⟩ h hW hF
    refine x_aload_n dX10_join_93 rfl rfl rfl ?_
    refine x_iload dX10_join_94 rfl ?_
    refine x_iload_n dX10_join_96 rfl rfl ?_
    refine x_iload dX10_join_97 rfl ?_
    refine x_iload dX10_join_99 rfl ?_
    refine x_icmp_ne (tgt := 108) dX10_join_101 rfl (fun c => ?_) (fun c => ?_)
    · have hT := hT.1 c
      refine x_iconst (v := 0) dX10_join_108 rfl ?_
      refine m_inv (vs := [.int a5, .int a2, .int 0]) dX10_join_109 oX10_all q2849 q2847 qs133 rfl rfl (Nat.le_of_ble_eq_true rfl) rfl hW hF hT ?_
      rintro _ s7 ⟨rfl, hT⟩ h hW hF
      refine x_aload_n dX10_join_112 rfl rfl rfl ?_
      refine x_iload dX10_join_113 rfl ?_
      refine x_iload_n dX10_join_115 rfl rfl ?_
      refine m_inv (vs := [.int b0, .int a3]) dX10_join_116 oX10_builds q2739 q2737 qs108 rfl rfl (Nat.le_of_ble_eq_true rfl) rfl hW hF hT ?_
      rintro _ s8 ⟨rfl, hT⟩ h hW hF
      exact x_vret dX10_join_119 rfl ⟨_, _, rfl, hW, hF, hT⟩
    · have hT := hT.2 c
      refine x_iconst (v := 1) dX10_join_104 rfl ?_
      refine x_goto (tgt := 109) dX10_join_105 rfl ?_
      refine m_inv (vs := [.int a5, .int a2, .int 1]) dX10_join_109 oX10_all q2849 q2847 qs133 rfl rfl (Nat.le_of_ble_eq_true rfl) rfl hW hF hT ?_
      rintro _ s9 ⟨rfl, hT⟩ h hW hF
      refine x_aload_n dX10_join_112 rfl rfl rfl ?_
      refine x_iload dX10_join_113 rfl ?_
      refine x_iload_n dX10_join_115 rfl rfl ?_
      refine m_inv (vs := [.int b0, .int a3]) dX10_join_116 oX10_builds q2739 q2737 qs108 rfl rfl (Nat.le_of_ble_eq_true rfl) rfl hW hF hT ?_
      rintro _ s10 ⟨rfl, hT⟩ h hW hF
      exact x_vret dX10_join_119 rfl ⟨_, _, rfl, hW, hF, hT⟩
theorem vX10_all_0 {l : Launch} {E : EN} {w : MO} {d : Nat} {s : MS} {Q : Option Value → MS → Prop} {x1 : Int32} {x2 : Int32} {x3 : Int32} (hT : ((x1 = 0 → (EvM l E w d MX10_push [.ref w.1, .int x1, .int x2] s (fun r s1 => r = none ∧ Q none s1))) ∧ (¬ x1 = 0 → ((¬ x3 = 0 → ExM l E w (d + 1) MX10_all 20 [some (.ref w.1), none, some (.int x2), none, some (.int 0)] [] s Q) ∧ (x3 = 0 → (EvM l E w d MX10_push [.ref w.1, .int x1, .int x2] s (fun r s2 => r = none ∧ Q none s2))))))) : ExM l E w (d + 1) MX10_all 0 [some (.ref w.1), some (.int x1), some (.int x2), some (.int x3), none] [] s Q := by
  intro h0 h hW hF
  refine x_iload_n dX10_all_0 rfl rfl ?_
  refine x_if_eq (tgt := 8) dX10_all_1 rfl (fun c => ?_) (fun c => ?_)
  · have hT := hT.1 c
    refine x_aload_n dX10_all_8 rfl rfl rfl ?_
    refine x_iload_n dX10_all_9 rfl rfl ?_
    refine x_iload_n dX10_all_10 rfl rfl ?_
    refine m_inv (vs := [.int x1, .int x2]) dX10_all_11 oX10_push q2708 q2706 qs101 rfl rfl (Nat.le_of_ble_eq_true rfl) rfl hW hF hT ?_
    rintro _ s1 ⟨rfl, hT⟩ h hW hF
    refine x_goto (tgt := 43) dX10_all_14 rfl ?_
    exact x_vret dX10_all_43 rfl ⟨_, _, rfl, hW, hF, hT⟩
  · have hT := hT.2 c
    refine x_iload_n dX10_all_4 rfl rfl ?_
    refine x_if_ne (tgt := 17) dX10_all_5 rfl (fun c => ?_) (fun c => ?_)
    · have hT := hT.1 c
      refine x_iconst (v := 0) dX10_all_17 rfl ?_
      refine x_istore (lo' := [some (.ref w.1), some (.int x1), some (.int x2), some (.int x3), some (.int 0)]) dX10_all_18 (Nat.le_of_ble_eq_true rfl) rfl ?_
      refine Ex.wkl (lo' := [some (.ref w.1), none, some (.int x2), none, some (.int 0)]) ⟨rfl, rfl, rfl, trivial⟩ ?_
      exact hT h0 h hW hF
    · have hT := hT.2 c
      refine x_aload_n dX10_all_8 rfl rfl rfl ?_
      refine x_iload_n dX10_all_9 rfl rfl ?_
      refine x_iload_n dX10_all_10 rfl rfl ?_
      refine m_inv (vs := [.int x1, .int x2]) dX10_all_11 oX10_push q2708 q2706 qs101 rfl rfl (Nat.le_of_ble_eq_true rfl) rfl hW hF hT ?_
      rintro _ s2 ⟨rfl, hT⟩ h hW hF
      refine x_goto (tgt := 43) dX10_all_14 rfl ?_
      exact x_vret dX10_all_43 rfl ⟨_, _, rfl, hW, hF, hT⟩
theorem eX10_all {l : Launch} {E : EN} {w : MO} {d : Nat} {s : MS} {Q : Option Value → MS → Prop} {x1 : Int32} {x2 : Int32} {x3 : Int32} (hst : l.stackTraces = false) (hT : ((x1 = 0 → (EvM l E w d MX10_push [.ref w.1, .int x1, .int x2] s (fun r s1 => r = none ∧ Q none s1))) ∧ (¬ x1 = 0 → ((¬ x3 = 0 → ExM l E w (d + 1) MX10_all 20 [some (.ref w.1), none, some (.int x2), none, some (.int 0)] [] s Q) ∧ (x3 = 0 → (EvM l E w d MX10_push [.ref w.1, .int x1, .int x2] s (fun r s2 => r = none ∧ Q none s2))))))) : EvM l E w (d + 1) MX10_all [.ref w.1, .int x1, .int x2, .int x3] s Q :=
  EvM.of hst (by decide) (Nat.le_of_ble_eq_true rfl) (vX10_all_0 hT)
theorem vX10_all_20 {l : Launch} {E : EN} {w : MO} {d : Nat} {s : MS} {Q : Option Value → MS → Prop} {a2 : Int32} {a4 : Int32} (hT : (EvM l E w d MX10_sizeAt [.ref w.1, .int a2] s (fun r s1 => ∃ v2 : Int32, r = some (.int v2) ∧ ((v2 ≤ a4 → Q none s1) ∧ (¬ v2 ≤ a4 → (EvM l E w d MX10_element [.ref w.1, .int a2, .int a4] s1 (fun r s3 => r = none ∧ ExM l E w (d + 1) MX10_all 20 [some (.ref w.1), none, some (.int a2), none, some (.int (a4 + 1))] [] s3 Q))))))) : ExM l E w (d + 1) MX10_all 20 [some (.ref w.1), none, some (.int a2), none, some (.int a4)] [] s Q := by
  intro h0 h hW hF
  refine x_iload dX10_all_20 rfl ?_
  refine x_aload_n dX10_all_22 rfl rfl rfl ?_
  refine x_iload_n dX10_all_23 rfl rfl ?_
  refine m_inv (vs := [.int a2]) dX10_all_24 oX10_sizeAt q2735 q2733 qs107 rfl rfl (Nat.le_of_ble_eq_true rfl) rfl hW hF hT ?_
  rintro _ s1 ⟨v2, rfl, hT⟩ h hW hF
  refine x_icmp_ge (tgt := 43) dX10_all_27 rfl (fun c => ?_) (fun c => ?_)
  · have hT := hT.1 c
    exact x_vret dX10_all_43 rfl ⟨_, _, rfl, hW, hF, hT⟩
  · have hT := hT.2 c
    refine x_aload_n dX10_all_30 rfl rfl rfl ?_
    refine x_iload_n dX10_all_31 rfl rfl ?_
    refine x_iload dX10_all_32 rfl ?_
    refine m_inv (vs := [.int a2, .int a4]) dX10_all_34 oX10_element q2798 q2796 qs122 rfl rfl (Nat.le_of_ble_eq_true rfl) rfl hW hF hT ?_
    rintro _ s3 ⟨rfl, hT⟩ h hW hF
    refine x_iinc (lo' := [some (.ref w.1), none, some (.int a2), none, some (.int (a4 + 1))]) dX10_all_37 rfl (show _ = (a4 + 1) from rfl) rfl ?_
    refine x_goto (tgt := 20) dX10_all_40 rfl ?_
    exact hT h0 h hW hF
set_option maxHeartbeats 16000000 in
theorem vX10_ends2_2_0 {l : Launch} {E : EN} {w : MO} {d : Nat} {s : MS} {Q : Option Value → MS → Prop} {x1 : Int32} {x2 : Int32} {x3 : Int32} {x4 : Int32} (hT : (inB x3 166300 ∧ (∀ y1 : Int32, y1 = (s.2.2.1 104 x3.toNatClampNeg) → (EvM l E w d MX10_sizeAt [.ref w.1, .int x3] s (fun r s2 => ∃ v3 : Int32, r = some (.int v3) ∧ ((0 ≤ x2 → (∀ y4 : Int64, y4 = x2.toInt64 → ((¬ x1 = 20 → ExM l E w (d + 1) MX10_ends2_2 66 [some (.ref w.1), some (.int x1), some (.int x2), some (.int x3), some (.int x4), some (.int y1), some (.int v3), some (.long y4), none, none, none, none] [] s2 Q) ∧ (x1 = 20 → ((¬ y1 = 1 → (((lg_cmp y4 20) ≤ 0 → ExM l E w (d + 1) MX10_ends2_2 66 [some (.ref w.1), some (.int x1), some (.int x2), some (.int x3), some (.int x4), some (.int y1), some (.int v3), some (.long y4), none, none, none, none] [] s2 Q) ∧ (¬ (lg_cmp y4 20) ≤ 0 → (EvM l E w d MX10_trouble [.ref w.1, .int 2, .int (s2.1 127)] s2 (fun r s5 => r = none ∧ Q none s5))))) ∧ (y1 = 1 → (((lg_cmp y4 64) ≤ 0 → ExM l E w (d + 1) MX10_ends2_2 66 [some (.ref w.1), some (.int x1), some (.int x2), some (.int x3), some (.int x4), some (.int y1), some (.int v3), some (.long y4), none, none, none, none] [] s2 Q) ∧ (¬ (lg_cmp y4 64) ≤ 0 → (EvM l E w d MX10_trouble [.ref w.1, .int 2, .int (s2.1 127)] s2 (fun r s6 => r = none ∧ Q none s6)))))))))) ∧ (¬ 0 ≤ x2 → (∀ y7 : Int64, y7 = (-x2.toInt64) → ((¬ x1 = 20 → ExM l E w (d + 1) MX10_ends2_2 66 [some (.ref w.1), some (.int x1), some (.int x2), some (.int x3), some (.int x4), some (.int y1), some (.int v3), some (.long y7), none, none, none, none] [] s2 Q) ∧ (x1 = 20 → ((¬ y1 = 1 → (((lg_cmp y7 20) ≤ 0 → ExM l E w (d + 1) MX10_ends2_2 66 [some (.ref w.1), some (.int x1), some (.int x2), some (.int x3), some (.int x4), some (.int y1), some (.int v3), some (.long y7), none, none, none, none] [] s2 Q) ∧ (¬ (lg_cmp y7 20) ≤ 0 → (EvM l E w d MX10_trouble [.ref w.1, .int 2, .int (s2.1 127)] s2 (fun r s8 => r = none ∧ Q none s8))))) ∧ (y1 = 1 → (((lg_cmp y7 64) ≤ 0 → ExM l E w (d + 1) MX10_ends2_2 66 [some (.ref w.1), some (.int x1), some (.int x2), some (.int x3), some (.int x4), some (.int y1), some (.int v3), some (.long y7), none, none, none, none] [] s2 Q) ∧ (¬ (lg_cmp y7 64) ≤ 0 → (EvM l E w d MX10_trouble [.ref w.1, .int 2, .int (s2.1 127)] s2 (fun r s9 => r = none ∧ Q none s9)))))))))))))))) : ExM l E w (d + 1) MX10_ends2_2 0 [some (.ref w.1), some (.int x1), some (.int x2), some (.int x3), some (.int x4), none, none, none, none, none, none, none] [] s Q := by
  intro h0 h hW hF
  refine x_aload_n dX10_ends2_2_0 rfl rfl rfl ?_
  refine m_geta dX10_ends2_2_1 f_TallySlateModel_183 (by decide) rfl hW ?_
  refine x_iload_n dX10_ends2_2_4 rfl rfl ?_
  obtain ⟨hb, hT⟩ := hT
  refine m_iald (v := (s.2.2.1 104 x3.toNatClampNeg)) dX10_ends2_2_5 rfl hb hW rfl ?_
  obtain ⟨y1, ey1⟩ : ∃ z : Int32, z = (s.2.2.1 104 x3.toNatClampNeg) := ⟨_, rfl⟩
  have hT := hT y1 ey1
  refine x_istore (lo' := [some (.ref w.1), some (.int x1), some (.int x2), some (.int x3), some (.int x4), some (.int y1), none, none, none, none, none, none]) dX10_ends2_2_6 (Nat.le_of_ble_eq_true rfl) (by rw [ey1]; rfl) ?_
  refine x_aload_n dX10_ends2_2_8 rfl rfl rfl ?_
  refine x_iload_n dX10_ends2_2_9 rfl rfl ?_
  refine m_inv (vs := [.int x3]) dX10_ends2_2_10 oX10_sizeAt q2735 q2733 qs107 rfl rfl (Nat.le_of_ble_eq_true rfl) rfl hW hF hT ?_
  rintro _ s2 ⟨v3, rfl, hT⟩ h hW hF
  refine x_istore (lo' := [some (.ref w.1), some (.int x1), some (.int x2), some (.int x3), some (.int x4), some (.int y1), some (.int v3), none, none, none, none, none]) dX10_ends2_2_13 (Nat.le_of_ble_eq_true rfl) rfl ?_
  refine x_iload_n dX10_ends2_2_15 rfl rfl ?_
  refine x_if_ge (tgt := 25) dX10_ends2_2_16 rfl (fun c => ?_) (fun c => ?_)
  · have hT := hT.1 c
    refine x_iload_n dX10_ends2_2_25 rfl rfl ?_
    refine x_i2l dX10_ends2_2_26 ?_
    obtain ⟨y4, ey4⟩ : ∃ z : Int64, z = x2.toInt64 := ⟨_, rfl⟩
    have hT := hT y4 ey4
    refine x_lstore (lo' := [some (.ref w.1), some (.int x1), some (.int x2), some (.int x3), some (.int x4), some (.int y1), some (.int v3), some (.long y4), none, none, none, none]) dX10_ends2_2_27 (Nat.le_of_ble_eq_true rfl) (by rw [ey4]; rfl) ?_
    refine x_iload_n dX10_ends2_2_29 rfl rfl ?_
    refine x_bipush (v := 20) dX10_ends2_2_30 rfl ?_
    refine x_icmp_ne (tgt := 66) dX10_ends2_2_32 rfl (fun c => ?_) (fun c => ?_)
    · have hT := hT.1 c
      exact hT h0 h hW hF
    · have hT := hT.2 c
      refine x_lload dX10_ends2_2_35 rfl ?_
      refine x_iload dX10_ends2_2_37 rfl ?_
      refine x_iconst (v := 1) dX10_ends2_2_39 rfl ?_
      refine x_icmp_ne (tgt := 49) dX10_ends2_2_40 rfl (fun c => ?_) (fun c => ?_)
      · have hT := hT.1 c
        refine x_ldc2 dX10_ends2_2_49 q2856 ?_
        refine x_lcmp dX10_ends2_2_52 ?_
        refine x_if_le (tgt := 66) dX10_ends2_2_53 rfl (fun c => ?_) (fun c => ?_)
        · have hT := hT.1 c
          exact hT h0 h hW hF
        · have hT := hT.2 c
          refine x_aload_n dX10_ends2_2_56 rfl rfl rfl ?_
          refine x_iconst (v := 2) dX10_ends2_2_57 rfl ?_
          refine x_aload_n dX10_ends2_2_58 rfl rfl rfl ?_
          refine m_geti (v := (s2.1 127)) dX10_ends2_2_59 f_TallySlateModel_507 (by decide) rfl hW rfl ?_
          refine m_inv (vs := [.int 2, .int (s2.1 127)]) dX10_ends2_2_62 oX10_trouble q2696 q2694 qs98 rfl rfl (Nat.le_of_ble_eq_true rfl) rfl hW hF hT ?_
          rintro _ s5 ⟨rfl, hT⟩ h hW hF
          exact x_vret dX10_ends2_2_65 rfl ⟨_, _, rfl, hW, hF, hT⟩
      · have hT := hT.2 c
        refine x_ldc2 dX10_ends2_2_43 q2855 ?_
        refine x_goto (tgt := 52) dX10_ends2_2_46 rfl ?_
        refine x_lcmp dX10_ends2_2_52 ?_
        refine x_if_le (tgt := 66) dX10_ends2_2_53 rfl (fun c => ?_) (fun c => ?_)
        · have hT := hT.1 c
          exact hT h0 h hW hF
        · have hT := hT.2 c
          refine x_aload_n dX10_ends2_2_56 rfl rfl rfl ?_
          refine x_iconst (v := 2) dX10_ends2_2_57 rfl ?_
          refine x_aload_n dX10_ends2_2_58 rfl rfl rfl ?_
          refine m_geti (v := (s2.1 127)) dX10_ends2_2_59 f_TallySlateModel_507 (by decide) rfl hW rfl ?_
          refine m_inv (vs := [.int 2, .int (s2.1 127)]) dX10_ends2_2_62 oX10_trouble q2696 q2694 qs98 rfl rfl (Nat.le_of_ble_eq_true rfl) rfl hW hF hT ?_
          rintro _ s6 ⟨rfl, hT⟩ h hW hF
          exact x_vret dX10_ends2_2_65 rfl ⟨_, _, rfl, hW, hF, hT⟩
  · have hT := hT.2 c
    refine x_iload_n dX10_ends2_2_19 rfl rfl ?_
    refine x_i2l dX10_ends2_2_20 ?_
    refine x_lneg dX10_ends2_2_21 ?_
    refine x_goto (tgt := 27) dX10_ends2_2_22 rfl ?_
    obtain ⟨y7, ey7⟩ : ∃ z : Int64, z = (-x2.toInt64) := ⟨_, rfl⟩
    have hT := hT y7 ey7
    refine x_lstore (lo' := [some (.ref w.1), some (.int x1), some (.int x2), some (.int x3), some (.int x4), some (.int y1), some (.int v3), some (.long y7), none, none, none, none]) dX10_ends2_2_27 (Nat.le_of_ble_eq_true rfl) (by rw [ey7]; rfl) ?_
    refine x_iload_n dX10_ends2_2_29 rfl rfl ?_
    refine x_bipush (v := 20) dX10_ends2_2_30 rfl ?_
    refine x_icmp_ne (tgt := 66) dX10_ends2_2_32 rfl (fun c => ?_) (fun c => ?_)
    · have hT := hT.1 c
      exact hT h0 h hW hF
    · have hT := hT.2 c
      refine x_lload dX10_ends2_2_35 rfl ?_
      refine x_iload dX10_ends2_2_37 rfl ?_
      refine x_iconst (v := 1) dX10_ends2_2_39 rfl ?_
      refine x_icmp_ne (tgt := 49) dX10_ends2_2_40 rfl (fun c => ?_) (fun c => ?_)
      · have hT := hT.1 c
        refine x_ldc2 dX10_ends2_2_49 q2856 ?_
        refine x_lcmp dX10_ends2_2_52 ?_
        refine x_if_le (tgt := 66) dX10_ends2_2_53 rfl (fun c => ?_) (fun c => ?_)
        · have hT := hT.1 c
          exact hT h0 h hW hF
        · have hT := hT.2 c
          refine x_aload_n dX10_ends2_2_56 rfl rfl rfl ?_
          refine x_iconst (v := 2) dX10_ends2_2_57 rfl ?_
          refine x_aload_n dX10_ends2_2_58 rfl rfl rfl ?_
          refine m_geti (v := (s2.1 127)) dX10_ends2_2_59 f_TallySlateModel_507 (by decide) rfl hW rfl ?_
          refine m_inv (vs := [.int 2, .int (s2.1 127)]) dX10_ends2_2_62 oX10_trouble q2696 q2694 qs98 rfl rfl (Nat.le_of_ble_eq_true rfl) rfl hW hF hT ?_
          rintro _ s8 ⟨rfl, hT⟩ h hW hF
          exact x_vret dX10_ends2_2_65 rfl ⟨_, _, rfl, hW, hF, hT⟩
      · have hT := hT.2 c
        refine x_ldc2 dX10_ends2_2_43 q2855 ?_
        refine x_goto (tgt := 52) dX10_ends2_2_46 rfl ?_
        refine x_lcmp dX10_ends2_2_52 ?_
        refine x_if_le (tgt := 66) dX10_ends2_2_53 rfl (fun c => ?_) (fun c => ?_)
        · have hT := hT.1 c
          exact hT h0 h hW hF
        · have hT := hT.2 c
          refine x_aload_n dX10_ends2_2_56 rfl rfl rfl ?_
          refine x_iconst (v := 2) dX10_ends2_2_57 rfl ?_
          refine x_aload_n dX10_ends2_2_58 rfl rfl rfl ?_
          refine m_geti (v := (s2.1 127)) dX10_ends2_2_59 f_TallySlateModel_507 (by decide) rfl hW rfl ?_
          refine m_inv (vs := [.int 2, .int (s2.1 127)]) dX10_ends2_2_62 oX10_trouble q2696 q2694 qs98 rfl rfl (Nat.le_of_ble_eq_true rfl) rfl hW hF hT ?_
          rintro _ s9 ⟨rfl, hT⟩ h hW hF
          exact x_vret dX10_ends2_2_65 rfl ⟨_, _, rfl, hW, hF, hT⟩
theorem eX10_ends2_2 {l : Launch} {E : EN} {w : MO} {d : Nat} {s : MS} {Q : Option Value → MS → Prop} {x1 : Int32} {x2 : Int32} {x3 : Int32} {x4 : Int32} (hst : l.stackTraces = false) (hT : (inB x3 166300 ∧ (∀ y1 : Int32, y1 = (s.2.2.1 104 x3.toNatClampNeg) → (EvM l E w d MX10_sizeAt [.ref w.1, .int x3] s (fun r s2 => ∃ v3 : Int32, r = some (.int v3) ∧ ((0 ≤ x2 → (∀ y4 : Int64, y4 = x2.toInt64 → ((¬ x1 = 20 → ExM l E w (d + 1) MX10_ends2_2 66 [some (.ref w.1), some (.int x1), some (.int x2), some (.int x3), some (.int x4), some (.int y1), some (.int v3), some (.long y4), none, none, none, none] [] s2 Q) ∧ (x1 = 20 → ((¬ y1 = 1 → (((lg_cmp y4 20) ≤ 0 → ExM l E w (d + 1) MX10_ends2_2 66 [some (.ref w.1), some (.int x1), some (.int x2), some (.int x3), some (.int x4), some (.int y1), some (.int v3), some (.long y4), none, none, none, none] [] s2 Q) ∧ (¬ (lg_cmp y4 20) ≤ 0 → (EvM l E w d MX10_trouble [.ref w.1, .int 2, .int (s2.1 127)] s2 (fun r s5 => r = none ∧ Q none s5))))) ∧ (y1 = 1 → (((lg_cmp y4 64) ≤ 0 → ExM l E w (d + 1) MX10_ends2_2 66 [some (.ref w.1), some (.int x1), some (.int x2), some (.int x3), some (.int x4), some (.int y1), some (.int v3), some (.long y4), none, none, none, none] [] s2 Q) ∧ (¬ (lg_cmp y4 64) ≤ 0 → (EvM l E w d MX10_trouble [.ref w.1, .int 2, .int (s2.1 127)] s2 (fun r s6 => r = none ∧ Q none s6)))))))))) ∧ (¬ 0 ≤ x2 → (∀ y7 : Int64, y7 = (-x2.toInt64) → ((¬ x1 = 20 → ExM l E w (d + 1) MX10_ends2_2 66 [some (.ref w.1), some (.int x1), some (.int x2), some (.int x3), some (.int x4), some (.int y1), some (.int v3), some (.long y7), none, none, none, none] [] s2 Q) ∧ (x1 = 20 → ((¬ y1 = 1 → (((lg_cmp y7 20) ≤ 0 → ExM l E w (d + 1) MX10_ends2_2 66 [some (.ref w.1), some (.int x1), some (.int x2), some (.int x3), some (.int x4), some (.int y1), some (.int v3), some (.long y7), none, none, none, none] [] s2 Q) ∧ (¬ (lg_cmp y7 20) ≤ 0 → (EvM l E w d MX10_trouble [.ref w.1, .int 2, .int (s2.1 127)] s2 (fun r s8 => r = none ∧ Q none s8))))) ∧ (y1 = 1 → (((lg_cmp y7 64) ≤ 0 → ExM l E w (d + 1) MX10_ends2_2 66 [some (.ref w.1), some (.int x1), some (.int x2), some (.int x3), some (.int x4), some (.int y1), some (.int v3), some (.long y7), none, none, none, none] [] s2 Q) ∧ (¬ (lg_cmp y7 64) ≤ 0 → (EvM l E w d MX10_trouble [.ref w.1, .int 2, .int (s2.1 127)] s2 (fun r s9 => r = none ∧ Q none s9)))))))))))))))) : EvM l E w (d + 1) MX10_ends2_2 [.ref w.1, .int x1, .int x2, .int x3, .int x4] s Q :=
  EvM.of hst (by decide) (Nat.le_of_ble_eq_true rfl) (vX10_ends2_2_0 hT)
set_option maxHeartbeats 16000000 in
theorem vX10_ends2_2_66 {l : Launch} {E : EN} {w : MO} {d : Nat} {s : MS} {Q : Option Value → MS → Prop} {a1 : Int32} {a2 : Int32} {a3 : Int32} {a4 : Int32} {a5 : Int32} {a6 : Int32} {a7 : Int64} (hT : ((¬ a1 = 21 → ((0 ≤ a2 → ExM l E w (d + 1) MX10_ends2_2 168 [some (.ref w.1), none, none, some (.int a3), some (.int a4), some (.int a5), some (.int a6), some (.long a7), none, some (.int 0), some (.int 0), none] [] (sI s 108 a4) Q) ∧ (¬ 0 ≤ a2 → (∀ y1 : Int32, y1 = (a6 - a7.toInt32) → ExM l E w (d + 1) MX10_ends2_2 168 [some (.ref w.1), none, none, some (.int a3), some (.int a4), some (.int a5), some (.int a6), some (.long a7), none, some (.int y1), some (.int y1), none] [] (sI s 108 a4) Q)))) ∧ (a1 = 21 → (((lg_cmp a7 a6.toInt64) ≤ 0 → (∀ y2 : Int32, y2 = a7.toInt32 → ((0 ≤ a2 → ExM l E w (d + 1) MX10_ends2_2 113 [some (.ref w.1), none, none, some (.int a3), some (.int a4), some (.int a5), some (.int a6), none, none, some (.int y2), some (.int y2), some (.int y2)] [] (sI s 108 a4) Q) ∧ (¬ 0 ≤ a2 → ExM l E w (d + 1) MX10_ends2_2 113 [some (.ref w.1), none, none, some (.int a3), some (.int a4), some (.int a5), some (.int a6), none, none, some (.int y2), some (.int 0), some (.int 0)] [] (sI s 108 a4) Q)))) ∧ (¬ (lg_cmp a7 a6.toInt64) ≤ 0 → ((0 ≤ a2 → ExM l E w (d + 1) MX10_ends2_2 113 [some (.ref w.1), none, none, some (.int a3), some (.int a4), some (.int a5), some (.int a6), none, none, some (.int a6), some (.int a6), some (.int a6)] [] (sI s 108 a4) Q) ∧ (¬ 0 ≤ a2 → ExM l E w (d + 1) MX10_ends2_2 113 [some (.ref w.1), none, none, some (.int a3), some (.int a4), some (.int a5), some (.int a6), none, none, some (.int a6), some (.int 0), some (.int 0)] [] (sI s 108 a4) Q))))))) : ExM l E w (d + 1) MX10_ends2_2 66 [some (.ref w.1), some (.int a1), some (.int a2), some (.int a3), some (.int a4), some (.int a5), some (.int a6), some (.long a7), none, none, none, none] [] s Q := by
  intro h0 h hW hF
  refine x_aload_n dX10_ends2_2_66 rfl rfl rfl ?_
  refine x_iload dX10_ends2_2_67 rfl ?_
  refine m_puti dX10_ends2_2_69 f_TallySlateModel_461 (by decide) rfl rfl rfl rfl hW hF ?_
  intro h hW hF
  refine x_iload_n dX10_ends2_2_72 rfl rfl ?_
  refine x_bipush (v := 21) dX10_ends2_2_73 rfl ?_
  refine x_icmp_ne (tgt := 148) dX10_ends2_2_75 rfl (fun c => ?_) (fun c => ?_)
  · have hT := hT.1 c
    refine x_iload_n dX10_ends2_2_148 rfl rfl ?_
    refine x_if_ge (tgt := 161) dX10_ends2_2_149 rfl (fun c => ?_) (fun c => ?_)
    · have hT := hT.1 c
      refine x_iconst (v := 0) dX10_ends2_2_161 rfl ?_
      refine x_istore (lo' := [some (.ref w.1), some (.int a1), some (.int a2), some (.int a3), some (.int a4), some (.int a5), some (.int a6), some (.long a7), none, some (.int 0), none, none]) dX10_ends2_2_162 (Nat.le_of_ble_eq_true rfl) rfl ?_
      refine x_iload dX10_ends2_2_164 rfl ?_
      refine x_istore (lo' := [some (.ref w.1), some (.int a1), some (.int a2), some (.int a3), some (.int a4), some (.int a5), some (.int a6), some (.long a7), none, some (.int 0), some (.int 0), none]) dX10_ends2_2_166 (Nat.le_of_ble_eq_true rfl) rfl ?_
      refine Ex.wkl (lo' := [some (.ref w.1), none, none, some (.int a3), some (.int a4), some (.int a5), some (.int a6), some (.long a7), none, some (.int 0), some (.int 0), none]) ⟨rfl, rfl, rfl, rfl, rfl, rfl, rfl, rfl, trivial⟩ ?_
      exact hT h0 h hW hF
    · have hT := hT.2 c
      refine x_iload dX10_ends2_2_152 rfl ?_
      refine x_lload dX10_ends2_2_154 rfl ?_
      refine x_l2i dX10_ends2_2_156 ?_
      refine x_isub dX10_ends2_2_157 ?_
      refine x_goto (tgt := 162) dX10_ends2_2_158 rfl ?_
      obtain ⟨y1, ey1⟩ : ∃ z : Int32, z = (a6 - a7.toInt32) := ⟨_, rfl⟩
      have hT := hT y1 ey1
      refine x_istore (lo' := [some (.ref w.1), some (.int a1), some (.int a2), some (.int a3), some (.int a4), some (.int a5), some (.int a6), some (.long a7), none, some (.int y1), none, none]) dX10_ends2_2_162 (Nat.le_of_ble_eq_true rfl) (by rw [ey1]; rfl) ?_
      refine x_iload dX10_ends2_2_164 rfl ?_
      refine x_istore (lo' := [some (.ref w.1), some (.int a1), some (.int a2), some (.int a3), some (.int a4), some (.int a5), some (.int a6), some (.long a7), none, some (.int y1), some (.int y1), none]) dX10_ends2_2_166 (Nat.le_of_ble_eq_true rfl) rfl ?_
      refine Ex.wkl (lo' := [some (.ref w.1), none, none, some (.int a3), some (.int a4), some (.int a5), some (.int a6), some (.long a7), none, some (.int y1), some (.int y1), none]) ⟨rfl, rfl, rfl, rfl, rfl, rfl, rfl, rfl, trivial⟩ ?_
      exact hT h0 h hW hF
  · have hT := hT.2 c
    refine x_lload dX10_ends2_2_78 rfl ?_
    refine x_iload dX10_ends2_2_80 rfl ?_
    refine x_i2l dX10_ends2_2_82 ?_
    refine x_lcmp dX10_ends2_2_83 ?_
    refine x_if_le (tgt := 92) dX10_ends2_2_84 rfl (fun c => ?_) (fun c => ?_)
    · have hT := hT.1 c
      refine x_lload dX10_ends2_2_92 rfl ?_
      refine x_l2i dX10_ends2_2_94 ?_
      obtain ⟨y2, ey2⟩ : ∃ z : Int32, z = a7.toInt32 := ⟨_, rfl⟩
      have hT := hT y2 ey2
      refine x_istore (lo' := [some (.ref w.1), some (.int a1), some (.int a2), some (.int a3), some (.int a4), some (.int a5), some (.int a6), some (.long a7), none, some (.int y2), none, none]) dX10_ends2_2_95 (Nat.le_of_ble_eq_true rfl) (by rw [ey2]; rfl) ?_
      refine x_iload_n dX10_ends2_2_97 rfl rfl ?_
      refine x_if_ge (tgt := 105) dX10_ends2_2_98 rfl (fun c => ?_) (fun c => ?_)
      · have hT := hT.1 c
        refine x_iload dX10_ends2_2_105 rfl ?_
        refine x_istore (lo' := [some (.ref w.1), some (.int a1), some (.int a2), some (.int a3), some (.int a4), some (.int a5), some (.int a6), some (.long a7), none, some (.int y2), some (.int y2), none]) dX10_ends2_2_107 (Nat.le_of_ble_eq_true rfl) rfl ?_
        refine x_iload dX10_ends2_2_109 rfl ?_
        refine x_istore (lo' := [some (.ref w.1), some (.int a1), some (.int a2), some (.int a3), some (.int a4), some (.int a5), some (.int a6), some (.long a7), none, some (.int y2), some (.int y2), some (.int y2)]) dX10_ends2_2_111 (Nat.le_of_ble_eq_true rfl) rfl ?_
        refine Ex.wkl (lo' := [some (.ref w.1), none, none, some (.int a3), some (.int a4), some (.int a5), some (.int a6), none, none, some (.int y2), some (.int y2), some (.int y2)]) ⟨rfl, rfl, rfl, rfl, rfl, rfl, rfl, rfl, trivial⟩ ?_
        exact hT h0 h hW hF
      · have hT := hT.2 c
        refine x_iconst (v := 0) dX10_ends2_2_101 rfl ?_
        refine x_goto (tgt := 107) dX10_ends2_2_102 rfl ?_
        refine x_istore (lo' := [some (.ref w.1), some (.int a1), some (.int a2), some (.int a3), some (.int a4), some (.int a5), some (.int a6), some (.long a7), none, some (.int y2), some (.int 0), none]) dX10_ends2_2_107 (Nat.le_of_ble_eq_true rfl) rfl ?_
        refine x_iload dX10_ends2_2_109 rfl ?_
        refine x_istore (lo' := [some (.ref w.1), some (.int a1), some (.int a2), some (.int a3), some (.int a4), some (.int a5), some (.int a6), some (.long a7), none, some (.int y2), some (.int 0), some (.int 0)]) dX10_ends2_2_111 (Nat.le_of_ble_eq_true rfl) rfl ?_
        refine Ex.wkl (lo' := [some (.ref w.1), none, none, some (.int a3), some (.int a4), some (.int a5), some (.int a6), none, none, some (.int y2), some (.int 0), some (.int 0)]) ⟨rfl, rfl, rfl, rfl, rfl, rfl, rfl, rfl, trivial⟩ ?_
        exact hT h0 h hW hF
    · have hT := hT.2 c
      refine x_iload dX10_ends2_2_87 rfl ?_
      refine x_goto (tgt := 95) dX10_ends2_2_89 rfl ?_
      refine x_istore (lo' := [some (.ref w.1), some (.int a1), some (.int a2), some (.int a3), some (.int a4), some (.int a5), some (.int a6), some (.long a7), none, some (.int a6), none, none]) dX10_ends2_2_95 (Nat.le_of_ble_eq_true rfl) rfl ?_
      refine x_iload_n dX10_ends2_2_97 rfl rfl ?_
      refine x_if_ge (tgt := 105) dX10_ends2_2_98 rfl (fun c => ?_) (fun c => ?_)
      · have hT := hT.1 c
        refine x_iload dX10_ends2_2_105 rfl ?_
        refine x_istore (lo' := [some (.ref w.1), some (.int a1), some (.int a2), some (.int a3), some (.int a4), some (.int a5), some (.int a6), some (.long a7), none, some (.int a6), some (.int a6), none]) dX10_ends2_2_107 (Nat.le_of_ble_eq_true rfl) rfl ?_
        refine x_iload dX10_ends2_2_109 rfl ?_
        refine x_istore (lo' := [some (.ref w.1), some (.int a1), some (.int a2), some (.int a3), some (.int a4), some (.int a5), some (.int a6), some (.long a7), none, some (.int a6), some (.int a6), some (.int a6)]) dX10_ends2_2_111 (Nat.le_of_ble_eq_true rfl) rfl ?_
        refine Ex.wkl (lo' := [some (.ref w.1), none, none, some (.int a3), some (.int a4), some (.int a5), some (.int a6), none, none, some (.int a6), some (.int a6), some (.int a6)]) ⟨rfl, rfl, rfl, rfl, rfl, rfl, rfl, rfl, trivial⟩ ?_
        exact hT h0 h hW hF
      · have hT := hT.2 c
        refine x_iconst (v := 0) dX10_ends2_2_101 rfl ?_
        refine x_goto (tgt := 107) dX10_ends2_2_102 rfl ?_
        refine x_istore (lo' := [some (.ref w.1), some (.int a1), some (.int a2), some (.int a3), some (.int a4), some (.int a5), some (.int a6), some (.long a7), none, some (.int a6), some (.int 0), none]) dX10_ends2_2_107 (Nat.le_of_ble_eq_true rfl) rfl ?_
        refine x_iload dX10_ends2_2_109 rfl ?_
        refine x_istore (lo' := [some (.ref w.1), some (.int a1), some (.int a2), some (.int a3), some (.int a4), some (.int a5), some (.int a6), some (.long a7), none, some (.int a6), some (.int 0), some (.int 0)]) dX10_ends2_2_111 (Nat.le_of_ble_eq_true rfl) rfl ?_
        refine Ex.wkl (lo' := [some (.ref w.1), none, none, some (.int a3), some (.int a4), some (.int a5), some (.int a6), none, none, some (.int a6), some (.int 0), some (.int 0)]) ⟨rfl, rfl, rfl, rfl, rfl, rfl, rfl, rfl, trivial⟩ ?_
        exact hT h0 h hW hF
set_option maxHeartbeats 16000000 in
theorem vX10_ends2_2_168 {l : Launch} {E : EN} {w : MO} {d : Nat} {s : MS} {Q : Option Value → MS → Prop} {a3 : Int32} {a4 : Int32} {a5 : Int32} {a6 : Int32} {a7 : Int64} {a9 : Int32} {a10 : Int32} (hT : (((a9 + a7.toInt32) ≤ a10 → (EvM l E w d MX10_builds [.ref w.1, .int a5, .int a4] s (fun r s1 => r = none ∧ Q none s1))) ∧ (¬ (a9 + a7.toInt32) ≤ a10 → ((a10 < 0 → ((¬ a5 = 2 → ((¬ a5 = 2 → (EvM l E w d MX10_push [.ref w.1, .int 0, .int 0] s (fun r s2 => r = none ∧ ExM l E w (d + 1) MX10_ends2_2 168 [some (.ref w.1), none, none, some (.int a3), some (.int a4), some (.int a5), some (.int a6), some (.long a7), none, some (.int a9), some (.int (a10 + 1)), none] [] s2 Q))) ∧ (a5 = 2 → (EvM l E w d MX10_push [.ref w.1, .int 0, .int 154240] s (fun r s3 => r = none ∧ ExM l E w (d + 1) MX10_ends2_2 168 [some (.ref w.1), none, none, some (.int a3), some (.int a4), some (.int a5), some (.int a6), some (.long a7), none, some (.int a9), some (.int (a10 + 1)), none] [] s3 Q))))) ∧ (a5 = 2 → ((¬ a5 = 2 → (EvM l E w d MX10_push [.ref w.1, .int 1, .int 0] s (fun r s4 => r = none ∧ ExM l E w (d + 1) MX10_ends2_2 168 [some (.ref w.1), none, none, some (.int a3), some (.int a4), some (.int a5), some (.int a6), some (.long a7), none, some (.int a9), some (.int (a10 + 1)), none] [] s4 Q))) ∧ (a5 = 2 → (EvM l E w d MX10_push [.ref w.1, .int 1, .int 154240] s (fun r s5 => r = none ∧ ExM l E w (d + 1) MX10_ends2_2 168 [some (.ref w.1), none, none, some (.int a3), some (.int a4), some (.int a5), some (.int a6), some (.long a7), none, some (.int a9), some (.int (a10 + 1)), none] [] s5 Q))))))) ∧ (¬ a10 < 0 → ((a6 ≤ a10 → ((¬ a5 = 2 → ((¬ a5 = 2 → (EvM l E w d MX10_push [.ref w.1, .int 0, .int 0] s (fun r s6 => r = none ∧ ExM l E w (d + 1) MX10_ends2_2 168 [some (.ref w.1), none, none, some (.int a3), some (.int a4), some (.int a5), some (.int a6), some (.long a7), none, some (.int a9), some (.int (a10 + 1)), none] [] s6 Q))) ∧ (a5 = 2 → (EvM l E w d MX10_push [.ref w.1, .int 0, .int 154240] s (fun r s7 => r = none ∧ ExM l E w (d + 1) MX10_ends2_2 168 [some (.ref w.1), none, none, some (.int a3), some (.int a4), some (.int a5), some (.int a6), some (.long a7), none, some (.int a9), some (.int (a10 + 1)), none] [] s7 Q))))) ∧ (a5 = 2 → ((¬ a5 = 2 → (EvM l E w d MX10_push [.ref w.1, .int 1, .int 0] s (fun r s8 => r = none ∧ ExM l E w (d + 1) MX10_ends2_2 168 [some (.ref w.1), none, none, some (.int a3), some (.int a4), some (.int a5), some (.int a6), some (.long a7), none, some (.int a9), some (.int (a10 + 1)), none] [] s8 Q))) ∧ (a5 = 2 → (EvM l E w d MX10_push [.ref w.1, .int 1, .int 154240] s (fun r s9 => r = none ∧ ExM l E w (d + 1) MX10_ends2_2 168 [some (.ref w.1), none, none, some (.int a3), some (.int a4), some (.int a5), some (.int a6), some (.long a7), none, some (.int a9), some (.int (a10 + 1)), none] [] s9 Q))))))) ∧ (¬ a6 ≤ a10 → (EvM l E w d MX10_element [.ref w.1, .int a3, .int a10] s (fun r s10 => r = none ∧ ExM l E w (d + 1) MX10_ends2_2 168 [some (.ref w.1), none, none, some (.int a3), some (.int a4), some (.int a5), some (.int a6), some (.long a7), none, some (.int a9), some (.int (a10 + 1)), none] [] s10 Q))))))))) : ExM l E w (d + 1) MX10_ends2_2 168 [some (.ref w.1), none, none, some (.int a3), some (.int a4), some (.int a5), some (.int a6), some (.long a7), none, some (.int a9), some (.int a10), none] [] s Q := by
  intro h0 h hW hF
  refine x_iload dX10_ends2_2_168 rfl ?_
  refine x_iload dX10_ends2_2_170 rfl ?_
  refine x_lload dX10_ends2_2_172 rfl ?_
  refine x_l2i dX10_ends2_2_174 ?_
  refine x_iadd dX10_ends2_2_175 ?_
  refine x_icmp_ge (tgt := 235) dX10_ends2_2_176 rfl (fun c => ?_) (fun c => ?_)
  · have hT := hT.1 c
    refine x_aload_n dX10_ends2_2_235 rfl rfl rfl ?_
    refine x_iload dX10_ends2_2_236 rfl ?_
    refine x_iload dX10_ends2_2_238 rfl ?_
    refine m_inv (vs := [.int a5, .int a4]) dX10_ends2_2_240 oX10_builds q2739 q2737 qs108 rfl rfl (Nat.le_of_ble_eq_true rfl) rfl hW hF hT ?_
    rintro _ s1 ⟨rfl, hT⟩ h hW hF
    exact x_vret dX10_ends2_2_243 rfl ⟨_, _, rfl, hW, hF, hT⟩
  · have hT := hT.2 c
    refine x_iload dX10_ends2_2_179 rfl ?_
    refine x_if_lt (tgt := 201) dX10_ends2_2_181 rfl (fun c => ?_) (fun c => ?_)
    · have hT := hT.1 c
      refine x_aload_n dX10_ends2_2_201 rfl rfl rfl ?_
      refine x_iload dX10_ends2_2_202 rfl ?_
      refine x_iconst (v := 2) dX10_ends2_2_204 rfl ?_
      refine x_icmp_ne (tgt := 212) dX10_ends2_2_205 rfl (fun c => ?_) (fun c => ?_)
      · have hT := hT.1 c
        refine x_iconst (v := 0) dX10_ends2_2_212 rfl ?_
        refine x_iload dX10_ends2_2_213 rfl ?_
        refine x_iconst (v := 2) dX10_ends2_2_215 rfl ?_
        refine x_icmp_ne (tgt := 225) dX10_ends2_2_216 rfl (fun c => ?_) (fun c => ?_)
        · have hT := hT.1 c
          refine x_iconst (v := 0) dX10_ends2_2_225 rfl ?_
          refine m_inv (vs := [.int 0, .int 0]) dX10_ends2_2_226 oX10_push q2708 q2706 qs101 rfl rfl (Nat.le_of_ble_eq_true rfl) rfl hW hF hT ?_
          rintro _ s2 ⟨rfl, hT⟩ h hW hF
          refine x_iinc (lo' := [some (.ref w.1), none, none, some (.int a3), some (.int a4), some (.int a5), some (.int a6), some (.long a7), none, some (.int a9), some (.int (a10 + 1)), none]) dX10_ends2_2_229 rfl (show _ = (a10 + 1) from rfl) rfl ?_
          refine x_goto (tgt := 168) dX10_ends2_2_232 rfl ?_
          exact hT h0 h hW hF
        · have hT := hT.2 c
          refine x_ldcw dX10_ends2_2_219 q2688 ?_
          refine x_goto (tgt := 226) dX10_ends2_2_222 rfl ?_
          refine m_inv (vs := [.int 0, .int 154240]) dX10_ends2_2_226 oX10_push q2708 q2706 qs101 rfl rfl (Nat.le_of_ble_eq_true rfl) rfl hW hF hT ?_
          rintro _ s3 ⟨rfl, hT⟩ h hW hF
          refine x_iinc (lo' := [some (.ref w.1), none, none, some (.int a3), some (.int a4), some (.int a5), some (.int a6), some (.long a7), none, some (.int a9), some (.int (a10 + 1)), none]) dX10_ends2_2_229 rfl (show _ = (a10 + 1) from rfl) rfl ?_
          refine x_goto (tgt := 168) dX10_ends2_2_232 rfl ?_
          exact hT h0 h hW hF
      · have hT := hT.2 c
        refine x_iconst (v := 1) dX10_ends2_2_208 rfl ?_
        refine x_goto (tgt := 213) dX10_ends2_2_209 rfl ?_
        refine x_iload dX10_ends2_2_213 rfl ?_
        refine x_iconst (v := 2) dX10_ends2_2_215 rfl ?_
        refine x_icmp_ne (tgt := 225) dX10_ends2_2_216 rfl (fun c => ?_) (fun c => ?_)
        · have hT := hT.1 c
          refine x_iconst (v := 0) dX10_ends2_2_225 rfl ?_
          refine m_inv (vs := [.int 1, .int 0]) dX10_ends2_2_226 oX10_push q2708 q2706 qs101 rfl rfl (Nat.le_of_ble_eq_true rfl) rfl hW hF hT ?_
          rintro _ s4 ⟨rfl, hT⟩ h hW hF
          refine x_iinc (lo' := [some (.ref w.1), none, none, some (.int a3), some (.int a4), some (.int a5), some (.int a6), some (.long a7), none, some (.int a9), some (.int (a10 + 1)), none]) dX10_ends2_2_229 rfl (show _ = (a10 + 1) from rfl) rfl ?_
          refine x_goto (tgt := 168) dX10_ends2_2_232 rfl ?_
          exact hT h0 h hW hF
        · have hT := hT.2 c
          refine x_ldcw dX10_ends2_2_219 q2688 ?_
          refine x_goto (tgt := 226) dX10_ends2_2_222 rfl ?_
          refine m_inv (vs := [.int 1, .int 154240]) dX10_ends2_2_226 oX10_push q2708 q2706 qs101 rfl rfl (Nat.le_of_ble_eq_true rfl) rfl hW hF hT ?_
          rintro _ s5 ⟨rfl, hT⟩ h hW hF
          refine x_iinc (lo' := [some (.ref w.1), none, none, some (.int a3), some (.int a4), some (.int a5), some (.int a6), some (.long a7), none, some (.int a9), some (.int (a10 + 1)), none]) dX10_ends2_2_229 rfl (show _ = (a10 + 1) from rfl) rfl ?_
          refine x_goto (tgt := 168) dX10_ends2_2_232 rfl ?_
          exact hT h0 h hW hF
    · have hT := hT.2 c
      refine x_iload dX10_ends2_2_184 rfl ?_
      refine x_iload dX10_ends2_2_186 rfl ?_
      refine x_icmp_ge (tgt := 201) dX10_ends2_2_188 rfl (fun c => ?_) (fun c => ?_)
      · have hT := hT.1 c
        refine x_aload_n dX10_ends2_2_201 rfl rfl rfl ?_
        refine x_iload dX10_ends2_2_202 rfl ?_
        refine x_iconst (v := 2) dX10_ends2_2_204 rfl ?_
        refine x_icmp_ne (tgt := 212) dX10_ends2_2_205 rfl (fun c => ?_) (fun c => ?_)
        · have hT := hT.1 c
          refine x_iconst (v := 0) dX10_ends2_2_212 rfl ?_
          refine x_iload dX10_ends2_2_213 rfl ?_
          refine x_iconst (v := 2) dX10_ends2_2_215 rfl ?_
          refine x_icmp_ne (tgt := 225) dX10_ends2_2_216 rfl (fun c => ?_) (fun c => ?_)
          · have hT := hT.1 c
            refine x_iconst (v := 0) dX10_ends2_2_225 rfl ?_
            refine m_inv (vs := [.int 0, .int 0]) dX10_ends2_2_226 oX10_push q2708 q2706 qs101 rfl rfl (Nat.le_of_ble_eq_true rfl) rfl hW hF hT ?_
            rintro _ s6 ⟨rfl, hT⟩ h hW hF
            refine x_iinc (lo' := [some (.ref w.1), none, none, some (.int a3), some (.int a4), some (.int a5), some (.int a6), some (.long a7), none, some (.int a9), some (.int (a10 + 1)), none]) dX10_ends2_2_229 rfl (show _ = (a10 + 1) from rfl) rfl ?_
            refine x_goto (tgt := 168) dX10_ends2_2_232 rfl ?_
            exact hT h0 h hW hF
          · have hT := hT.2 c
            refine x_ldcw dX10_ends2_2_219 q2688 ?_
            refine x_goto (tgt := 226) dX10_ends2_2_222 rfl ?_
            refine m_inv (vs := [.int 0, .int 154240]) dX10_ends2_2_226 oX10_push q2708 q2706 qs101 rfl rfl (Nat.le_of_ble_eq_true rfl) rfl hW hF hT ?_
            rintro _ s7 ⟨rfl, hT⟩ h hW hF
            refine x_iinc (lo' := [some (.ref w.1), none, none, some (.int a3), some (.int a4), some (.int a5), some (.int a6), some (.long a7), none, some (.int a9), some (.int (a10 + 1)), none]) dX10_ends2_2_229 rfl (show _ = (a10 + 1) from rfl) rfl ?_
            refine x_goto (tgt := 168) dX10_ends2_2_232 rfl ?_
            exact hT h0 h hW hF
        · have hT := hT.2 c
          refine x_iconst (v := 1) dX10_ends2_2_208 rfl ?_
          refine x_goto (tgt := 213) dX10_ends2_2_209 rfl ?_
          refine x_iload dX10_ends2_2_213 rfl ?_
          refine x_iconst (v := 2) dX10_ends2_2_215 rfl ?_
          refine x_icmp_ne (tgt := 225) dX10_ends2_2_216 rfl (fun c => ?_) (fun c => ?_)
          · have hT := hT.1 c
            refine x_iconst (v := 0) dX10_ends2_2_225 rfl ?_
            refine m_inv (vs := [.int 1, .int 0]) dX10_ends2_2_226 oX10_push q2708 q2706 qs101 rfl rfl (Nat.le_of_ble_eq_true rfl) rfl hW hF hT ?_
            rintro _ s8 ⟨rfl, hT⟩ h hW hF
            refine x_iinc (lo' := [some (.ref w.1), none, none, some (.int a3), some (.int a4), some (.int a5), some (.int a6), some (.long a7), none, some (.int a9), some (.int (a10 + 1)), none]) dX10_ends2_2_229 rfl (show _ = (a10 + 1) from rfl) rfl ?_
            refine x_goto (tgt := 168) dX10_ends2_2_232 rfl ?_
            exact hT h0 h hW hF
          · have hT := hT.2 c
            refine x_ldcw dX10_ends2_2_219 q2688 ?_
            refine x_goto (tgt := 226) dX10_ends2_2_222 rfl ?_
            refine m_inv (vs := [.int 1, .int 154240]) dX10_ends2_2_226 oX10_push q2708 q2706 qs101 rfl rfl (Nat.le_of_ble_eq_true rfl) rfl hW hF hT ?_
            rintro _ s9 ⟨rfl, hT⟩ h hW hF
            refine x_iinc (lo' := [some (.ref w.1), none, none, some (.int a3), some (.int a4), some (.int a5), some (.int a6), some (.long a7), none, some (.int a9), some (.int (a10 + 1)), none]) dX10_ends2_2_229 rfl (show _ = (a10 + 1) from rfl) rfl ?_
            refine x_goto (tgt := 168) dX10_ends2_2_232 rfl ?_
            exact hT h0 h hW hF
      · have hT := hT.2 c
        refine x_aload_n dX10_ends2_2_191 rfl rfl rfl ?_
        refine x_iload_n dX10_ends2_2_192 rfl rfl ?_
        refine x_iload dX10_ends2_2_193 rfl ?_
        refine m_inv (vs := [.int a3, .int a10]) dX10_ends2_2_195 oX10_element q2798 q2796 qs122 rfl rfl (Nat.le_of_ble_eq_true rfl) rfl hW hF hT ?_
        rintro _ s10 ⟨rfl, hT⟩ h hW hF
        refine x_goto (tgt := 229) dX10_ends2_2_198 rfl ?_
        refine x_iinc (lo' := [some (.ref w.1), none, none, some (.int a3), some (.int a4), some (.int a5), some (.int a6), some (.long a7), none, some (.int a9), some (.int (a10 + 1)), none]) dX10_ends2_2_229 rfl (show _ = (a10 + 1) from rfl) rfl ?_
        refine x_goto (tgt := 168) dX10_ends2_2_232 rfl ?_
        exact hT h0 h hW hF
theorem vX10_ends2_2_113 {l : Launch} {E : EN} {w : MO} {d : Nat} {s : MS} {Q : Option Value → MS → Prop} {a3 : Int32} {a4 : Int32} {a5 : Int32} {a6 : Int32} {a9 : Int32} {a10 : Int32} {a11 : Int32} (hT : ((((a10 + a6) - a9) ≤ a11 → (EvM l E w d MX10_builds [.ref w.1, .int a5, .int a4] s (fun r s1 => r = none ∧ Q none s1))) ∧ (¬ ((a10 + a6) - a9) ≤ a11 → (EvM l E w d MX10_element [.ref w.1, .int a3, .int a11] s (fun r s2 => r = none ∧ ExM l E w (d + 1) MX10_ends2_2 113 [some (.ref w.1), none, none, some (.int a3), some (.int a4), some (.int a5), some (.int a6), none, none, some (.int a9), some (.int a10), some (.int (a11 + 1))] [] s2 Q))))) : ExM l E w (d + 1) MX10_ends2_2 113 [some (.ref w.1), none, none, some (.int a3), some (.int a4), some (.int a5), some (.int a6), none, none, some (.int a9), some (.int a10), some (.int a11)] [] s Q := by
  intro h0 h hW hF
  refine x_iload dX10_ends2_2_113 rfl ?_
  refine x_iload dX10_ends2_2_115 rfl ?_
  refine x_iload dX10_ends2_2_117 rfl ?_
  refine x_iadd dX10_ends2_2_119 ?_
  refine x_iload dX10_ends2_2_120 rfl ?_
  refine x_isub dX10_ends2_2_122 ?_
  refine x_icmp_ge (tgt := 139) dX10_ends2_2_123 rfl (fun c => ?_) (fun c => ?_)
  · have hT := hT.1 c
    refine x_aload_n dX10_ends2_2_139 rfl rfl rfl ?_
    refine x_iload dX10_ends2_2_140 rfl ?_
    refine x_iload dX10_ends2_2_142 rfl ?_
    refine m_inv (vs := [.int a5, .int a4]) dX10_ends2_2_144 oX10_builds q2739 q2737 qs108 rfl rfl (Nat.le_of_ble_eq_true rfl) rfl hW hF hT ?_
    rintro _ s1 ⟨rfl, hT⟩ h hW hF
    exact x_vret dX10_ends2_2_147 rfl ⟨_, _, rfl, hW, hF, hT⟩
  · have hT := hT.2 c
    refine x_aload_n dX10_ends2_2_126 rfl rfl rfl ?_
    refine x_iload_n dX10_ends2_2_127 rfl rfl ?_
    refine x_iload dX10_ends2_2_128 rfl ?_
    refine m_inv (vs := [.int a3, .int a11]) dX10_ends2_2_130 oX10_element q2798 q2796 qs122 rfl rfl (Nat.le_of_ble_eq_true rfl) rfl hW hF hT ?_
    rintro _ s2 ⟨rfl, hT⟩ h hW hF
    refine x_iinc (lo' := [some (.ref w.1), none, none, some (.int a3), some (.int a4), some (.int a5), some (.int a6), none, none, some (.int a9), some (.int a10), some (.int (a11 + 1))]) dX10_ends2_2_133 rfl (show _ = (a11 + 1) from rfl) rfl ?_
    refine x_goto (tgt := 113) dX10_ends2_2_136 rfl ?_
    exact hT h0 h hW hF
theorem vX10_cut_0 {l : Launch} {E : EN} {w : MO} {d : Nat} {s : MS} {Q : Option Value → MS → Prop} {x1 : Int32} {x2 : Int32} {x3 : Int32} (hT : (EvM l E w d MX10_sizeAt [.ref w.1, .int x2] s (fun r s1 => ∃ v2 : Int32, r = some (.int v2) ∧ ExM l E w (d + 1) MX10_cut 16 [some (.ref w.1), some (.int x1), some (.int x2), some (.int x3), some (.int v2), some (.long 0), none, some (.int 0), some (.int 0), none, none, none] [] s1 Q))) : ExM l E w (d + 1) MX10_cut 0 [some (.ref w.1), some (.int x1), some (.int x2), some (.int x3), none, none, none, none, none, none, none, none] [] s Q := by
  intro h0 h hW hF
  refine x_aload_n dX10_cut_0 rfl rfl rfl ?_
  refine x_iload_n dX10_cut_1 rfl rfl ?_
  refine m_inv (vs := [.int x2]) dX10_cut_2 oX10_sizeAt q2735 q2733 qs107 rfl rfl (Nat.le_of_ble_eq_true rfl) rfl hW hF hT ?_
  rintro _ s1 ⟨v2, rfl, hT⟩ h hW hF
  refine x_istore (lo' := [some (.ref w.1), some (.int x1), some (.int x2), some (.int x3), some (.int v2), none, none, none, none, none, none, none]) dX10_cut_5 (Nat.le_of_ble_eq_true rfl) rfl ?_
  refine x_lconst (v := 0) dX10_cut_7 rfl ?_
  refine x_lstore (lo' := [some (.ref w.1), some (.int x1), some (.int x2), some (.int x3), some (.int v2), some (.long 0), none, none, none, none, none, none]) dX10_cut_8 (Nat.le_of_ble_eq_true rfl) rfl ?_
  refine x_iconst (v := 0) dX10_cut_10 rfl ?_
  refine x_istore (lo' := [some (.ref w.1), some (.int x1), some (.int x2), some (.int x3), some (.int v2), some (.long 0), none, some (.int 0), none, none, none, none]) dX10_cut_11 (Nat.le_of_ble_eq_true rfl) rfl ?_
  refine x_iconst (v := 0) dX10_cut_13 rfl ?_
  refine x_istore (lo' := [some (.ref w.1), some (.int x1), some (.int x2), some (.int x3), some (.int v2), some (.long 0), none, some (.int 0), some (.int 0), none, none, none]) dX10_cut_14 (Nat.le_of_ble_eq_true rfl) rfl ?_
  exact hT h0 h hW hF
theorem eX10_cut {l : Launch} {E : EN} {w : MO} {d : Nat} {s : MS} {Q : Option Value → MS → Prop} {x1 : Int32} {x2 : Int32} {x3 : Int32} (hst : l.stackTraces = false) (hT : (EvM l E w d MX10_sizeAt [.ref w.1, .int x2] s (fun r s1 => ∃ v2 : Int32, r = some (.int v2) ∧ ExM l E w (d + 1) MX10_cut 16 [some (.ref w.1), some (.int x1), some (.int x2), some (.int x3), some (.int v2), some (.long 0), none, some (.int 0), some (.int 0), none, none, none] [] s1 Q))) : EvM l E w (d + 1) MX10_cut [.ref w.1, .int x1, .int x2, .int x3] s Q :=
  EvM.of hst (by decide) (Nat.le_of_ble_eq_true rfl) (vX10_cut_0 hT)
set_option maxHeartbeats 16000000 in
theorem vX10_cut_16 {l : Launch} {E : EN} {w : MO} {d : Nat} {s : MS} {Q : Option Value → MS → Prop} {a1 : Int32} {a2 : Int32} {a3 : Int32} {a4 : Int32} {a5 : Int64} {a7 : Int32} {a8 : Int32} (hT : ((a4 ≤ a8 → ((20 < a4 → ((a4 ≤ 20 → ((a7 = 0 → (EvM l E w d MX10_trouble [.ref w.1, .int 4, .int (s.1 127)] s (fun r s1 => r = none ∧ Q none s1))) ∧ (¬ a7 = 0 → (EvM l E w d MX10_trouble [.ref w.1, .int 1, .int (s.1 127)] s (fun r s2 => r = none ∧ Q none s2))))) ∧ (¬ a4 ≤ 20 → (EvM l E w d MX10_trouble [.ref w.1, .int 2, .int (s.1 127)] s (fun r s3 => r = none ∧ Q none s3))))) ∧ (¬ 20 < a4 → ((¬ a7 = 0 → ((a4 ≤ 20 → ((a7 = 0 → (EvM l E w d MX10_trouble [.ref w.1, .int 4, .int (s.1 127)] s (fun r s4 => r = none ∧ Q none s4))) ∧ (¬ a7 = 0 → (EvM l E w d MX10_trouble [.ref w.1, .int 1, .int (s.1 127)] s (fun r s5 => r = none ∧ Q none s5))))) ∧ (¬ a4 ≤ 20 → (EvM l E w d MX10_trouble [.ref w.1, .int 2, .int (s.1 127)] s (fun r s6 => r = none ∧ Q none s6))))) ∧ (a7 = 0 → (EvM l E w d MX10_sizeAt [.ref w.1, .int a1] s (fun r s7 => ∃ v8 : Int32, r = some (.int v8) ∧ (((lg_cmp a5 v8.toInt64) = 0 → ExM l E w (d + 1) MX10_cut 137 [some (.ref w.1), some (.int a1), some (.int a2), some (.int a3), some (.int a4), none, none, none, some (.int 0), some (.int 0), none, none] [] (sI s7 108 a3) Q) ∧ (¬ (lg_cmp a5 v8.toInt64) = 0 → ((a4 ≤ 20 → ((a7 = 0 → (EvM l E w d MX10_trouble [.ref w.1, .int 4, .int (s7.1 127)] s7 (fun r s9 => r = none ∧ Q none s9))) ∧ (¬ a7 = 0 → (EvM l E w d MX10_trouble [.ref w.1, .int 1, .int (s7.1 127)] s7 (fun r s10 => r = none ∧ Q none s10))))) ∧ (¬ a4 ≤ 20 → (EvM l E w d MX10_trouble [.ref w.1, .int 2, .int (s7.1 127)] s7 (fun r s11 => r = none ∧ Q none s11))))))))))))) ∧ (¬ a4 ≤ a8 → (inB ((a2 + 2) + a8) 166300 ∧ (∀ y12 : Int64, y12 = (a5 + (s.2.2.1 104 ((a2 + 2) + a8).toNatClampNeg).toInt64) → ((¬ a7 = 0 → ExM l E w (d + 1) MX10_cut 16 [some (.ref w.1), some (.int a1), some (.int a2), some (.int a3), some (.int a4), some (.long y12), none, some (.int 1), some (.int (a8 + 1)), none, none, none] [] s Q) ∧ (a7 = 0 → (inB ((a2 + 2) + a8) 166300 ∧ ((0 ≤ (s.2.2.1 104 ((a2 + 2) + a8).toNatClampNeg) → ExM l E w (d + 1) MX10_cut 16 [some (.ref w.1), some (.int a1), some (.int a2), some (.int a3), some (.int a4), some (.long y12), none, some (.int 0), some (.int (a8 + 1)), none, none, none] [] s Q) ∧ (¬ 0 ≤ (s.2.2.1 104 ((a2 + 2) + a8).toNatClampNeg) → ExM l E w (d + 1) MX10_cut 16 [some (.ref w.1), some (.int a1), some (.int a2), some (.int a3), some (.int a4), some (.long y12), none, some (.int 1), some (.int (a8 + 1)), none, none, none] [] s Q)))))))))) : ExM l E w (d + 1) MX10_cut 16 [some (.ref w.1), some (.int a1), some (.int a2), some (.int a3), some (.int a4), some (.long a5), none, some (.int a7), some (.int a8), none, none, none] [] s Q := by
  intro h0 h hW hF
  refine x_iload dX10_cut_16 rfl ?_
  refine x_iload dX10_cut_18 rfl ?_
  refine x_icmp_ge (tgt := 72) dX10_cut_20 rfl (fun c => ?_) (fun c => ?_)
  · have hT := hT.1 c
    refine x_iload dX10_cut_72 rfl ?_
    refine x_bipush (v := 20) dX10_cut_74 rfl ?_
    refine x_icmp_gt (tgt := 96) dX10_cut_76 rfl (fun c => ?_) (fun c => ?_)
    · have hT := hT.1 c
      refine x_aload_n dX10_cut_96 rfl rfl rfl ?_
      refine x_iload dX10_cut_97 rfl ?_
      refine x_bipush (v := 20) dX10_cut_99 rfl ?_
      refine x_icmp_le (tgt := 108) dX10_cut_101 rfl (fun c => ?_) (fun c => ?_)
      · have hT := hT.1 c
        refine x_iload dX10_cut_108 rfl ?_
        refine x_if_eq (tgt := 117) dX10_cut_110 rfl (fun c => ?_) (fun c => ?_)
        · have hT := hT.1 c
          refine x_iconst (v := 4) dX10_cut_117 rfl ?_
          refine x_aload_n dX10_cut_118 rfl rfl rfl ?_
          refine m_geti (v := (s.1 127)) dX10_cut_119 f_TallySlateModel_507 (by decide) rfl hW rfl ?_
          refine m_inv (vs := [.int 4, .int (s.1 127)]) dX10_cut_122 oX10_trouble q2696 q2694 qs98 rfl rfl (Nat.le_of_ble_eq_true rfl) rfl hW hF hT ?_
          rintro _ s1 ⟨rfl, hT⟩ h hW hF
          exact x_vret dX10_cut_125 rfl ⟨_, _, rfl, hW, hF, hT⟩
        · have hT := hT.2 c
          refine x_iconst (v := 1) dX10_cut_113 rfl ?_
          refine x_goto (tgt := 118) dX10_cut_114 rfl ?_
          refine x_aload_n dX10_cut_118 rfl rfl rfl ?_
          refine m_geti (v := (s.1 127)) dX10_cut_119 f_TallySlateModel_507 (by decide) rfl hW rfl ?_
          refine m_inv (vs := [.int 1, .int (s.1 127)]) dX10_cut_122 oX10_trouble q2696 q2694 qs98 rfl rfl (Nat.le_of_ble_eq_true rfl) rfl hW hF hT ?_
          rintro _ s2 ⟨rfl, hT⟩ h hW hF
          exact x_vret dX10_cut_125 rfl ⟨_, _, rfl, hW, hF, hT⟩
      · have hT := hT.2 c
        refine x_iconst (v := 2) dX10_cut_104 rfl ?_
        refine x_goto (tgt := 118) dX10_cut_105 rfl ?_
        refine x_aload_n dX10_cut_118 rfl rfl rfl ?_
        refine m_geti (v := (s.1 127)) dX10_cut_119 f_TallySlateModel_507 (by decide) rfl hW rfl ?_
        refine m_inv (vs := [.int 2, .int (s.1 127)]) dX10_cut_122 oX10_trouble q2696 q2694 qs98 rfl rfl (Nat.le_of_ble_eq_true rfl) rfl hW hF hT ?_
        rintro _ s3 ⟨rfl, hT⟩ h hW hF
        exact x_vret dX10_cut_125 rfl ⟨_, _, rfl, hW, hF, hT⟩
    · have hT := hT.2 c
      refine x_iload dX10_cut_79 rfl ?_
      refine x_if_ne (tgt := 96) dX10_cut_81 rfl (fun c => ?_) (fun c => ?_)
      · have hT := hT.1 c
        refine x_aload_n dX10_cut_96 rfl rfl rfl ?_
        refine x_iload dX10_cut_97 rfl ?_
        refine x_bipush (v := 20) dX10_cut_99 rfl ?_
        refine x_icmp_le (tgt := 108) dX10_cut_101 rfl (fun c => ?_) (fun c => ?_)
        · have hT := hT.1 c
          refine x_iload dX10_cut_108 rfl ?_
          refine x_if_eq (tgt := 117) dX10_cut_110 rfl (fun c => ?_) (fun c => ?_)
          · have hT := hT.1 c
            refine x_iconst (v := 4) dX10_cut_117 rfl ?_
            refine x_aload_n dX10_cut_118 rfl rfl rfl ?_
            refine m_geti (v := (s.1 127)) dX10_cut_119 f_TallySlateModel_507 (by decide) rfl hW rfl ?_
            refine m_inv (vs := [.int 4, .int (s.1 127)]) dX10_cut_122 oX10_trouble q2696 q2694 qs98 rfl rfl (Nat.le_of_ble_eq_true rfl) rfl hW hF hT ?_
            rintro _ s4 ⟨rfl, hT⟩ h hW hF
            exact x_vret dX10_cut_125 rfl ⟨_, _, rfl, hW, hF, hT⟩
          · have hT := hT.2 c
            refine x_iconst (v := 1) dX10_cut_113 rfl ?_
            refine x_goto (tgt := 118) dX10_cut_114 rfl ?_
            refine x_aload_n dX10_cut_118 rfl rfl rfl ?_
            refine m_geti (v := (s.1 127)) dX10_cut_119 f_TallySlateModel_507 (by decide) rfl hW rfl ?_
            refine m_inv (vs := [.int 1, .int (s.1 127)]) dX10_cut_122 oX10_trouble q2696 q2694 qs98 rfl rfl (Nat.le_of_ble_eq_true rfl) rfl hW hF hT ?_
            rintro _ s5 ⟨rfl, hT⟩ h hW hF
            exact x_vret dX10_cut_125 rfl ⟨_, _, rfl, hW, hF, hT⟩
        · have hT := hT.2 c
          refine x_iconst (v := 2) dX10_cut_104 rfl ?_
          refine x_goto (tgt := 118) dX10_cut_105 rfl ?_
          refine x_aload_n dX10_cut_118 rfl rfl rfl ?_
          refine m_geti (v := (s.1 127)) dX10_cut_119 f_TallySlateModel_507 (by decide) rfl hW rfl ?_
          refine m_inv (vs := [.int 2, .int (s.1 127)]) dX10_cut_122 oX10_trouble q2696 q2694 qs98 rfl rfl (Nat.le_of_ble_eq_true rfl) rfl hW hF hT ?_
          rintro _ s6 ⟨rfl, hT⟩ h hW hF
          exact x_vret dX10_cut_125 rfl ⟨_, _, rfl, hW, hF, hT⟩
      · have hT := hT.2 c
        refine x_lload dX10_cut_84 rfl ?_
        refine x_aload_n dX10_cut_86 rfl rfl rfl ?_
        refine x_iload_n dX10_cut_87 rfl rfl ?_
        refine m_inv (vs := [.int a1]) dX10_cut_88 oX10_sizeAt q2735 q2733 qs107 rfl rfl (Nat.le_of_ble_eq_true rfl) rfl hW hF hT ?_
        rintro _ s7 ⟨v8, rfl, hT⟩ h hW hF
        refine x_i2l dX10_cut_91 ?_
        refine x_lcmp dX10_cut_92 ?_
        refine x_if_eq (tgt := 126) dX10_cut_93 rfl (fun c => ?_) (fun c => ?_)
        · have hT := hT.1 c
          refine x_aload_n dX10_cut_126 rfl rfl rfl ?_
          refine x_iload_n dX10_cut_127 rfl rfl ?_
          refine m_puti dX10_cut_128 f_TallySlateModel_461 (by decide) rfl rfl rfl rfl hW hF ?_
          intro h hW hF
          refine x_iconst (v := 0) dX10_cut_131 rfl ?_
          refine x_istore (lo' := [some (.ref w.1), some (.int a1), some (.int a2), some (.int a3), some (.int a4), some (.long a5), none, some (.int a7), some (.int 0), none, none, none]) dX10_cut_132 (Nat.le_of_ble_eq_true rfl) rfl ?_
          refine x_iconst (v := 0) dX10_cut_134 rfl ?_
          refine x_istore (lo' := [some (.ref w.1), some (.int a1), some (.int a2), some (.int a3), some (.int a4), some (.long a5), none, some (.int a7), some (.int 0), some (.int 0), none, none]) dX10_cut_135 (Nat.le_of_ble_eq_true rfl) rfl ?_
          refine Ex.wkl (lo' := [some (.ref w.1), some (.int a1), some (.int a2), some (.int a3), some (.int a4), none, none, none, some (.int 0), some (.int 0), none, none]) ⟨rfl, rfl, rfl, rfl, rfl, rfl, rfl, trivial⟩ ?_
          exact hT h0 h hW hF
        · have hT := hT.2 c
          refine x_aload_n dX10_cut_96 rfl rfl rfl ?_
          refine x_iload dX10_cut_97 rfl ?_
          refine x_bipush (v := 20) dX10_cut_99 rfl ?_
          refine x_icmp_le (tgt := 108) dX10_cut_101 rfl (fun c => ?_) (fun c => ?_)
          · have hT := hT.1 c
            refine x_iload dX10_cut_108 rfl ?_
            refine x_if_eq (tgt := 117) dX10_cut_110 rfl (fun c => ?_) (fun c => ?_)
            · have hT := hT.1 c
              refine x_iconst (v := 4) dX10_cut_117 rfl ?_
              refine x_aload_n dX10_cut_118 rfl rfl rfl ?_
              refine m_geti (v := (s7.1 127)) dX10_cut_119 f_TallySlateModel_507 (by decide) rfl hW rfl ?_
              refine m_inv (vs := [.int 4, .int (s7.1 127)]) dX10_cut_122 oX10_trouble q2696 q2694 qs98 rfl rfl (Nat.le_of_ble_eq_true rfl) rfl hW hF hT ?_
              rintro _ s9 ⟨rfl, hT⟩ h hW hF
              exact x_vret dX10_cut_125 rfl ⟨_, _, rfl, hW, hF, hT⟩
            · have hT := hT.2 c
              refine x_iconst (v := 1) dX10_cut_113 rfl ?_
              refine x_goto (tgt := 118) dX10_cut_114 rfl ?_
              refine x_aload_n dX10_cut_118 rfl rfl rfl ?_
              refine m_geti (v := (s7.1 127)) dX10_cut_119 f_TallySlateModel_507 (by decide) rfl hW rfl ?_
              refine m_inv (vs := [.int 1, .int (s7.1 127)]) dX10_cut_122 oX10_trouble q2696 q2694 qs98 rfl rfl (Nat.le_of_ble_eq_true rfl) rfl hW hF hT ?_
              rintro _ s10 ⟨rfl, hT⟩ h hW hF
              exact x_vret dX10_cut_125 rfl ⟨_, _, rfl, hW, hF, hT⟩
          · have hT := hT.2 c
            refine x_iconst (v := 2) dX10_cut_104 rfl ?_
            refine x_goto (tgt := 118) dX10_cut_105 rfl ?_
            refine x_aload_n dX10_cut_118 rfl rfl rfl ?_
            refine m_geti (v := (s7.1 127)) dX10_cut_119 f_TallySlateModel_507 (by decide) rfl hW rfl ?_
            refine m_inv (vs := [.int 2, .int (s7.1 127)]) dX10_cut_122 oX10_trouble q2696 q2694 qs98 rfl rfl (Nat.le_of_ble_eq_true rfl) rfl hW hF hT ?_
            rintro _ s11 ⟨rfl, hT⟩ h hW hF
            exact x_vret dX10_cut_125 rfl ⟨_, _, rfl, hW, hF, hT⟩
  · have hT := hT.2 c
    refine x_lload dX10_cut_23 rfl ?_
    refine x_aload_n dX10_cut_25 rfl rfl rfl ?_
    refine m_geta dX10_cut_26 f_TallySlateModel_183 (by decide) rfl hW ?_
    refine x_iload_n dX10_cut_29 rfl rfl ?_
    refine x_iconst (v := 2) dX10_cut_30 rfl ?_
    refine x_iadd dX10_cut_31 ?_
    refine x_iload dX10_cut_32 rfl ?_
    refine x_iadd dX10_cut_34 ?_
    obtain ⟨hb, hT⟩ := hT
    refine m_iald (v := (s.2.2.1 104 ((a2 + 2) + a8).toNatClampNeg)) dX10_cut_35 rfl hb hW rfl ?_
    refine x_i2l dX10_cut_36 ?_
    refine x_ladd dX10_cut_37 ?_
    obtain ⟨y12, ey12⟩ : ∃ z : Int64, z = (a5 + (s.2.2.1 104 ((a2 + 2) + a8).toNatClampNeg).toInt64) := ⟨_, rfl⟩
    have hT := hT y12 ey12
    refine x_lstore (lo' := [some (.ref w.1), some (.int a1), some (.int a2), some (.int a3), some (.int a4), some (.long y12), none, some (.int a7), some (.int a8), none, none, none]) dX10_cut_38 (Nat.le_of_ble_eq_true rfl) (by rw [ey12]; rfl) ?_
    refine x_iload dX10_cut_40 rfl ?_
    refine x_if_ne (tgt := 59) dX10_cut_42 rfl (fun c => ?_) (fun c => ?_)
    · have hT := hT.1 c
      refine x_iconst (v := 1) dX10_cut_59 rfl ?_
      refine x_goto (tgt := 64) dX10_cut_60 rfl ?_
      refine x_istore (lo' := [some (.ref w.1), some (.int a1), some (.int a2), some (.int a3), some (.int a4), some (.long y12), none, some (.int 1), some (.int a8), none, none, none]) dX10_cut_64 (Nat.le_of_ble_eq_true rfl) rfl ?_
      refine x_iinc (lo' := [some (.ref w.1), some (.int a1), some (.int a2), some (.int a3), some (.int a4), some (.long y12), none, some (.int 1), some (.int (a8 + 1)), none, none, none]) dX10_cut_66 rfl (show _ = (a8 + 1) from rfl) rfl ?_
      refine x_goto (tgt := 16) dX10_cut_69 rfl ?_
      exact hT h0 h hW hF
    · have hT := hT.2 c
      refine x_aload_n dX10_cut_45 rfl rfl rfl ?_
      refine m_geta dX10_cut_46 f_TallySlateModel_183 (by decide) rfl hW ?_
      refine x_iload_n dX10_cut_49 rfl rfl ?_
      refine x_iconst (v := 2) dX10_cut_50 rfl ?_
      refine x_iadd dX10_cut_51 ?_
      refine x_iload dX10_cut_52 rfl ?_
      refine x_iadd dX10_cut_54 ?_
      obtain ⟨hb, hT⟩ := hT
      refine m_iald (v := (s.2.2.1 104 ((a2 + 2) + a8).toNatClampNeg)) dX10_cut_55 rfl hb hW rfl ?_
      refine x_if_ge (tgt := 63) dX10_cut_56 rfl (fun c => ?_) (fun c => ?_)
      · have hT := hT.1 c
        refine x_iconst (v := 0) dX10_cut_63 rfl ?_
        refine x_istore (lo' := [some (.ref w.1), some (.int a1), some (.int a2), some (.int a3), some (.int a4), some (.long y12), none, some (.int 0), some (.int a8), none, none, none]) dX10_cut_64 (Nat.le_of_ble_eq_true rfl) rfl ?_
        refine x_iinc (lo' := [some (.ref w.1), some (.int a1), some (.int a2), some (.int a3), some (.int a4), some (.long y12), none, some (.int 0), some (.int (a8 + 1)), none, none, none]) dX10_cut_66 rfl (show _ = (a8 + 1) from rfl) rfl ?_
        refine x_goto (tgt := 16) dX10_cut_69 rfl ?_
        exact hT h0 h hW hF
      · have hT := hT.2 c
        refine x_iconst (v := 1) dX10_cut_59 rfl ?_
        refine x_goto (tgt := 64) dX10_cut_60 rfl ?_
        refine x_istore (lo' := [some (.ref w.1), some (.int a1), some (.int a2), some (.int a3), some (.int a4), some (.long y12), none, some (.int 1), some (.int a8), none, none, none]) dX10_cut_64 (Nat.le_of_ble_eq_true rfl) rfl ?_
        refine x_iinc (lo' := [some (.ref w.1), some (.int a1), some (.int a2), some (.int a3), some (.int a4), some (.long y12), none, some (.int 1), some (.int (a8 + 1)), none, none, none]) dX10_cut_66 rfl (show _ = (a8 + 1) from rfl) rfl ?_
        refine x_goto (tgt := 16) dX10_cut_69 rfl ?_
        exact hT h0 h hW hF
theorem vX10_cut_137 {l : Launch} {E : EN} {w : MO} {d : Nat} {s : MS} {Q : Option Value → MS → Prop} {a1 : Int32} {a2 : Int32} {a3 : Int32} {a4 : Int32} {a8 : Int32} {a9 : Int32} (hT : ((a4 ≤ a9 → (EvM l E w d MX10_builds [.ref w.1, .int 2, .int a3] s (fun r s1 => r = none ∧ Q none s1))) ∧ (¬ a4 ≤ a9 → (∀ y2 : Int32, y2 = (s.1 108) → (inB ((a2 + 2) + a9) 166300 ∧ (∀ y3 : Int32, y3 = (a8 + (s.2.2.1 104 ((a2 + 2) + a9).toNatClampNeg)) → ExM l E w (d + 1) MX10_cut 166 [some (.ref w.1), some (.int a1), some (.int a2), some (.int a3), some (.int a4), none, none, none, some (.int a8), some (.int a9), some (.int y2), some (.int y3)] [] s Q)))))) : ExM l E w (d + 1) MX10_cut 137 [some (.ref w.1), some (.int a1), some (.int a2), some (.int a3), some (.int a4), none, none, none, some (.int a8), some (.int a9), none, none] [] s Q := by
  intro h0 h hW hF
  refine x_iload dX10_cut_137 rfl ?_
  refine x_iload dX10_cut_139 rfl ?_
  refine x_icmp_ge (tgt := 198) dX10_cut_141 rfl (fun c => ?_) (fun c => ?_)
  · have hT := hT.1 c
    refine x_aload_n dX10_cut_198 rfl rfl rfl ?_
    refine x_iconst (v := 2) dX10_cut_199 rfl ?_
    refine x_iload_n dX10_cut_200 rfl rfl ?_
    refine m_inv (vs := [.int 2, .int a3]) dX10_cut_201 oX10_builds q2739 q2737 qs108 rfl rfl (Nat.le_of_ble_eq_true rfl) rfl hW hF hT ?_
    rintro _ s1 ⟨rfl, hT⟩ h hW hF
    exact x_vret dX10_cut_204 rfl ⟨_, _, rfl, hW, hF, hT⟩
  · have hT := hT.2 c
    refine x_aload_n dX10_cut_144 rfl rfl rfl ?_
    refine m_geti (v := (s.1 108)) dX10_cut_145 f_TallySlateModel_461 (by decide) rfl hW rfl ?_
    obtain ⟨y2, ey2⟩ : ∃ z : Int32, z = (s.1 108) := ⟨_, rfl⟩
    have hT := hT y2 ey2
    refine x_istore (lo' := [some (.ref w.1), some (.int a1), some (.int a2), some (.int a3), some (.int a4), none, none, none, some (.int a8), some (.int a9), some (.int y2), none]) dX10_cut_148 (Nat.le_of_ble_eq_true rfl) (by rw [ey2]; rfl) ?_
    refine x_iload dX10_cut_150 rfl ?_
    refine x_aload_n dX10_cut_152 rfl rfl rfl ?_
    refine m_geta dX10_cut_153 f_TallySlateModel_183 (by decide) rfl hW ?_
    refine x_iload_n dX10_cut_156 rfl rfl ?_
    refine x_iconst (v := 2) dX10_cut_157 rfl ?_
    refine x_iadd dX10_cut_158 ?_
    refine x_iload dX10_cut_159 rfl ?_
    refine x_iadd dX10_cut_161 ?_
    obtain ⟨hb, hT⟩ := hT
    refine m_iald (v := (s.2.2.1 104 ((a2 + 2) + a9).toNatClampNeg)) dX10_cut_162 rfl hb hW rfl ?_
    refine x_iadd dX10_cut_163 ?_
    obtain ⟨y3, ey3⟩ : ∃ z : Int32, z = (a8 + (s.2.2.1 104 ((a2 + 2) + a9).toNatClampNeg)) := ⟨_, rfl⟩
    have hT := hT y3 ey3
    refine x_istore (lo' := [some (.ref w.1), some (.int a1), some (.int a2), some (.int a3), some (.int a4), none, none, none, some (.int a8), some (.int a9), some (.int y2), some (.int y3)]) dX10_cut_164 (Nat.le_of_ble_eq_true rfl) (by rw [ey3]; rfl) ?_
    exact hT h0 h hW hF
theorem vX10_cut_166 {l : Launch} {E : EN} {w : MO} {d : Nat} {s : MS} {Q : Option Value → MS → Prop} {a1 : Int32} {a2 : Int32} {a3 : Int32} {a4 : Int32} {a8 : Int32} {a9 : Int32} {a10 : Int32} {a11 : Int32} (hT : ((a11 ≤ a8 → (EvM l E w d MX10_rowOf [.ref w.1, .int a10] s (fun r s1 => r = none ∧ ExM l E w (d + 1) MX10_cut 137 [some (.ref w.1), some (.int a1), some (.int a2), some (.int a3), some (.int a4), none, none, none, some (.int a8), some (.int (a9 + 1)), none, none] [] s1 Q))) ∧ (¬ a11 ≤ a8 → (EvM l E w d MX10_element [.ref w.1, .int a1, .int a8] s (fun r s2 => r = none ∧ ExM l E w (d + 1) MX10_cut 166 [some (.ref w.1), some (.int a1), some (.int a2), some (.int a3), some (.int a4), none, none, none, some (.int (a8 + 1)), some (.int a9), some (.int a10), some (.int a11)] [] s2 Q))))) : ExM l E w (d + 1) MX10_cut 166 [some (.ref w.1), some (.int a1), some (.int a2), some (.int a3), some (.int a4), none, none, none, some (.int a8), some (.int a9), some (.int a10), some (.int a11)] [] s Q := by
  intro h0 h hW hF
  refine x_iload dX10_cut_166 rfl ?_
  refine x_iload dX10_cut_168 rfl ?_
  refine x_icmp_ge (tgt := 186) dX10_cut_170 rfl (fun c => ?_) (fun c => ?_)
  · have hT := hT.1 c
    refine x_aload_n dX10_cut_186 rfl rfl rfl ?_
    refine x_iload dX10_cut_187 rfl ?_
    refine m_inv (vs := [.int a10]) dX10_cut_189 oX10_rowOf q2775 q2773 qs117 rfl rfl (Nat.le_of_ble_eq_true rfl) rfl hW hF hT ?_
    rintro _ s1 ⟨rfl, hT⟩ h hW hF
    refine x_iinc (lo' := [some (.ref w.1), some (.int a1), some (.int a2), some (.int a3), some (.int a4), none, none, none, some (.int a8), some (.int (a9 + 1)), some (.int a10), some (.int a11)]) dX10_cut_192 rfl (show _ = (a9 + 1) from rfl) rfl ?_
    refine x_goto (tgt := 137) dX10_cut_195 rfl ?_
    refine Ex.wkl (lo' := [some (.ref w.1), some (.int a1), some (.int a2), some (.int a3), some (.int a4), none, none, none, some (.int a8), some (.int (a9 + 1)), none, none]) ⟨rfl, rfl, rfl, rfl, rfl, rfl, rfl, trivial⟩ ?_
    exact hT h0 h hW hF
  · have hT := hT.2 c
    refine x_aload_n dX10_cut_173 rfl rfl rfl ?_
    refine x_iload_n dX10_cut_174 rfl rfl ?_
    refine x_iload dX10_cut_175 rfl ?_
    refine m_inv (vs := [.int a1, .int a8]) dX10_cut_177 oX10_element q2798 q2796 qs122 rfl rfl (Nat.le_of_ble_eq_true rfl) rfl hW hF hT ?_
    rintro _ s2 ⟨rfl, hT⟩ h hW hF
    refine x_iinc (lo' := [some (.ref w.1), some (.int a1), some (.int a2), some (.int a3), some (.int a4), none, none, none, some (.int (a8 + 1)), some (.int a9), some (.int a10), some (.int a11)]) dX10_cut_180 rfl (show _ = (a8 + 1) from rfl) rfl ?_
    refine x_goto (tgt := 166) dX10_cut_183 rfl ?_
    exact hT h0 h hW hF
theorem vX10_pick_0 {l : Launch} {E : EN} {w : MO} {d : Nat} {s : MS} {Q : Option Value → MS → Prop} {x1 : Int32} {x2 : Int32} {x3 : Int32} (hT : (inB x1 166300 ∧ (∀ y1 : Int32, y1 = (s.2.2.1 104 x1.toNatClampNeg) → (EvM l E w d MX10_sizeAt [.ref w.1, .int x1] s (fun r s2 => ∃ v3 : Int32, r = some (.int v3) ∧ (EvM l E w d MX10_sizeAt [.ref w.1, .int x2] s2 (fun r s4 => ∃ v5 : Int32, r = some (.int v5) ∧ ((v3 = v5 → ExM l E w (d + 1) MX10_pick 39 [some (.ref w.1), some (.int x1), some (.int x2), some (.int x3), some (.int y1), some (.int 0)] [] (sI s4 108 x3) Q) ∧ (¬ v3 = v5 → (EvM l E w d MX10_trouble [.ref w.1, .int 4, .int (s4.1 127)] s4 (fun r s6 => r = none ∧ Q none s6))))))))))) : ExM l E w (d + 1) MX10_pick 0 [some (.ref w.1), some (.int x1), some (.int x2), some (.int x3), none, none] [] s Q := by
  intro h0 h hW hF
  refine x_aload_n dX10_pick_0 rfl rfl rfl ?_
  refine m_geta dX10_pick_1 f_TallySlateModel_183 (by decide) rfl hW ?_
  refine x_iload_n dX10_pick_4 rfl rfl ?_
  obtain ⟨hb, hT⟩ := hT
  refine m_iald (v := (s.2.2.1 104 x1.toNatClampNeg)) dX10_pick_5 rfl hb hW rfl ?_
  obtain ⟨y1, ey1⟩ : ∃ z : Int32, z = (s.2.2.1 104 x1.toNatClampNeg) := ⟨_, rfl⟩
  have hT := hT y1 ey1
  refine x_istore (lo' := [some (.ref w.1), some (.int x1), some (.int x2), some (.int x3), some (.int y1), none]) dX10_pick_6 (Nat.le_of_ble_eq_true rfl) (by rw [ey1]; rfl) ?_
  refine x_aload_n dX10_pick_8 rfl rfl rfl ?_
  refine x_iload_n dX10_pick_9 rfl rfl ?_
  refine m_inv (vs := [.int x1]) dX10_pick_10 oX10_sizeAt q2735 q2733 qs107 rfl rfl (Nat.le_of_ble_eq_true rfl) rfl hW hF hT ?_
  rintro _ s2 ⟨v3, rfl, hT⟩ h hW hF
  refine x_aload_n dX10_pick_13 rfl rfl rfl ?_
  refine x_iload_n dX10_pick_14 rfl rfl ?_
  refine m_inv (vs := [.int x2]) dX10_pick_15 oX10_sizeAt q2735 q2733 qs107 rfl rfl (Nat.le_of_ble_eq_true rfl) rfl hW hF hT ?_
  rintro _ s4 ⟨v5, rfl, hT⟩ h hW hF
  refine x_icmp_eq (tgt := 31) dX10_pick_18 rfl (fun c => ?_) (fun c => ?_)
  · have hT := hT.1 c
    refine x_aload_n dX10_pick_31 rfl rfl rfl ?_
    refine x_iload_n dX10_pick_32 rfl rfl ?_
    refine m_puti dX10_pick_33 f_TallySlateModel_461 (by decide) rfl rfl rfl rfl hW hF ?_
    intro h hW hF
    refine x_iconst (v := 0) dX10_pick_36 rfl ?_
    refine x_istore (lo' := [some (.ref w.1), some (.int x1), some (.int x2), some (.int x3), some (.int y1), some (.int 0)]) dX10_pick_37 (Nat.le_of_ble_eq_true rfl) rfl ?_
    exact hT h0 h hW hF
  · have hT := hT.2 c
    refine x_aload_n dX10_pick_21 rfl rfl rfl ?_
    refine x_iconst (v := 4) dX10_pick_22 rfl ?_
    refine x_aload_n dX10_pick_23 rfl rfl rfl ?_
    refine m_geti (v := (s4.1 127)) dX10_pick_24 f_TallySlateModel_507 (by decide) rfl hW rfl ?_
    refine m_inv (vs := [.int 4, .int (s4.1 127)]) dX10_pick_27 oX10_trouble q2696 q2694 qs98 rfl rfl (Nat.le_of_ble_eq_true rfl) rfl hW hF hT ?_
    rintro _ s6 ⟨rfl, hT⟩ h hW hF
    exact x_vret dX10_pick_30 rfl ⟨_, _, rfl, hW, hF, hT⟩
theorem eX10_pick {l : Launch} {E : EN} {w : MO} {d : Nat} {s : MS} {Q : Option Value → MS → Prop} {x1 : Int32} {x2 : Int32} {x3 : Int32} (hst : l.stackTraces = false) (hT : (inB x1 166300 ∧ (∀ y1 : Int32, y1 = (s.2.2.1 104 x1.toNatClampNeg) → (EvM l E w d MX10_sizeAt [.ref w.1, .int x1] s (fun r s2 => ∃ v3 : Int32, r = some (.int v3) ∧ (EvM l E w d MX10_sizeAt [.ref w.1, .int x2] s2 (fun r s4 => ∃ v5 : Int32, r = some (.int v5) ∧ ((v3 = v5 → ExM l E w (d + 1) MX10_pick 39 [some (.ref w.1), some (.int x1), some (.int x2), some (.int x3), some (.int y1), some (.int 0)] [] (sI s4 108 x3) Q) ∧ (¬ v3 = v5 → (EvM l E w d MX10_trouble [.ref w.1, .int 4, .int (s4.1 127)] s4 (fun r s6 => r = none ∧ Q none s6))))))))))) : EvM l E w (d + 1) MX10_pick [.ref w.1, .int x1, .int x2, .int x3] s Q :=
  EvM.of hst (by decide) (Nat.le_of_ble_eq_true rfl) (vX10_pick_0 hT)
theorem vX10_pick_39 {l : Launch} {E : EN} {w : MO} {d : Nat} {s : MS} {Q : Option Value → MS → Prop} {a1 : Int32} {a2 : Int32} {a3 : Int32} {a4 : Int32} {a5 : Int32} (hT : (EvM l E w d MX10_sizeAt [.ref w.1, .int a1] s (fun r s1 => ∃ v2 : Int32, r = some (.int v2) ∧ ((v2 ≤ a5 → (EvM l E w d MX10_builds [.ref w.1, .int a4, .int a3] s1 (fun r s3 => r = none ∧ Q none s3))) ∧ (¬ v2 ≤ a5 → (inB ((a2 + 2) + a5) 166300 ∧ (((s1.2.2.1 104 ((a2 + 2) + a5).toNatClampNeg) = 0 → ExM l E w (d + 1) MX10_pick 39 [some (.ref w.1), some (.int a1), some (.int a2), some (.int a3), some (.int a4), some (.int (a5 + 1))] [] s1 Q) ∧ (¬ (s1.2.2.1 104 ((a2 + 2) + a5).toNatClampNeg) = 0 → (EvM l E w d MX10_element [.ref w.1, .int a1, .int a5] s1 (fun r s4 => r = none ∧ ExM l E w (d + 1) MX10_pick 39 [some (.ref w.1), some (.int a1), some (.int a2), some (.int a3), some (.int a4), some (.int (a5 + 1))] [] s4 Q)))))))))) : ExM l E w (d + 1) MX10_pick 39 [some (.ref w.1), some (.int a1), some (.int a2), some (.int a3), some (.int a4), some (.int a5)] [] s Q := by
  intro h0 h hW hF
  refine x_iload dX10_pick_39 rfl ?_
  refine x_aload_n dX10_pick_41 rfl rfl rfl ?_
  refine x_iload_n dX10_pick_42 rfl rfl ?_
  refine m_inv (vs := [.int a1]) dX10_pick_43 oX10_sizeAt q2735 q2733 qs107 rfl rfl (Nat.le_of_ble_eq_true rfl) rfl hW hF hT ?_
  rintro _ s1 ⟨v2, rfl, hT⟩ h hW hF
  refine x_icmp_ge (tgt := 76) dX10_pick_46 rfl (fun c => ?_) (fun c => ?_)
  · have hT := hT.1 c
    refine x_aload_n dX10_pick_76 rfl rfl rfl ?_
    refine x_iload dX10_pick_77 rfl ?_
    refine x_iload_n dX10_pick_79 rfl rfl ?_
    refine m_inv (vs := [.int a4, .int a3]) dX10_pick_80 oX10_builds q2739 q2737 qs108 rfl rfl (Nat.le_of_ble_eq_true rfl) rfl hW hF hT ?_
    rintro _ s3 ⟨rfl, hT⟩ h hW hF
    exact x_vret dX10_pick_83 rfl ⟨_, _, rfl, hW, hF, hT⟩
  · have hT := hT.2 c
    refine x_aload_n dX10_pick_49 rfl rfl rfl ?_
    refine m_geta dX10_pick_50 f_TallySlateModel_183 (by decide) rfl hW ?_
    refine x_iload_n dX10_pick_53 rfl rfl ?_
    refine x_iconst (v := 2) dX10_pick_54 rfl ?_
    refine x_iadd dX10_pick_55 ?_
    refine x_iload dX10_pick_56 rfl ?_
    refine x_iadd dX10_pick_58 ?_
    obtain ⟨hb, hT⟩ := hT
    refine m_iald (v := (s1.2.2.1 104 ((a2 + 2) + a5).toNatClampNeg)) dX10_pick_59 rfl hb hW rfl ?_
    refine x_if_eq (tgt := 70) dX10_pick_60 rfl (fun c => ?_) (fun c => ?_)
    · have hT := hT.1 c
      refine x_iinc (lo' := [some (.ref w.1), some (.int a1), some (.int a2), some (.int a3), some (.int a4), some (.int (a5 + 1))]) dX10_pick_70 rfl (show _ = (a5 + 1) from rfl) rfl ?_
      refine x_goto (tgt := 39) dX10_pick_73 rfl ?_
      exact hT h0 h hW hF
    · have hT := hT.2 c
      refine x_aload_n dX10_pick_63 rfl rfl rfl ?_
      refine x_iload_n dX10_pick_64 rfl rfl ?_
      refine x_iload dX10_pick_65 rfl ?_
      refine m_inv (vs := [.int a1, .int a5]) dX10_pick_67 oX10_element q2798 q2796 qs122 rfl rfl (Nat.le_of_ble_eq_true rfl) rfl hW hF hT ?_
      rintro _ s4 ⟨rfl, hT⟩ h hW hF
      refine x_iinc (lo' := [some (.ref w.1), some (.int a1), some (.int a2), some (.int a3), some (.int a4), some (.int (a5 + 1))]) dX10_pick_70 rfl (show _ = (a5 + 1) from rfl) rfl ?_
      refine x_goto (tgt := 39) dX10_pick_73 rfl ?_
      exact hT h0 h hW hF
theorem vX10_findIn_0 {l : Launch} {E : EN} {w : MO} {d : Nat} {s : MS} {Q : Option Value → MS → Prop} {x1 : Int32} {x2 : Int32} (hT : ExM l E w (d + 1) MX10_findIn 2 [some (.ref w.1), some (.int x1), some (.int x2), some (.int 0)] [] s Q) : ExM l E w (d + 1) MX10_findIn 0 [some (.ref w.1), some (.int x1), some (.int x2), none] [] s Q := by
  intro h0 h hW hF
  refine x_iconst (v := 0) dX10_findIn_0 rfl ?_
  refine x_istore_n (lo' := [some (.ref w.1), some (.int x1), some (.int x2), some (.int 0)]) dX10_findIn_1 rfl (Nat.le_of_ble_eq_true rfl) rfl ?_
  exact hT h0 h hW hF
theorem eX10_findIn {l : Launch} {E : EN} {w : MO} {d : Nat} {s : MS} {Q : Option Value → MS → Prop} {x1 : Int32} {x2 : Int32} (hst : l.stackTraces = false) (hT : ExM l E w (d + 1) MX10_findIn 2 [some (.ref w.1), some (.int x1), some (.int x2), some (.int 0)] [] s Q) : EvM l E w (d + 1) MX10_findIn [.ref w.1, .int x1, .int x2] s Q :=
  EvM.of hst (by decide) (Nat.le_of_ble_eq_true rfl) (vX10_findIn_0 hT)
theorem vX10_findIn_2 {l : Launch} {E : EN} {w : MO} {d : Nat} {s : MS} {Q : Option Value → MS → Prop} {a1 : Int32} {a2 : Int32} {a3 : Int32} (hT : (EvM l E w d MX10_sizeAt [.ref w.1, .int a1] s (fun r s1 => ∃ v2 : Int32, r = some (.int v2) ∧ ((v2 ≤ a3 → Q (some (.int (-1))) s1) ∧ (¬ v2 ≤ a3 → (inB ((a1 + 2) + a3) 166300 ∧ ((¬ (s1.2.2.1 104 ((a1 + 2) + a3).toNatClampNeg) = a2 → ExM l E w (d + 1) MX10_findIn 2 [some (.ref w.1), some (.int a1), some (.int a2), some (.int (a3 + 1))] [] s1 Q) ∧ ((s1.2.2.1 104 ((a1 + 2) + a3).toNatClampNeg) = a2 → Q (some (.int a3)) s1)))))))) : ExM l E w (d + 1) MX10_findIn 2 [some (.ref w.1), some (.int a1), some (.int a2), some (.int a3)] [] s Q := by
  intro h0 h hW hF
  refine x_iload_n dX10_findIn_2 rfl rfl ?_
  refine x_aload_n dX10_findIn_3 rfl rfl rfl ?_
  refine x_iload_n dX10_findIn_4 rfl rfl ?_
  refine m_inv (vs := [.int a1]) dX10_findIn_5 oX10_sizeAt q2735 q2733 qs107 rfl rfl (Nat.le_of_ble_eq_true rfl) rfl hW hF hT ?_
  rintro _ s1 ⟨v2, rfl, hT⟩ h hW hF
  refine x_icmp_ge (tgt := 33) dX10_findIn_8 rfl (fun c => ?_) (fun c => ?_)
  · have hT := hT.1 c
    refine x_iconst (v := (-1)) dX10_findIn_33 rfl ?_
    exact x_iret dX10_findIn_34 rfl rfl ⟨_, _, rfl, hW, hF, hT⟩
  · have hT := hT.2 c
    refine x_aload_n dX10_findIn_11 rfl rfl rfl ?_
    refine m_geta dX10_findIn_12 f_TallySlateModel_183 (by decide) rfl hW ?_
    refine x_iload_n dX10_findIn_15 rfl rfl ?_
    refine x_iconst (v := 2) dX10_findIn_16 rfl ?_
    refine x_iadd dX10_findIn_17 ?_
    refine x_iload_n dX10_findIn_18 rfl rfl ?_
    refine x_iadd dX10_findIn_19 ?_
    obtain ⟨hb, hT⟩ := hT
    refine m_iald (v := (s1.2.2.1 104 ((a1 + 2) + a3).toNatClampNeg)) dX10_findIn_20 rfl hb hW rfl ?_
    refine x_iload_n dX10_findIn_21 rfl rfl ?_
    refine x_icmp_ne (tgt := 27) dX10_findIn_22 rfl (fun c => ?_) (fun c => ?_)
    · have hT := hT.1 c
      refine x_iinc (lo' := [some (.ref w.1), some (.int a1), some (.int a2), some (.int (a3 + 1))]) dX10_findIn_27 rfl (show _ = (a3 + 1) from rfl) rfl ?_
      refine x_goto (tgt := 2) dX10_findIn_30 rfl ?_
      exact hT h0 h hW hF
    · have hT := hT.2 c
      refine x_iload_n dX10_findIn_25 rfl rfl ?_
      exact x_iret dX10_findIn_26 rfl rfl ⟨_, _, rfl, hW, hF, hT⟩
set_option maxHeartbeats 16000000 in
theorem vX10_pad_0 {l : Launch} {E : EN} {w : MO} {d : Nat} {s : MS} {Q : Option Value → MS → Prop} {x1 : Int32} {x2 : Int32} {x3 : Int32} (hT : ((64 < x2 → (EvM l E w d MX10_trouble [.ref w.1, .int 2, .int (s.1 127)] s (fun r s1 => r = none ∧ Q none s1))) ∧ (¬ 64 < x2 → (EvM l E w d MX10_sizeAt [.ref w.1, .int x1] s (fun r s2 => ∃ v3 : Int32, r = some (.int v3) ∧ (((lg_cmp (v3.toInt64 * x2.toInt64) 200) ≤ 0 → ((0 ≤ x2 → ExM l E w (d + 1) MX10_pad 65 [some (.ref w.1), some (.int x1), some (.int x2), some (.int x3), none, some (.int 0), none, none, none] [] (sI s2 108 x3) Q) ∧ (¬ 0 ≤ x2 → (EvM l E w d MX10_trouble [.ref w.1, .int 1, .int (s2.1 127)] s2 (fun r s4 => r = none ∧ Q none s4))))) ∧ (¬ (lg_cmp (v3.toInt64 * x2.toInt64) 200) ≤ 0 → (EvM l E w d MX10_trouble [.ref w.1, .int 2, .int (s2.1 127)] s2 (fun r s5 => r = none ∧ Q none s5))))))))) : ExM l E w (d + 1) MX10_pad 0 [some (.ref w.1), some (.int x1), some (.int x2), some (.int x3), none, none, none, none, none] [] s Q := by
  intro h0 h hW hF
  refine x_iload_n dX10_pad_0 rfl rfl ?_
  refine x_bipush (v := 64) dX10_pad_1 rfl ?_
  refine x_icmp_gt (tgt := 22) dX10_pad_3 rfl (fun c => ?_) (fun c => ?_)
  · have hT := hT.1 c
    refine x_iconst (v := 1) dX10_pad_22 rfl ?_
    refine x_goto (tgt := 27) dX10_pad_23 rfl ?_
    refine x_istore (lo' := [some (.ref w.1), some (.int x1), some (.int x2), some (.int x3), some (.int 1), none, none, none, none]) dX10_pad_27 (Nat.le_of_ble_eq_true rfl) rfl ?_
    refine x_iload dX10_pad_29 rfl ?_
    refine x_if_ne (tgt := 38) dX10_pad_31 rfl (fun _ => ?_) (fun c => absurd c (by decide))
    refine x_aload_n dX10_pad_38 rfl rfl rfl ?_
    refine x_iload dX10_pad_39 rfl ?_
    refine x_if_eq (tgt := 48) dX10_pad_41 rfl (fun c => absurd c (by decide)) (fun _ => ?_)
    refine x_iconst (v := 2) dX10_pad_44 rfl ?_
    refine x_goto (tgt := 49) dX10_pad_45 rfl ?_
    refine x_aload_n dX10_pad_49 rfl rfl rfl ?_
    refine m_geti (v := (s.1 127)) dX10_pad_50 f_TallySlateModel_507 (by decide) rfl hW rfl ?_
    refine m_inv (vs := [.int 2, .int (s.1 127)]) dX10_pad_53 oX10_trouble q2696 q2694 qs98 rfl rfl (Nat.le_of_ble_eq_true rfl) rfl hW hF hT ?_
    rintro _ s1 ⟨rfl, hT⟩ h hW hF
    exact x_vret dX10_pad_56 rfl ⟨_, _, rfl, hW, hF, hT⟩
  · have hT := hT.2 c
    refine x_aload_n dX10_pad_6 rfl rfl rfl ?_
    refine x_iload_n dX10_pad_7 rfl rfl ?_
    refine m_inv (vs := [.int x1]) dX10_pad_8 oX10_sizeAt q2735 q2733 qs107 rfl rfl (Nat.le_of_ble_eq_true rfl) rfl hW hF hT ?_
    rintro _ s2 ⟨v3, rfl, hT⟩ h hW hF
    refine x_i2l dX10_pad_11 ?_
    refine x_iload_n dX10_pad_12 rfl rfl ?_
    refine x_i2l dX10_pad_13 ?_
    refine x_lmul dX10_pad_14 ?_
    refine x_ldc2 dX10_pad_15 q2811 ?_
    refine x_lcmp dX10_pad_18 ?_
    refine x_if_le (tgt := 26) dX10_pad_19 rfl (fun c => ?_) (fun c => ?_)
    · have hT := hT.1 c
      refine x_iconst (v := 0) dX10_pad_26 rfl ?_
      refine x_istore (lo' := [some (.ref w.1), some (.int x1), some (.int x2), some (.int x3), some (.int 0), none, none, none, none]) dX10_pad_27 (Nat.le_of_ble_eq_true rfl) rfl ?_
      refine x_iload dX10_pad_29 rfl ?_
      refine x_if_ne (tgt := 38) dX10_pad_31 rfl (fun c => absurd c (by decide)) (fun _ => ?_)
      refine x_iload_n dX10_pad_34 rfl rfl ?_
      refine x_if_ge (tgt := 57) dX10_pad_35 rfl (fun c => ?_) (fun c => ?_)
      · have hT := hT.1 c
        refine x_aload_n dX10_pad_57 rfl rfl rfl ?_
        refine x_iload_n dX10_pad_58 rfl rfl ?_
        refine m_puti dX10_pad_59 f_TallySlateModel_461 (by decide) rfl rfl rfl rfl hW hF ?_
        intro h hW hF
        refine x_iconst (v := 0) dX10_pad_62 rfl ?_
        refine x_istore (lo' := [some (.ref w.1), some (.int x1), some (.int x2), some (.int x3), some (.int 0), some (.int 0), none, none, none]) dX10_pad_63 (Nat.le_of_ble_eq_true rfl) rfl ?_
        refine Ex.wkl (lo' := [some (.ref w.1), some (.int x1), some (.int x2), some (.int x3), none, some (.int 0), none, none, none]) ⟨rfl, rfl, rfl, rfl, rfl, trivial⟩ ?_
        exact hT h0 h hW hF
      · have hT := hT.2 c
        refine x_aload_n dX10_pad_38 rfl rfl rfl ?_
        refine x_iload dX10_pad_39 rfl ?_
        refine x_if_eq (tgt := 48) dX10_pad_41 rfl (fun _ => ?_) (fun c => absurd c (by decide))
        refine x_iconst (v := 1) dX10_pad_48 rfl ?_
        refine x_aload_n dX10_pad_49 rfl rfl rfl ?_
        refine m_geti (v := (s2.1 127)) dX10_pad_50 f_TallySlateModel_507 (by decide) rfl hW rfl ?_
        refine m_inv (vs := [.int 1, .int (s2.1 127)]) dX10_pad_53 oX10_trouble q2696 q2694 qs98 rfl rfl (Nat.le_of_ble_eq_true rfl) rfl hW hF hT ?_
        rintro _ s4 ⟨rfl, hT⟩ h hW hF
        exact x_vret dX10_pad_56 rfl ⟨_, _, rfl, hW, hF, hT⟩
    · have hT := hT.2 c
      refine x_iconst (v := 1) dX10_pad_22 rfl ?_
      refine x_goto (tgt := 27) dX10_pad_23 rfl ?_
      refine x_istore (lo' := [some (.ref w.1), some (.int x1), some (.int x2), some (.int x3), some (.int 1), none, none, none, none]) dX10_pad_27 (Nat.le_of_ble_eq_true rfl) rfl ?_
      refine x_iload dX10_pad_29 rfl ?_
      refine x_if_ne (tgt := 38) dX10_pad_31 rfl (fun _ => ?_) (fun c => absurd c (by decide))
      refine x_aload_n dX10_pad_38 rfl rfl rfl ?_
      refine x_iload dX10_pad_39 rfl ?_
      refine x_if_eq (tgt := 48) dX10_pad_41 rfl (fun c => absurd c (by decide)) (fun _ => ?_)
      refine x_iconst (v := 2) dX10_pad_44 rfl ?_
      refine x_goto (tgt := 49) dX10_pad_45 rfl ?_
      refine x_aload_n dX10_pad_49 rfl rfl rfl ?_
      refine m_geti (v := (s2.1 127)) dX10_pad_50 f_TallySlateModel_507 (by decide) rfl hW rfl ?_
      refine m_inv (vs := [.int 2, .int (s2.1 127)]) dX10_pad_53 oX10_trouble q2696 q2694 qs98 rfl rfl (Nat.le_of_ble_eq_true rfl) rfl hW hF hT ?_
      rintro _ s5 ⟨rfl, hT⟩ h hW hF
      exact x_vret dX10_pad_56 rfl ⟨_, _, rfl, hW, hF, hT⟩
theorem eX10_pad {l : Launch} {E : EN} {w : MO} {d : Nat} {s : MS} {Q : Option Value → MS → Prop} {x1 : Int32} {x2 : Int32} {x3 : Int32} (hst : l.stackTraces = false) (hT : ((64 < x2 → (EvM l E w d MX10_trouble [.ref w.1, .int 2, .int (s.1 127)] s (fun r s1 => r = none ∧ Q none s1))) ∧ (¬ 64 < x2 → (EvM l E w d MX10_sizeAt [.ref w.1, .int x1] s (fun r s2 => ∃ v3 : Int32, r = some (.int v3) ∧ (((lg_cmp (v3.toInt64 * x2.toInt64) 200) ≤ 0 → ((0 ≤ x2 → ExM l E w (d + 1) MX10_pad 65 [some (.ref w.1), some (.int x1), some (.int x2), some (.int x3), none, some (.int 0), none, none, none] [] (sI s2 108 x3) Q) ∧ (¬ 0 ≤ x2 → (EvM l E w d MX10_trouble [.ref w.1, .int 1, .int (s2.1 127)] s2 (fun r s4 => r = none ∧ Q none s4))))) ∧ (¬ (lg_cmp (v3.toInt64 * x2.toInt64) 200) ≤ 0 → (EvM l E w d MX10_trouble [.ref w.1, .int 2, .int (s2.1 127)] s2 (fun r s5 => r = none ∧ Q none s5))))))))) : EvM l E w (d + 1) MX10_pad [.ref w.1, .int x1, .int x2, .int x3] s Q :=
  EvM.of hst (by decide) (Nat.le_of_ble_eq_true rfl) (vX10_pad_0 hT)
theorem vX10_pad_65 {l : Launch} {E : EN} {w : MO} {d : Nat} {s : MS} {Q : Option Value → MS → Prop} {a1 : Int32} {a2 : Int32} {a3 : Int32} {a5 : Int32} (hT : (EvM l E w d MX10_sizeAt [.ref w.1, .int a1] s (fun r s1 => ∃ v2 : Int32, r = some (.int v2) ∧ ((v2 ≤ a5 → (EvM l E w d MX10_builds [.ref w.1, .int 2, .int a3] s1 (fun r s3 => r = none ∧ Q none s3))) ∧ (¬ v2 ≤ a5 → (EvM l E w d MX10_partAt [.ref w.1, .int a1, .int a5] s1 (fun r s4 => ∃ v5 : Int32, r = some (.int v5) ∧ (∀ y6 : Int32, y6 = (s4.1 108) → ExM l E w (d + 1) MX10_pad 93 [some (.ref w.1), some (.int a1), some (.int a2), some (.int a3), none, some (.int a5), some (.int v5), some (.int y6), some (.int 0)] [] s4 Q)))))))) : ExM l E w (d + 1) MX10_pad 65 [some (.ref w.1), some (.int a1), some (.int a2), some (.int a3), none, some (.int a5), none, none, none] [] s Q := by
  intro h0 h hW hF
  refine x_iload dX10_pad_65 rfl ?_
  refine x_aload_n dX10_pad_67 rfl rfl rfl ?_
  refine x_iload_n dX10_pad_68 rfl rfl ?_
  refine m_inv (vs := [.int a1]) dX10_pad_69 oX10_sizeAt q2735 q2733 qs107 rfl rfl (Nat.le_of_ble_eq_true rfl) rfl hW hF hT ?_
  rintro _ s1 ⟨v2, rfl, hT⟩ h hW hF
  refine x_icmp_ge (tgt := 149) dX10_pad_72 rfl (fun c => ?_) (fun c => ?_)
  · have hT := hT.1 c
    refine x_aload_n dX10_pad_149 rfl rfl rfl ?_
    refine x_iconst (v := 2) dX10_pad_150 rfl ?_
    refine x_iload_n dX10_pad_151 rfl rfl ?_
    refine m_inv (vs := [.int 2, .int a3]) dX10_pad_152 oX10_builds q2739 q2737 qs108 rfl rfl (Nat.le_of_ble_eq_true rfl) rfl hW hF hT ?_
    rintro _ s3 ⟨rfl, hT⟩ h hW hF
    exact x_vret dX10_pad_155 rfl ⟨_, _, rfl, hW, hF, hT⟩
  · have hT := hT.2 c
    refine x_aload_n dX10_pad_75 rfl rfl rfl ?_
    refine x_iload_n dX10_pad_76 rfl rfl ?_
    refine x_iload dX10_pad_77 rfl ?_
    refine m_inv (vs := [.int a1, .int a5]) dX10_pad_79 oX10_partAt q2751 q2749 qs111 rfl rfl (Nat.le_of_ble_eq_true rfl) rfl hW hF hT ?_
    rintro _ s4 ⟨v5, rfl, hT⟩ h hW hF
    refine x_istore (lo' := [some (.ref w.1), some (.int a1), some (.int a2), some (.int a3), none, some (.int a5), some (.int v5), none, none]) dX10_pad_82 (Nat.le_of_ble_eq_true rfl) rfl ?_
    refine x_aload_n dX10_pad_84 rfl rfl rfl ?_
    refine m_geti (v := (s4.1 108)) dX10_pad_85 f_TallySlateModel_461 (by decide) rfl hW rfl ?_
    obtain ⟨y6, ey6⟩ : ∃ z : Int32, z = (s4.1 108) := ⟨_, rfl⟩
    have hT := hT y6 ey6
    refine x_istore (lo' := [some (.ref w.1), some (.int a1), some (.int a2), some (.int a3), none, some (.int a5), some (.int v5), some (.int y6), none]) dX10_pad_88 (Nat.le_of_ble_eq_true rfl) (by rw [ey6]; rfl) ?_
    refine x_iconst (v := 0) dX10_pad_90 rfl ?_
    refine x_istore (lo' := [some (.ref w.1), some (.int a1), some (.int a2), some (.int a3), none, some (.int a5), some (.int v5), some (.int y6), some (.int 0)]) dX10_pad_91 (Nat.le_of_ble_eq_true rfl) rfl ?_
    exact hT h0 h hW hF
theorem vX10_pad_93 {l : Launch} {E : EN} {w : MO} {d : Nat} {s : MS} {Q : Option Value → MS → Prop} {a1 : Int32} {a2 : Int32} {a3 : Int32} {a5 : Int32} {a6 : Int32} {a7 : Int32} {a8 : Int32} (hT : ((a2 ≤ a8 → (EvM l E w d MX10_rowOf [.ref w.1, .int a7] s (fun r s1 => r = none ∧ ExM l E w (d + 1) MX10_pad 65 [some (.ref w.1), some (.int a1), some (.int a2), some (.int a3), none, some (.int (a5 + 1)), none, none, none] [] s1 Q))) ∧ (¬ a2 ≤ a8 → (EvM l E w d MX10_sizeAt [.ref w.1, .int a6] s (fun r s2 => ∃ v3 : Int32, r = some (.int v3) ∧ ((v3 ≤ a8 → (EvM l E w d MX10_push [.ref w.1, .int 0, .int 0] s2 (fun r s4 => r = none ∧ ExM l E w (d + 1) MX10_pad 93 [some (.ref w.1), some (.int a1), some (.int a2), some (.int a3), none, some (.int a5), some (.int a6), some (.int a7), some (.int (a8 + 1))] [] s4 Q))) ∧ (¬ v3 ≤ a8 → (inB ((a6 + 2) + a8) 166300 ∧ (EvM l E w d MX10_push [.ref w.1, .int 0, .int (s2.2.2.1 104 ((a6 + 2) + a8).toNatClampNeg)] s2 (fun r s5 => r = none ∧ ExM l E w (d + 1) MX10_pad 93 [some (.ref w.1), some (.int a1), some (.int a2), some (.int a3), none, some (.int a5), some (.int a6), some (.int a7), some (.int (a8 + 1))] [] s5 Q)))))))))) : ExM l E w (d + 1) MX10_pad 93 [some (.ref w.1), some (.int a1), some (.int a2), some (.int a3), none, some (.int a5), some (.int a6), some (.int a7), some (.int a8)] [] s Q := by
  intro h0 h hW hF
  refine x_iload dX10_pad_93 rfl ?_
  refine x_iload_n dX10_pad_95 rfl rfl ?_
  refine x_icmp_ge (tgt := 137) dX10_pad_96 rfl (fun c => ?_) (fun c => ?_)
  · have hT := hT.1 c
    refine x_aload_n dX10_pad_137 rfl rfl rfl ?_
    refine x_iload dX10_pad_138 rfl ?_
    refine m_inv (vs := [.int a7]) dX10_pad_140 oX10_rowOf q2775 q2773 qs117 rfl rfl (Nat.le_of_ble_eq_true rfl) rfl hW hF hT ?_
    rintro _ s1 ⟨rfl, hT⟩ h hW hF
    refine x_iinc (lo' := [some (.ref w.1), some (.int a1), some (.int a2), some (.int a3), none, some (.int (a5 + 1)), some (.int a6), some (.int a7), some (.int a8)]) dX10_pad_143 rfl (show _ = (a5 + 1) from rfl) rfl ?_
    refine x_goto (tgt := 65) dX10_pad_146 rfl ?_
    refine Ex.wkl (lo' := [some (.ref w.1), some (.int a1), some (.int a2), some (.int a3), none, some (.int (a5 + 1)), none, none, none]) ⟨rfl, rfl, rfl, rfl, rfl, trivial⟩ ?_
    exact hT h0 h hW hF
  · have hT := hT.2 c
    refine x_aload_n dX10_pad_99 rfl rfl rfl ?_
    refine x_iconst (v := 0) dX10_pad_100 rfl ?_
    refine x_iload dX10_pad_101 rfl ?_
    refine x_aload_n dX10_pad_103 rfl rfl rfl ?_
    refine x_iload dX10_pad_104 rfl ?_
    refine m_inv (vs := [.int a6]) dX10_pad_106 oX10_sizeAt q2735 q2733 qs107 rfl rfl (Nat.le_of_ble_eq_true rfl) rfl hW hF hT ?_
    rintro _ s2 ⟨v3, rfl, hT⟩ h hW hF
    refine x_icmp_ge (tgt := 127) dX10_pad_109 rfl (fun c => ?_) (fun c => ?_)
    · have hT := hT.1 c
      refine x_iconst (v := 0) dX10_pad_127 rfl ?_
      refine m_inv (vs := [.int 0, .int 0]) dX10_pad_128 oX10_push q2708 q2706 qs101 rfl rfl (Nat.le_of_ble_eq_true rfl) rfl hW hF hT ?_
      rintro _ s4 ⟨rfl, hT⟩ h hW hF
      refine x_iinc (lo' := [some (.ref w.1), some (.int a1), some (.int a2), some (.int a3), none, some (.int a5), some (.int a6), some (.int a7), some (.int (a8 + 1))]) dX10_pad_131 rfl (show _ = (a8 + 1) from rfl) rfl ?_
      refine x_goto (tgt := 93) dX10_pad_134 rfl ?_
      exact hT h0 h hW hF
    · have hT := hT.2 c
      refine x_aload_n dX10_pad_112 rfl rfl rfl ?_
      refine m_geta dX10_pad_113 f_TallySlateModel_183 (by decide) rfl hW ?_
      refine x_iload dX10_pad_116 rfl ?_
      refine x_iconst (v := 2) dX10_pad_118 rfl ?_
      refine x_iadd dX10_pad_119 ?_
      refine x_iload dX10_pad_120 rfl ?_
      refine x_iadd dX10_pad_122 ?_
      obtain ⟨hb, hT⟩ := hT
      refine m_iald (v := (s2.2.2.1 104 ((a6 + 2) + a8).toNatClampNeg)) dX10_pad_123 rfl hb hW rfl ?_
      refine x_goto (tgt := 128) dX10_pad_124 rfl ?_
      refine m_inv (vs := [.int 0, .int (s2.2.2.1 104 ((a6 + 2) + a8).toNatClampNeg)]) dX10_pad_128 oX10_push q2708 q2706 qs101 rfl rfl (Nat.le_of_ble_eq_true rfl) rfl hW hF hT ?_
      rintro _ s5 ⟨rfl, hT⟩ h hW hF
      refine x_iinc (lo' := [some (.ref w.1), some (.int a1), some (.int a2), some (.int a3), none, some (.int a5), some (.int a6), some (.int a7), some (.int (a8 + 1))]) dX10_pad_131 rfl (show _ = (a8 + 1) from rfl) rfl ?_
      refine x_goto (tgt := 93) dX10_pad_134 rfl ?_
      exact hT h0 h hW hF
theorem vX10_outer_0 {l : Launch} {E : EN} {w : MO} {d : Nat} {s : MS} {Q : Option Value → MS → Prop} {x1 : Int32} {x2 : Int32} {x3 : Int32} (hT : (EvM l E w d MX10_sizeAt [.ref w.1, .int x1] s (fun r s1 => ∃ v2 : Int32, r = some (.int v2) ∧ ((20 < v2 → (EvM l E w d MX10_trouble [.ref w.1, .int 2, .int (s1.1 127)] s1 (fun r s3 => r = none ∧ Q none s3))) ∧ (¬ 20 < v2 → (EvM l E w d MX10_sizeAt [.ref w.1, .int x1] s1 (fun r s4 => ∃ v5 : Int32, r = some (.int v5) ∧ (EvM l E w d MX10_sizeAt [.ref w.1, .int x2] s4 (fun r s6 => ∃ v7 : Int32, r = some (.int v7) ∧ (((v5 * v7) ≤ 200 → ExM l E w (d + 1) MX10_outer 45 [some (.ref w.1), some (.int x1), some (.int x2), some (.int x3), some (.int 0), none, none] [] (sI s6 108 x3) Q) ∧ (¬ (v5 * v7) ≤ 200 → (EvM l E w d MX10_trouble [.ref w.1, .int 2, .int (s6.1 127)] s6 (fun r s8 => r = none ∧ Q none s8))))))))))))) : ExM l E w (d + 1) MX10_outer 0 [some (.ref w.1), some (.int x1), some (.int x2), some (.int x3), none, none, none] [] s Q := by
  intro h0 h hW hF
  refine x_aload_n dX10_outer_0 rfl rfl rfl ?_
  refine x_iload_n dX10_outer_1 rfl rfl ?_
  refine m_inv (vs := [.int x1]) dX10_outer_2 oX10_sizeAt q2735 q2733 qs107 rfl rfl (Nat.le_of_ble_eq_true rfl) rfl hW hF hT ?_
  rintro _ s1 ⟨v2, rfl, hT⟩ h hW hF
  refine x_bipush (v := 20) dX10_outer_5 rfl ?_
  refine x_icmp_gt (tgt := 27) dX10_outer_7 rfl (fun c => ?_) (fun c => ?_)
  · have hT := hT.1 c
    refine x_aload_n dX10_outer_27 rfl rfl rfl ?_
    refine x_iconst (v := 2) dX10_outer_28 rfl ?_
    refine x_aload_n dX10_outer_29 rfl rfl rfl ?_
    refine m_geti (v := (s1.1 127)) dX10_outer_30 f_TallySlateModel_507 (by decide) rfl hW rfl ?_
    refine m_inv (vs := [.int 2, .int (s1.1 127)]) dX10_outer_33 oX10_trouble q2696 q2694 qs98 rfl rfl (Nat.le_of_ble_eq_true rfl) rfl hW hF hT ?_
    rintro _ s3 ⟨rfl, hT⟩ h hW hF
    exact x_vret dX10_outer_36 rfl ⟨_, _, rfl, hW, hF, hT⟩
  · have hT := hT.2 c
    refine x_aload_n dX10_outer_10 rfl rfl rfl ?_
    refine x_iload_n dX10_outer_11 rfl rfl ?_
    refine m_inv (vs := [.int x1]) dX10_outer_12 oX10_sizeAt q2735 q2733 qs107 rfl rfl (Nat.le_of_ble_eq_true rfl) rfl hW hF hT ?_
    rintro _ s4 ⟨v5, rfl, hT⟩ h hW hF
    refine x_aload_n dX10_outer_15 rfl rfl rfl ?_
    refine x_iload_n dX10_outer_16 rfl rfl ?_
    refine m_inv (vs := [.int x2]) dX10_outer_17 oX10_sizeAt q2735 q2733 qs107 rfl rfl (Nat.le_of_ble_eq_true rfl) rfl hW hF hT ?_
    rintro _ s6 ⟨v7, rfl, hT⟩ h hW hF
    refine x_imul dX10_outer_20 ?_
    refine x_sipush (v := 200) dX10_outer_21 rfl ?_
    refine x_icmp_le (tgt := 37) dX10_outer_24 rfl (fun c => ?_) (fun c => ?_)
    · have hT := hT.1 c
      refine x_aload_n dX10_outer_37 rfl rfl rfl ?_
      refine x_iload_n dX10_outer_38 rfl rfl ?_
      refine m_puti dX10_outer_39 f_TallySlateModel_461 (by decide) rfl rfl rfl rfl hW hF ?_
      intro h hW hF
      refine x_iconst (v := 0) dX10_outer_42 rfl ?_
      refine x_istore (lo' := [some (.ref w.1), some (.int x1), some (.int x2), some (.int x3), some (.int 0), none, none]) dX10_outer_43 (Nat.le_of_ble_eq_true rfl) rfl ?_
      exact hT h0 h hW hF
    · have hT := hT.2 c
      refine x_aload_n dX10_outer_27 rfl rfl rfl ?_
      refine x_iconst (v := 2) dX10_outer_28 rfl ?_
      refine x_aload_n dX10_outer_29 rfl rfl rfl ?_
      refine m_geti (v := (s6.1 127)) dX10_outer_30 f_TallySlateModel_507 (by decide) rfl hW rfl ?_
      refine m_inv (vs := [.int 2, .int (s6.1 127)]) dX10_outer_33 oX10_trouble q2696 q2694 qs98 rfl rfl (Nat.le_of_ble_eq_true rfl) rfl hW hF hT ?_
      rintro _ s8 ⟨rfl, hT⟩ h hW hF
      exact x_vret dX10_outer_36 rfl ⟨_, _, rfl, hW, hF, hT⟩
theorem eX10_outer {l : Launch} {E : EN} {w : MO} {d : Nat} {s : MS} {Q : Option Value → MS → Prop} {x1 : Int32} {x2 : Int32} {x3 : Int32} (hst : l.stackTraces = false) (hT : (EvM l E w d MX10_sizeAt [.ref w.1, .int x1] s (fun r s1 => ∃ v2 : Int32, r = some (.int v2) ∧ ((20 < v2 → (EvM l E w d MX10_trouble [.ref w.1, .int 2, .int (s1.1 127)] s1 (fun r s3 => r = none ∧ Q none s3))) ∧ (¬ 20 < v2 → (EvM l E w d MX10_sizeAt [.ref w.1, .int x1] s1 (fun r s4 => ∃ v5 : Int32, r = some (.int v5) ∧ (EvM l E w d MX10_sizeAt [.ref w.1, .int x2] s4 (fun r s6 => ∃ v7 : Int32, r = some (.int v7) ∧ (((v5 * v7) ≤ 200 → ExM l E w (d + 1) MX10_outer 45 [some (.ref w.1), some (.int x1), some (.int x2), some (.int x3), some (.int 0), none, none] [] (sI s6 108 x3) Q) ∧ (¬ (v5 * v7) ≤ 200 → (EvM l E w d MX10_trouble [.ref w.1, .int 2, .int (s6.1 127)] s6 (fun r s8 => r = none ∧ Q none s8))))))))))))) : EvM l E w (d + 1) MX10_outer [.ref w.1, .int x1, .int x2, .int x3] s Q :=
  EvM.of hst (by decide) (Nat.le_of_ble_eq_true rfl) (vX10_outer_0 hT)
theorem vX10_outer_45 {l : Launch} {E : EN} {w : MO} {d : Nat} {s : MS} {Q : Option Value → MS → Prop} {a1 : Int32} {a2 : Int32} {a3 : Int32} {a4 : Int32} (hT : (EvM l E w d MX10_sizeAt [.ref w.1, .int a1] s (fun r s1 => ∃ v2 : Int32, r = some (.int v2) ∧ ((v2 ≤ a4 → (EvM l E w d MX10_builds [.ref w.1, .int 2, .int a3] s1 (fun r s3 => r = none ∧ Q none s3))) ∧ (¬ v2 ≤ a4 → (∀ y4 : Int32, y4 = (s1.1 108) → ExM l E w (d + 1) MX10_outer 64 [some (.ref w.1), some (.int a1), some (.int a2), some (.int a3), some (.int a4), some (.int y4), some (.int 0)] [] s1 Q)))))) : ExM l E w (d + 1) MX10_outer 45 [some (.ref w.1), some (.int a1), some (.int a2), some (.int a3), some (.int a4), none, none] [] s Q := by
  intro h0 h hW hF
  refine x_iload dX10_outer_45 rfl ?_
  refine x_aload_n dX10_outer_47 rfl rfl rfl ?_
  refine x_iload_n dX10_outer_48 rfl rfl ?_
  refine m_inv (vs := [.int a1]) dX10_outer_49 oX10_sizeAt q2735 q2733 qs107 rfl rfl (Nat.le_of_ble_eq_true rfl) rfl hW hF hT ?_
  rintro _ s1 ⟨v2, rfl, hT⟩ h hW hF
  refine x_icmp_ge (tgt := 120) dX10_outer_52 rfl (fun c => ?_) (fun c => ?_)
  · have hT := hT.1 c
    refine x_aload_n dX10_outer_120 rfl rfl rfl ?_
    refine x_iconst (v := 2) dX10_outer_121 rfl ?_
    refine x_iload_n dX10_outer_122 rfl rfl ?_
    refine m_inv (vs := [.int 2, .int a3]) dX10_outer_123 oX10_builds q2739 q2737 qs108 rfl rfl (Nat.le_of_ble_eq_true rfl) rfl hW hF hT ?_
    rintro _ s3 ⟨rfl, hT⟩ h hW hF
    exact x_vret dX10_outer_126 rfl ⟨_, _, rfl, hW, hF, hT⟩
  · have hT := hT.2 c
    refine x_aload_n dX10_outer_55 rfl rfl rfl ?_
    refine m_geti (v := (s1.1 108)) dX10_outer_56 f_TallySlateModel_461 (by decide) rfl hW rfl ?_
    obtain ⟨y4, ey4⟩ : ∃ z : Int32, z = (s1.1 108) := ⟨_, rfl⟩
    have hT := hT y4 ey4
    refine x_istore (lo' := [some (.ref w.1), some (.int a1), some (.int a2), some (.int a3), some (.int a4), some (.int y4), none]) dX10_outer_59 (Nat.le_of_ble_eq_true rfl) (by rw [ey4]; rfl) ?_
    refine x_iconst (v := 0) dX10_outer_61 rfl ?_
    refine x_istore (lo' := [some (.ref w.1), some (.int a1), some (.int a2), some (.int a3), some (.int a4), some (.int y4), some (.int 0)]) dX10_outer_62 (Nat.le_of_ble_eq_true rfl) rfl ?_
    exact hT h0 h hW hF
theorem vX10_outer_64 {l : Launch} {E : EN} {w : MO} {d : Nat} {s : MS} {Q : Option Value → MS → Prop} {a1 : Int32} {a2 : Int32} {a3 : Int32} {a4 : Int32} {a5 : Int32} {a6 : Int32} (hT : (EvM l E w d MX10_sizeAt [.ref w.1, .int a2] s (fun r s1 => ∃ v2 : Int32, r = some (.int v2) ∧ ((v2 ≤ a6 → (EvM l E w d MX10_rowOf [.ref w.1, .int a5] s1 (fun r s3 => r = none ∧ ExM l E w (d + 1) MX10_outer 45 [some (.ref w.1), some (.int a1), some (.int a2), some (.int a3), some (.int (a4 + 1)), none, none] [] s3 Q))) ∧ (¬ v2 ≤ a6 → (inB ((a1 + 2) + a4) 166300 ∧ (inB ((a2 + 2) + a6) 166300 ∧ (EvM l E w d MX10_push [.ref w.1, .int 0, .int ((s1.2.2.1 104 ((a1 + 2) + a4).toNatClampNeg) * (s1.2.2.1 104 ((a2 + 2) + a6).toNatClampNeg))] s1 (fun r s4 => r = none ∧ ExM l E w (d + 1) MX10_outer 64 [some (.ref w.1), some (.int a1), some (.int a2), some (.int a3), some (.int a4), some (.int a5), some (.int (a6 + 1))] [] s4 Q))))))))) : ExM l E w (d + 1) MX10_outer 64 [some (.ref w.1), some (.int a1), some (.int a2), some (.int a3), some (.int a4), some (.int a5), some (.int a6)] [] s Q := by
  intro h0 h hW hF
  refine x_iload dX10_outer_64 rfl ?_
  refine x_aload_n dX10_outer_66 rfl rfl rfl ?_
  refine x_iload_n dX10_outer_67 rfl rfl ?_
  refine m_inv (vs := [.int a2]) dX10_outer_68 oX10_sizeAt q2735 q2733 qs107 rfl rfl (Nat.le_of_ble_eq_true rfl) rfl hW hF hT ?_
  rintro _ s1 ⟨v2, rfl, hT⟩ h hW hF
  refine x_icmp_ge (tgt := 108) dX10_outer_71 rfl (fun c => ?_) (fun c => ?_)
  · have hT := hT.1 c
    refine x_aload_n dX10_outer_108 rfl rfl rfl ?_
    refine x_iload dX10_outer_109 rfl ?_
    refine m_inv (vs := [.int a5]) dX10_outer_111 oX10_rowOf q2775 q2773 qs117 rfl rfl (Nat.le_of_ble_eq_true rfl) rfl hW hF hT ?_
    rintro _ s3 ⟨rfl, hT⟩ h hW hF
    refine x_iinc (lo' := [some (.ref w.1), some (.int a1), some (.int a2), some (.int a3), some (.int (a4 + 1)), some (.int a5), some (.int a6)]) dX10_outer_114 rfl (show _ = (a4 + 1) from rfl) rfl ?_
    refine x_goto (tgt := 45) dX10_outer_117 rfl ?_
    refine Ex.wkl (lo' := [some (.ref w.1), some (.int a1), some (.int a2), some (.int a3), some (.int (a4 + 1)), none, none]) ⟨rfl, rfl, rfl, rfl, rfl, trivial⟩ ?_
    exact hT h0 h hW hF
  · have hT := hT.2 c
    refine x_aload_n dX10_outer_74 rfl rfl rfl ?_
    refine x_iconst (v := 0) dX10_outer_75 rfl ?_
    refine x_aload_n dX10_outer_76 rfl rfl rfl ?_
    refine m_geta dX10_outer_77 f_TallySlateModel_183 (by decide) rfl hW ?_
    refine x_iload_n dX10_outer_80 rfl rfl ?_
    refine x_iconst (v := 2) dX10_outer_81 rfl ?_
    refine x_iadd dX10_outer_82 ?_
    refine x_iload dX10_outer_83 rfl ?_
    refine x_iadd dX10_outer_85 ?_
    obtain ⟨hb, hT⟩ := hT
    refine m_iald (v := (s1.2.2.1 104 ((a1 + 2) + a4).toNatClampNeg)) dX10_outer_86 rfl hb hW rfl ?_
    refine x_aload_n dX10_outer_87 rfl rfl rfl ?_
    refine m_geta dX10_outer_88 f_TallySlateModel_183 (by decide) rfl hW ?_
    refine x_iload_n dX10_outer_91 rfl rfl ?_
    refine x_iconst (v := 2) dX10_outer_92 rfl ?_
    refine x_iadd dX10_outer_93 ?_
    refine x_iload dX10_outer_94 rfl ?_
    refine x_iadd dX10_outer_96 ?_
    obtain ⟨hb, hT⟩ := hT
    refine m_iald (v := (s1.2.2.1 104 ((a2 + 2) + a6).toNatClampNeg)) dX10_outer_97 rfl hb hW rfl ?_
    refine x_imul dX10_outer_98 ?_
    refine m_inv (vs := [.int 0, .int ((s1.2.2.1 104 ((a1 + 2) + a4).toNatClampNeg) * (s1.2.2.1 104 ((a2 + 2) + a6).toNatClampNeg))]) dX10_outer_99 oX10_push q2708 q2706 qs101 rfl rfl (Nat.le_of_ble_eq_true rfl) rfl hW hF hT ?_
    rintro _ s4 ⟨rfl, hT⟩ h hW hF
    refine x_iinc (lo' := [some (.ref w.1), some (.int a1), some (.int a2), some (.int a3), some (.int a4), some (.int a5), some (.int (a6 + 1))]) dX10_outer_102 rfl (show _ = (a6 + 1) from rfl) rfl ?_
    refine x_goto (tgt := 64) dX10_outer_105 rfl ?_
    exact hT h0 h hW hF
