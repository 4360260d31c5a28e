/-! weakest preconditions of methods of the component: printed by wpc.py -/
set_option maxRecDepth 100000
theorem vX0_feed_0 {l : Launch} {E : EN} {w : CO} {d : Nat} {s : CS} {f : RH} {Q : KO → CS → RH → Prop} {x1 : Int32} {x2 : Int32} {x3 : Int32} {x4 : Int32} {x5 : Int32}  (hT : ((((s.1 1) + 20) ≤ 1620 → (EvC l E w d MX0_lay [.ref (w.1 0), .int x1] s f (fun o s1 f2 => KP o (fun r => r = none ∧ (EvC l E w d MX0_lay [.ref (w.1 0), .int x2] s1 f2 (fun o s3 f4 => KP o (fun r => r = none ∧ (EvC l E w d MX0_lay [.ref (w.1 0), .int x3] s3 f4 (fun o s5 f6 => KP o (fun r => r = none ∧ (EvC l E w d MX0_lay [.ref (w.1 0), .int x4] s5 f6 (fun o s7 f8 => KP o (fun r => r = none ∧ (EvC l E w d MX0_lay [.ref (w.1 0), .int x5] s7 f8 (fun o s9 f10 => KP o (fun r => r = none ∧ Q (.inl (some (.int (s9.1 1)))) s9 f10) (fun k => Q (.inr k) s9 f10)))) (fun k => Q (.inr k) s7 f8)))) (fun k => Q (.inr k) s5 f6)))) (fun k => Q (.inr k) s3 f4)))) (fun k => Q (.inr k) s1 f2)))) ∧ (¬ ((s.1 1) + 20) ≤ 1620 → Q (.inl (some (.int (-1)))) s f))) : ExC l E w (d + 1) MX0_feed 0 [some (.ref (w.1 0)), some (.int x1), some (.int x2), some (.int x3), some (.int x4), some (.int x5)] [] s f Q := by
  intro f0 h hW hF
  refine x_aload_n dX0_feed_0 rfl rfl rfl ?_
  refine c_getI (v := (s.1 1)) dX0_feed_1 f_TallySlate_44 (by decide) (by decide) rfl hW rfl ?_
  refine x_bipush (v := 20) dX0_feed_4 rfl ?_
  refine x_iadd dX0_feed_6 ?_
  refine x_sipush (v := 1620) dX0_feed_7 rfl ?_
  refine x_icmp_le (tgt := 15) dX0_feed_10 rfl (fun c => ?_) (fun c => ?_)
  · replace hT := hT.1 c
    refine x_aload_n dX0_feed_15 rfl rfl rfl ?_
    refine x_iload_n dX0_feed_16 rfl rfl ?_
    obtain ⟨-, -, cc, hcc, -⟩ := hW.ob 0 (by decide)
    refine c_invV (vs := [.int x1]) dX0_feed_17 oX0_lay q557 q555 hcc qs1 (Or.inl rfl) rfl rfl (Nat.le_of_ble_eq_true rfl) rfl hW hF hT ?_ ?_
    · intro _ s1 f2 hT h hW hF
      obtain ⟨rfl, hT⟩ := hT
      refine x_aload_n dX0_feed_20 rfl rfl rfl ?_
      refine x_iload_n dX0_feed_21 rfl rfl ?_
      obtain ⟨-, -, cc, hcc, -⟩ := hW.ob 0 (by decide)
      refine c_invV (vs := [.int x2]) dX0_feed_22 oX0_lay q557 q555 hcc qs1 (Or.inl rfl) rfl rfl (Nat.le_of_ble_eq_true rfl) rfl hW hF hT ?_ ?_
      · intro _ s3 f4 hT h hW hF
        obtain ⟨rfl, hT⟩ := hT
        refine x_aload_n dX0_feed_25 rfl rfl rfl ?_
        refine x_iload_n dX0_feed_26 rfl rfl ?_
        obtain ⟨-, -, cc, hcc, -⟩ := hW.ob 0 (by decide)
        refine c_invV (vs := [.int x3]) dX0_feed_27 oX0_lay q557 q555 hcc qs1 (Or.inl rfl) rfl rfl (Nat.le_of_ble_eq_true rfl) rfl hW hF hT ?_ ?_
        · intro _ s5 f6 hT h hW hF
          obtain ⟨rfl, hT⟩ := hT
          refine x_aload_n dX0_feed_30 rfl rfl rfl ?_
          refine x_iload dX0_feed_31 rfl ?_
          obtain ⟨-, -, cc, hcc, -⟩ := hW.ob 0 (by decide)
          refine c_invV (vs := [.int x4]) dX0_feed_33 oX0_lay q557 q555 hcc qs1 (Or.inl rfl) rfl rfl (Nat.le_of_ble_eq_true rfl) rfl hW hF hT ?_ ?_
          · intro _ s7 f8 hT h hW hF
            obtain ⟨rfl, hT⟩ := hT
            refine x_aload_n dX0_feed_36 rfl rfl rfl ?_
            refine x_iload dX0_feed_37 rfl ?_
            obtain ⟨-, -, cc, hcc, -⟩ := hW.ob 0 (by decide)
            refine c_invV (vs := [.int x5]) dX0_feed_39 oX0_lay q557 q555 hcc qs1 (Or.inl rfl) rfl rfl (Nat.le_of_ble_eq_true rfl) rfl hW hF hT ?_ ?_
            · intro _ s9 f10 hT h hW hF
              obtain ⟨rfl, hT⟩ := hT
              refine x_aload_n dX0_feed_42 rfl rfl rfl ?_
              refine c_getI (v := (s9.1 1)) dX0_feed_43 f_TallySlate_44 (by decide) (by decide) rfl hW rfl ?_
              exact x_iret dX0_feed_46 rfl rfl ⟨_, _, hW, hF, Or.inl ⟨_, rfl, hT⟩⟩
            · intro k s9 f10 hT h a hW hx hF
              exact c_out (rfl) hW hx hF hT
          · intro k s7 f8 hT h a hW hx hF
            exact c_out (rfl) hW hx hF hT
        · intro k s5 f6 hT h a hW hx hF
          exact c_out (rfl) hW hx hF hT
      · intro k s3 f4 hT h a hW hx hF
        exact c_out (rfl) hW hx hF hT
    · intro k s1 f2 hT h a hW hx hF
      exact c_out (rfl) hW hx hF hT
  · replace hT := hT.2 c
    refine x_iconst (v := (-1)) dX0_feed_13 rfl ?_
    exact x_iret dX0_feed_14 rfl rfl ⟨_, _, hW, hF, Or.inl ⟨_, rfl, hT⟩⟩
theorem eX0_feed {l : Launch} {E : EN} {w : CO} {d : Nat} {s : CS} {f : RH} {Q : KO → CS → RH → Prop} {x1 : Int32} {x2 : Int32} {x3 : Int32} {x4 : Int32} {x5 : Int32}  (hst : l.stackTraces = false) (hT : ((((s.1 1) + 20) ≤ 1620 → (EvC l E w d MX0_lay [.ref (w.1 0), .int x1] s f (fun o s1 f2 => KP o (fun r => r = none ∧ (EvC l E w d MX0_lay [.ref (w.1 0), .int x2] s1 f2 (fun o s3 f4 => KP o (fun r => r = none ∧ (EvC l E w d MX0_lay [.ref (w.1 0), .int x3] s3 f4 (fun o s5 f6 => KP o (fun r => r = none ∧ (EvC l E w d MX0_lay [.ref (w.1 0), .int x4] s5 f6 (fun o s7 f8 => KP o (fun r => r = none ∧ (EvC l E w d MX0_lay [.ref (w.1 0), .int x5] s7 f8 (fun o s9 f10 => KP o (fun r => r = none ∧ Q (.inl (some (.int (s9.1 1)))) s9 f10) (fun k => Q (.inr k) s9 f10)))) (fun k => Q (.inr k) s7 f8)))) (fun k => Q (.inr k) s5 f6)))) (fun k => Q (.inr k) s3 f4)))) (fun k => Q (.inr k) s1 f2)))) ∧ (¬ ((s.1 1) + 20) ≤ 1620 → Q (.inl (some (.int (-1)))) s f))) : EvC l E w (d + 1) MX0_feed [.ref (w.1 0), .int x1, .int x2, .int x3, .int x4, .int x5] s f Q :=
  EvC.of hst (by decide) (Nat.le_of_ble_eq_true rfl) (vX0_feed_0  hT)
theorem vX0_lay_0 {l : Launch} {E : EN} {w : CO} {d : Nat} {s : CS} {f : RH} {Q : KO → CS → RH → Prop} {x1 : Int32}  (hT : ExC l E w d MX0_lay 3 [some (.ref (w.1 0)), some (.int x1), some (.int 24)] [] s f Q) : ExC l E w d MX0_lay 0 [some (.ref (w.1 0)), some (.int x1), none] [] s f Q := by
  intro f0 h hW hF
  refine x_bipush (v := 24) dX0_lay_0 rfl ?_
  refine x_istore_n (lo' := [some (.ref (w.1 0)), some (.int x1), some (.int 24)]) dX0_lay_2 rfl (Nat.le_of_ble_eq_true rfl) rfl ?_
  exact hT f0 h hW hF
theorem eX0_lay {l : Launch} {E : EN} {w : CO} {d : Nat} {s : CS} {f : RH} {Q : KO → CS → RH → Prop} {x1 : Int32}  (hst : l.stackTraces = false) (hT : ExC l E w d MX0_lay 3 [some (.ref (w.1 0)), some (.int x1), some (.int 24)] [] s f Q) : EvC l E w d MX0_lay [.ref (w.1 0), .int x1] s f Q :=
  EvC.of hst (by decide) (Nat.le_of_ble_eq_true rfl) (vX0_lay_0  hT)
theorem vX0_lay_3 {l : Launch} {E : EN} {w : CO} {d : Nat} {s : CS} {f : RH} {Q : KO → CS → RH → Prop} {b1 : Int32} {b2 : Int32}  (hT : ((b2 < 0 → Q (.inl none) s f) ∧ (¬ b2 < 0 → (inB (s.1 1) 1620 ∧ ExC l E w d MX0_lay 3 [some (.ref (w.1 0)), some (.int b1), some (.int (b2 + (-8)))] [] (uI (uA s 0 (s.1 1).toNatClampNeg (b1 >>> (b2 &&& 31)).toInt8.toInt32.toInt8.toInt32) 1 ((s.1 1) + 1)) f Q)))) : ExC l E w d MX0_lay 3 [some (.ref (w.1 0)), some (.int b1), some (.int b2)] [] s f Q := by
  intro f0 h hW hF
  refine x_iload_n dX0_lay_3 rfl rfl ?_
  refine x_if_lt (tgt := 36) dX0_lay_4 rfl (fun c => ?_) (fun c => ?_)
  · replace hT := hT.1 c
    exact x_vret dX0_lay_36 rfl ⟨_, _, hW, hF, Or.inl ⟨_, rfl, hT⟩⟩
  · replace hT := hT.2 c
    refine x_aload_n dX0_lay_7 rfl rfl rfl ?_
    refine c_getA dX0_lay_8 f_TallySlate_17 (by decide) (by decide) rfl hW ?_
    refine x_aload_n dX0_lay_11 rfl rfl rfl ?_
    refine c_getI (v := (s.1 1)) dX0_lay_12 f_TallySlate_44 (by decide) (by decide) rfl hW rfl ?_
    refine x_iload_n dX0_lay_15 rfl rfl ?_
    refine x_iload_n dX0_lay_16 rfl rfl ?_
    refine x_ishr dX0_lay_17 ?_
    refine x_i2b dX0_lay_18 ?_
    obtain ⟨hb, hT⟩ := hT
    refine c_bast dX0_lay_19 rfl hb hW ?_
    intro h hW
    refine x_aload_n dX0_lay_20 rfl rfl rfl ?_
    refine x_dup dX0_lay_21 rfl ?_
    refine c_getI (v := (s.1 1)) dX0_lay_22 f_TallySlate_44 (by decide) (by decide) rfl hW rfl ?_
    refine x_iconst (v := 1) dX0_lay_25 rfl ?_
    refine x_iadd dX0_lay_26 ?_
    refine c_putI dX0_lay_27 f_TallySlate_44 (by decide) (by decide) rfl rfl rfl rfl hW ?_
    intro h hW
    refine x_iinc (lo' := [some (.ref (w.1 0)), some (.int b1), some (.int (b2 + (-8)))]) dX0_lay_30 rfl (show _ = (b2 + (-8)) from rfl) rfl ?_
    refine x_goto (tgt := 3) dX0_lay_33 rfl ?_
    exact hT f0 h hW hF
set_option maxHeartbeats 16000000 in
theorem vX0_load_0 {l : Launch} {E : EN} {w : CO} {d : Nat} {s : CS} {f : RH} {Q : KO → CS → RH → Prop} {x1 : Int32}  (hT : ((x1 < 0 → Q (.inl (some (.int (-2)))) s f) ∧ (¬ x1 < 0 → ((x1 ≤ (s.1 1) → ((x1 ≤ 1600 → (EvC l E w d MX2_begin [.ref (w.1 2), .ref (w.2.1 0), .int x1] (uI (uI (uI (uI s 1 0) 3 1) 14 0) 15 (-1)) f (fun o s1 f2 => KP o (fun r => r = none ∧ (rmF E f2 1 6 ∧ ∀ (a3 : Nat) (f4 : RH), a3 = f2.1 → f4 = fnew f2 11 → (EvC l E w d MX11_init [.ref a3, .ref (w.1 2)] s1 f4 (fun o s5 f6 => KP o (fun r => r = none ∧ (oc f6 a3 11 ∧ EvC l E w d MX11_read [.ref a3] s5 f6 (fun o s7 f8 => KP o (fun r => r = none ∧ (∃ v9 : Value, (.ref a3) = v9 ∧ isR v9 = true ∧ (∃ a10 : Nat, v9 = .ref a10 ∧ (oc f8 a10 11 ∧ (∃ v11 : Int32, vl f8 a10 149 = .int v11 ∧ Q (.inl (some (.int v11))) (uR s7 6 (.ref a3)) f8))))) (fun k => (k = 1 ∧ Q (.inl (some (.int (-1)))) s7 f8) ∨ (k = 9 ∧ Q (.inr 9) s7 f8))))) (fun k => (k = 1 ∧ Q (.inl (some (.int (-1)))) s5 f6) ∨ (k = 9 ∧ Q (.inr 9) s5 f6)))))) (fun k => (k = 1 ∧ Q (.inl (some (.int (-1)))) s1 f2) ∨ (k = 9 ∧ Q (.inr 9) s1 f2))))) ∧ (¬ x1 ≤ 1600 → (EvC l E w d MX2_wrong [.ref (w.1 2), .int 1, .int 1600] (uI (uI (uI (uI s 1 0) 3 1) 14 0) 15 (-1)) f (fun o s13 f14 => KP o (fun r => r = some (.ref (w.1 1)) ∧ Q (.inl (some (.int (-1)))) s13 f14) (fun k => (k = 1 ∧ Q (.inl (some (.int (-1)))) s13 f14) ∨ (k = 9 ∧ Q (.inr 9) s13 f14))))))) ∧ (¬ x1 ≤ (s.1 1) → Q (.inl (some (.int (-2)))) s f))))) : ExC l E w (d + 1) MX0_load 0 [some (.ref (w.1 0)), some (.int x1), none] [] s f Q := by
  intro f0 h hW hF
  refine x_iload_n dX0_load_0 rfl rfl ?_
  refine x_if_lt (tgt := 12) dX0_load_1 rfl (fun c => ?_) (fun c => ?_)
  · replace hT := hT.1 c
    refine x_bipush (v := (-2)) dX0_load_12 rfl ?_
    exact x_iret dX0_load_14 rfl rfl ⟨_, _, hW, hF, Or.inl ⟨_, rfl, hT⟩⟩
  · replace hT := hT.2 c
    refine x_iload_n dX0_load_4 rfl rfl ?_
    refine x_aload_n dX0_load_5 rfl rfl rfl ?_
    refine c_getI (v := (s.1 1)) dX0_load_6 f_TallySlate_44 (by decide) (by decide) rfl hW rfl ?_
    refine x_icmp_le (tgt := 15) dX0_load_9 rfl (fun c => ?_) (fun c => ?_)
    · replace hT := hT.1 c
      refine x_aload_n dX0_load_15 rfl rfl rfl ?_
      refine x_iconst (v := 0) dX0_load_16 rfl ?_
      refine c_putI dX0_load_17 f_TallySlate_44 (by decide) (by decide) rfl rfl rfl rfl hW ?_
      intro h hW
      refine x_aload_n dX0_load_20 rfl rfl rfl ?_
      refine x_iconst (v := 1) dX0_load_21 rfl ?_
      refine c_putI dX0_load_22 f_TallySlate_52 (by decide) (by decide) rfl rfl rfl rfl hW ?_
      intro h hW
      refine x_aload_n dX0_load_25 rfl rfl rfl ?_
      refine c_getO dX0_load_26 f_TallySlate_24 (by decide) (by decide) rfl hW ?_
      refine x_iconst (v := 0) dX0_load_29 rfl ?_
      refine c_putI dX0_load_30 f_TallySlate_56 (by decide) (by decide) rfl rfl rfl rfl hW ?_
      intro h hW
      refine x_aload_n dX0_load_33 rfl rfl rfl ?_
      refine c_getO dX0_load_34 f_TallySlate_24 (by decide) (by decide) rfl hW ?_
      refine x_iconst (v := (-1)) dX0_load_37 rfl ?_
      refine c_putI dX0_load_38 f_TallySlate_59 (by decide) (by decide) rfl rfl rfl rfl hW ?_
      intro h hW
      refine x_iload_n dX0_load_41 rfl rfl ?_
      refine x_sipush (v := 1600) dX0_load_42 rfl ?_
      refine x_icmp_le (tgt := 60) dX0_load_45 rfl (fun c => ?_) (fun c => ?_)
      · replace hT := hT.1 c
        refine x_aload_n dX0_load_60 rfl rfl rfl ?_
        refine c_getO dX0_load_61 f_TallySlate_33 (by decide) (by decide) rfl hW ?_
        refine x_aload_n dX0_load_64 rfl rfl rfl ?_
        refine c_getA dX0_load_65 f_TallySlate_17 (by decide) (by decide) rfl hW ?_
        refine x_iload_n dX0_load_68 rfl rfl ?_
        obtain ⟨-, -, cc, hcc, -⟩ := hW.ob 2 (by decide)
        refine c_invV (vs := [.ref (w.2.1 0), .int x1]) dX0_load_69 oX2_begin q568 q567 hcc q569 (Or.inl rfl) rfl rfl (Nat.le_of_ble_eq_true rfl) rfl hW hF hT ?_ ?_
        · intro _ s1 f2 hT h hW hF
          obtain ⟨rfl, hT⟩ := hT
          obtain ⟨hr, hT⟩ := hT
          refine c_newG (k := 11) dX0_load_72 (by decide) q574 q178 hr hW hF ?_
          intro a3 f4 ea3 ef4 h hW hF
          replace hT := hT a3 f4 ea3 ef4
          refine x_dup dX0_load_75 rfl ?_
          refine x_aload_n dX0_load_76 rfl rfl rfl ?_
          refine c_getO dX0_load_77 f_TallySlate_33 (by decide) (by decide) rfl hW ?_
          refine c_invI (b := a3) (vs := [.ref (w.1 2)]) dX0_load_80 oX11_init rfl rfl rfl q577 (Or.inl q576) rfl rfl (Nat.le_of_ble_eq_true rfl) rfl hW hF hT ?_ ?_
          · intro _ s5 f6 hT h hW hF
            obtain ⟨rfl, hT⟩ := hT
            refine x_astore_n (lo' := [some (.ref (w.1 0)), some (.int x1), some (.ref a3)]) dX0_load_83 rfl (Nat.le_of_ble_eq_true rfl) rfl rfl ?_
            refine x_aload_n dX0_load_84 rfl rfl rfl ?_
            obtain ⟨hc, hT⟩ := hT
            obtain ⟨cc, hcc⟩ := hW.ocell hc
            refine c_invV (vs := []) dX0_load_85 oX11_read q606 q605 hcc q607 (Or.inl rfl) rfl rfl (Nat.le_of_ble_eq_true rfl) rfl hW hF hT ?_ ?_
            · intro _ s7 f8 hT h hW hF
              obtain ⟨rfl, hT⟩ := hT
              refine x_aload_n dX0_load_88 rfl rfl rfl ?_
              refine x_aload_n dX0_load_89 rfl rfl rfl ?_
              refine c_putR dX0_load_90 f_TallySlate_78 (by decide) (by decide) rfl rfl rfl rfl hW ?_
              intro h hW
              refine x_goto (tgt := 99) dX0_load_93 rfl ?_
              refine x_aload_n dX0_load_99 rfl rfl rfl ?_
              obtain ⟨v9, ev, iv9, hT⟩ := hT
              refine c_getR (v := v9) dX0_load_100 f_TallySlate_78 (by decide) (by decide) rfl hW ev ?_
              obtain ⟨a10, rfl, hT⟩ := hT
              obtain ⟨hc, hT⟩ := hT
              obtain ⟨v11, ev, hT⟩ := hT
              refine c_fgetG dX0_load_103 f_TallySlate_82 hc (by decide) (by decide) hW ev ?_
              exact x_iret dX0_load_106 rfl rfl ⟨_, _, hW, hF, Or.inl ⟨_, rfl, hT⟩⟩
            · intro k s7 f8 hT h a hW hx hF
              rcases hT with ⟨rfl, hT⟩ | ⟨rfl, hT⟩
              · obtain rfl : a = w.1 1 := xA.is1 hx
                refine c_catch (hsr_yes (by decide) (by decide) q221 (Or.inl rfl)) hW hx ?_
                refine x_astore_n (lo' := [some (.ref (w.1 0)), some (.int x1), some (.ref (w.1 1))]) dX0_load_96 rfl (Nat.le_of_ble_eq_true rfl) rfl rfl ?_
                refine x_iconst (v := (-1)) dX0_load_97 rfl ?_
                exact x_iret dX0_load_98 rfl rfl ⟨_, _, hW, hF, Or.inl ⟨_, rfl, hT⟩⟩
              · exact c_out (hsr_no (by decide) (by decide) q221 (by decide +kernel) (rfl)) hW hx hF hT
          · intro k s5 f6 hT h a hW hx hF
            rcases hT with ⟨rfl, hT⟩ | ⟨rfl, hT⟩
            · obtain rfl : a = w.1 1 := xA.is1 hx
              refine c_catch (hsr_yes (by decide) (by decide) q221 (Or.inl rfl)) hW hx ?_
              refine x_astore_n (lo' := [some (.ref (w.1 0)), some (.int x1), some (.ref (w.1 1))]) dX0_load_96 rfl (Nat.le_of_ble_eq_true rfl) rfl rfl ?_
              refine x_iconst (v := (-1)) dX0_load_97 rfl ?_
              exact x_iret dX0_load_98 rfl rfl ⟨_, _, hW, hF, Or.inl ⟨_, rfl, hT⟩⟩
            · exact c_out (hsr_no (by decide) (by decide) q221 (by decide +kernel) (rfl)) hW hx hF hT
        · intro k s1 f2 hT h a hW hx hF
          rcases hT with ⟨rfl, hT⟩ | ⟨rfl, hT⟩
          · obtain rfl : a = w.1 1 := xA.is1 hx
            refine c_catch (hsr_yes (by decide) (by decide) q221 (Or.inl rfl)) hW hx ?_
            refine x_astore_n (lo' := [some (.ref (w.1 0)), some (.int x1), some (.ref (w.1 1))]) dX0_load_96 rfl (Nat.le_of_ble_eq_true rfl) rfl rfl ?_
            refine x_iconst (v := (-1)) dX0_load_97 rfl ?_
            exact x_iret dX0_load_98 rfl rfl ⟨_, _, hW, hF, Or.inl ⟨_, rfl, hT⟩⟩
          · exact c_out (hsr_no (by decide) (by decide) q221 (by decide +kernel) (rfl)) hW hx hF hT
      · replace hT := hT.2 c
        refine x_aload_n dX0_load_48 rfl rfl rfl ?_
        refine c_getO dX0_load_49 f_TallySlate_33 (by decide) (by decide) rfl hW ?_
        refine x_iconst (v := 1) dX0_load_52 rfl ?_
        refine x_sipush (v := 1600) dX0_load_53 rfl ?_
        obtain ⟨-, -, cc, hcc, -⟩ := hW.ob 2 (by decide)
        refine c_invV (vs := [.int 1, .int 1600]) dX0_load_56 oX2_wrong q564 q563 hcc q565 (Or.inl rfl) rfl rfl (Nat.le_of_ble_eq_true rfl) rfl hW hF hT ?_ ?_
        · intro _ s13 f14 hT h hW hF
          obtain ⟨rfl, hT⟩ := hT
          refine x_athrow dX0_load_59 ?_
          refine c_catch (hsr_yes (by decide) (by decide) q221 (Or.inl rfl)) hW (Or.inr (Or.inl ⟨rfl, rfl⟩)) ?_
          refine x_astore_n (lo' := [some (.ref (w.1 0)), some (.int x1), some (.ref (w.1 1))]) dX0_load_96 rfl (Nat.le_of_ble_eq_true rfl) rfl rfl ?_
          refine x_iconst (v := (-1)) dX0_load_97 rfl ?_
          exact x_iret dX0_load_98 rfl rfl ⟨_, _, hW, hF, Or.inl ⟨_, rfl, hT⟩⟩
        · intro k s13 f14 hT h a hW hx hF
          rcases hT with ⟨rfl, hT⟩ | ⟨rfl, hT⟩
          · obtain rfl : a = w.1 1 := xA.is1 hx
            refine c_catch (hsr_yes (by decide) (by decide) q221 (Or.inl rfl)) hW hx ?_
            refine x_astore_n (lo' := [some (.ref (w.1 0)), some (.int x1), some (.ref (w.1 1))]) dX0_load_96 rfl (Nat.le_of_ble_eq_true rfl) rfl rfl ?_
            refine x_iconst (v := (-1)) dX0_load_97 rfl ?_
            exact x_iret dX0_load_98 rfl rfl ⟨_, _, hW, hF, Or.inl ⟨_, rfl, hT⟩⟩
          · exact c_out (hsr_no (by decide) (by decide) q221 (by decide +kernel) (rfl)) hW hx hF hT
    · replace hT := hT.2 c
      refine x_bipush (v := (-2)) dX0_load_12 rfl ?_
      exact x_iret dX0_load_14 rfl rfl ⟨_, _, hW, hF, Or.inl ⟨_, rfl, hT⟩⟩
theorem eX0_load {l : Launch} {E : EN} {w : CO} {d : Nat} {s : CS} {f : RH} {Q : KO → CS → RH → Prop} {x1 : Int32}  (hst : l.stackTraces = false) (hT : ((x1 < 0 → Q (.inl (some (.int (-2)))) s f) ∧ (¬ x1 < 0 → ((x1 ≤ (s.1 1) → ((x1 ≤ 1600 → (EvC l E w d MX2_begin [.ref (w.1 2), .ref (w.2.1 0), .int x1] (uI (uI (uI (uI s 1 0) 3 1) 14 0) 15 (-1)) f (fun o s1 f2 => KP o (fun r => r = none ∧ (rmF E f2 1 6 ∧ ∀ (a3 : Nat) (f4 : RH), a3 = f2.1 → f4 = fnew f2 11 → (EvC l E w d MX11_init [.ref a3, .ref (w.1 2)] s1 f4 (fun o s5 f6 => KP o (fun r => r = none ∧ (oc f6 a3 11 ∧ EvC l E w d MX11_read [.ref a3] s5 f6 (fun o s7 f8 => KP o (fun r => r = none ∧ (∃ v9 : Value, (.ref a3) = v9 ∧ isR v9 = true ∧ (∃ a10 : Nat, v9 = .ref a10 ∧ (oc f8 a10 11 ∧ (∃ v11 : Int32, vl f8 a10 149 = .int v11 ∧ Q (.inl (some (.int v11))) (uR s7 6 (.ref a3)) f8))))) (fun k => (k = 1 ∧ Q (.inl (some (.int (-1)))) s7 f8) ∨ (k = 9 ∧ Q (.inr 9) s7 f8))))) (fun k => (k = 1 ∧ Q (.inl (some (.int (-1)))) s5 f6) ∨ (k = 9 ∧ Q (.inr 9) s5 f6)))))) (fun k => (k = 1 ∧ Q (.inl (some (.int (-1)))) s1 f2) ∨ (k = 9 ∧ Q (.inr 9) s1 f2))))) ∧ (¬ x1 ≤ 1600 → (EvC l E w d MX2_wrong [.ref (w.1 2), .int 1, .int 1600] (uI (uI (uI (uI s 1 0) 3 1) 14 0) 15 (-1)) f (fun o s13 f14 => KP o (fun r => r = some (.ref (w.1 1)) ∧ Q (.inl (some (.int (-1)))) s13 f14) (fun k => (k = 1 ∧ Q (.inl (some (.int (-1)))) s13 f14) ∨ (k = 9 ∧ Q (.inr 9) s13 f14))))))) ∧ (¬ x1 ≤ (s.1 1) → Q (.inl (some (.int (-2)))) s f))))) : EvC l E w (d + 1) MX0_load [.ref (w.1 0), .int x1] s f Q :=
  EvC.of hst (by decide) (Nat.le_of_ble_eq_true rfl) (vX0_load_0  hT)
theorem vX0_fault_0 {l : Launch} {E : EN} {w : CO} {d : Nat} {s : CS} {f : RH} {Q : KO → CS → RH → Prop} {x1 : Int32}  (hT : (((s.1 3) = 0 → Q (.inl (some (.int (-1)))) s f) ∧ (¬ (s.1 3) = 0 → ((x1 < 0 → Q (.inl (some (.int (-1)))) s f) ∧ (¬ x1 < 0 → ((x1 ≤ 1 → ((¬ x1 = 0 → Q (.inl (some (.int (s.1 15)))) s f) ∧ (x1 = 0 → Q (.inl (some (.int (s.1 14)))) s f))) ∧ (¬ x1 ≤ 1 → Q (.inl (some (.int (-1)))) s f))))))) : ExC l E w d MX0_fault 0 [some (.ref (w.1 0)), some (.int x1)] [] s f Q := by
  intro f0 h hW hF
  refine x_aload_n dX0_fault_0 rfl rfl rfl ?_
  refine c_getI (v := (s.1 3)) dX0_fault_1 f_TallySlate_52 (by decide) (by decide) rfl hW rfl ?_
  refine x_if_eq (tgt := 16) dX0_fault_4 rfl (fun c => ?_) (fun c => ?_)
  · replace hT := hT.1 c
    refine x_iconst (v := (-1)) dX0_fault_16 rfl ?_
    refine x_goto (tgt := 41) dX0_fault_17 rfl ?_
    exact x_iret dX0_fault_41 rfl rfl ⟨_, _, hW, hF, Or.inl ⟨_, rfl, hT⟩⟩
  · replace hT := hT.2 c
    refine x_iload_n dX0_fault_7 rfl rfl ?_
    refine x_if_lt (tgt := 16) dX0_fault_8 rfl (fun c => ?_) (fun c => ?_)
    · replace hT := hT.1 c
      refine x_iconst (v := (-1)) dX0_fault_16 rfl ?_
      refine x_goto (tgt := 41) dX0_fault_17 rfl ?_
      exact x_iret dX0_fault_41 rfl rfl ⟨_, _, hW, hF, Or.inl ⟨_, rfl, hT⟩⟩
    · replace hT := hT.2 c
      refine x_iload_n dX0_fault_11 rfl rfl ?_
      refine x_iconst (v := 1) dX0_fault_12 rfl ?_
      refine x_icmp_le (tgt := 20) dX0_fault_13 rfl (fun c => ?_) (fun c => ?_)
      · replace hT := hT.1 c
        refine x_iload_n dX0_fault_20 rfl rfl ?_
        refine x_if_ne (tgt := 34) dX0_fault_21 rfl (fun c => ?_) (fun c => ?_)
        · replace hT := hT.1 c
          refine x_aload_n dX0_fault_34 rfl rfl rfl ?_
          refine c_getO dX0_fault_35 f_TallySlate_24 (by decide) (by decide) rfl hW ?_
          refine c_getI (v := (s.1 15)) dX0_fault_38 f_TallySlate_59 (by decide) (by decide) rfl hW rfl ?_
          exact x_iret dX0_fault_41 rfl rfl ⟨_, _, hW, hF, Or.inl ⟨_, rfl, hT⟩⟩
        · replace hT := hT.2 c
          refine x_aload_n dX0_fault_24 rfl rfl rfl ?_
          refine c_getO dX0_fault_25 f_TallySlate_24 (by decide) (by decide) rfl hW ?_
          refine c_getI (v := (s.1 14)) dX0_fault_28 f_TallySlate_56 (by decide) (by decide) rfl hW rfl ?_
          refine x_goto (tgt := 41) dX0_fault_31 rfl ?_
          exact x_iret dX0_fault_41 rfl rfl ⟨_, _, hW, hF, Or.inl ⟨_, rfl, hT⟩⟩
      · replace hT := hT.2 c
        refine x_iconst (v := (-1)) dX0_fault_16 rfl ?_
        refine x_goto (tgt := 41) dX0_fault_17 rfl ?_
        exact x_iret dX0_fault_41 rfl rfl ⟨_, _, hW, hF, Or.inl ⟨_, rfl, hT⟩⟩
theorem eX0_fault {l : Launch} {E : EN} {w : CO} {d : Nat} {s : CS} {f : RH} {Q : KO → CS → RH → Prop} {x1 : Int32}  (hst : l.stackTraces = false) (hT : (((s.1 3) = 0 → Q (.inl (some (.int (-1)))) s f) ∧ (¬ (s.1 3) = 0 → ((x1 < 0 → Q (.inl (some (.int (-1)))) s f) ∧ (¬ x1 < 0 → ((x1 ≤ 1 → ((¬ x1 = 0 → Q (.inl (some (.int (s.1 15)))) s f) ∧ (x1 = 0 → Q (.inl (some (.int (s.1 14)))) s f))) ∧ (¬ x1 ≤ 1 → Q (.inl (some (.int (-1)))) s f))))))) : EvC l E w d MX0_fault [.ref (w.1 0), .int x1] s f Q :=
  EvC.of hst (by decide) (Nat.le_of_ble_eq_true rfl) (vX0_fault_0  hT)
theorem vX0_function_0 {l : Launch} {E : EN} {w : CO} {d : Nat} {s : CS} {f : RH} {Q : KO → CS → RH → Prop} {x1 : Int32} {x2 : Int32}  (hT : (EvC l E w d MX0_definition [.ref (w.1 0), .int x1] s f (fun o s1 f2 => KP o (fun r => ∃ v3 : Value, r = some v3 ∧ isR v3 = true ∧ ((v3 = .null → Q (.inl (some (.int (-1)))) s1 f2) ∧ (∀ a4 : Nat, v3 = .ref a4 → ((¬ x2 = 0 → ((¬ x2 = 1 → ((¬ x2 = 2 → Q (.inl (some (.int (-1)))) s1 f2) ∧ (x2 = 2 → (oc f2 a4 12 ∧ (∃ v5 : Int32, vl f2 a4 154 = .int v5 ∧ Q (.inl (some (.int v5))) s1 f2))))) ∧ (x2 = 1 → (oc f2 a4 12 ∧ (∃ v6 : Int32, vl f2 a4 156 = .int v6 ∧ Q (.inl (some (.int v6))) s1 f2))))) ∧ (x2 = 0 → (oc f2 a4 12 ∧ (∃ v7 : Int32, vl f2 a4 155 = .int v7 ∧ Q (.inl (some (.int v7))) s1 f2))))))) (fun k => Q (.inr k) s1 f2)))) : ExC l E w (d + 1) MX0_function 0 [some (.ref (w.1 0)), some (.int x1), some (.int x2), none] [] s f Q := by
  intro f0 h hW hF
  refine x_aload_n dX0_function_0 rfl rfl rfl ?_
  refine x_iload_n dX0_function_1 rfl rfl ?_
  obtain ⟨-, -, cc, hcc, -⟩ := hW.ob 0 (by decide)
  refine c_invV (vs := [.int x1]) dX0_function_2 oX0_definition q1299 q1297 hcc qs35 (Or.inl rfl) rfl rfl (Nat.le_of_ble_eq_true rfl) rfl hW hF hT ?_ ?_
  · intro _ s1 f2 hT h hW hF
    obtain ⟨v3, rfl, iv3, hT⟩ := hT
    refine x_astore_n (lo' := [some (.ref (w.1 0)), some (.int x1), some (.int x2), some (v3)]) dX0_function_5 rfl (Nat.le_of_ble_eq_true rfl) iv3 rfl ?_
    refine x_aload_n dX0_function_6 rfl rfl iv3 ?_
    refine x_ifnonnull (tgt := 12) dX0_function_7 rfl iv3 (fun a4 e => ?_) (fun e => ?_)
    · subst e
      replace hT := hT.2 a4 rfl
      refine x_iload_n dX0_function_12 rfl rfl ?_
      refine x_if_ne (tgt := 23) dX0_function_13 rfl (fun c => ?_) (fun c => ?_)
      · replace hT := hT.1 c
        refine x_iload_n dX0_function_23 rfl rfl ?_
        refine x_iconst (v := 1) dX0_function_24 rfl ?_
        refine x_icmp_ne (tgt := 35) dX0_function_25 rfl (fun c => ?_) (fun c => ?_)
        · replace hT := hT.1 c
          refine x_iload_n dX0_function_35 rfl rfl ?_
          refine x_iconst (v := 2) dX0_function_36 rfl ?_
          refine x_icmp_ne (tgt := 47) dX0_function_37 rfl (fun c => ?_) (fun c => ?_)
          · replace hT := hT.1 c
            refine x_iconst (v := (-1)) dX0_function_47 rfl ?_
            exact x_iret dX0_function_48 rfl rfl ⟨_, _, hW, hF, Or.inl ⟨_, rfl, hT⟩⟩
          · replace hT := hT.2 c
            refine x_aload_n dX0_function_40 rfl rfl rfl ?_
            obtain ⟨hc, hT⟩ := hT
            obtain ⟨v5, ev, hT⟩ := hT
            refine c_fgetG dX0_function_41 f_TallySlate_101 hc (by decide) (by decide) hW ev ?_
            refine x_goto (tgt := 48) dX0_function_44 rfl ?_
            exact x_iret dX0_function_48 rfl rfl ⟨_, _, hW, hF, Or.inl ⟨_, rfl, hT⟩⟩
        · replace hT := hT.2 c
          refine x_aload_n dX0_function_28 rfl rfl rfl ?_
          obtain ⟨hc, hT⟩ := hT
          obtain ⟨v6, ev, hT⟩ := hT
          refine c_fgetG dX0_function_29 f_TallySlate_98 hc (by decide) (by decide) hW ev ?_
          refine x_goto (tgt := 48) dX0_function_32 rfl ?_
          exact x_iret dX0_function_48 rfl rfl ⟨_, _, hW, hF, Or.inl ⟨_, rfl, hT⟩⟩
      · replace hT := hT.2 c
        refine x_aload_n dX0_function_16 rfl rfl rfl ?_
        obtain ⟨hc, hT⟩ := hT
        obtain ⟨v7, ev, hT⟩ := hT
        refine c_fgetG dX0_function_17 f_TallySlate_93 hc (by decide) (by decide) hW ev ?_
        refine x_goto (tgt := 48) dX0_function_20 rfl ?_
        exact x_iret dX0_function_48 rfl rfl ⟨_, _, hW, hF, Or.inl ⟨_, rfl, hT⟩⟩
    · subst e
      replace hT := hT.1 rfl
      refine x_iconst (v := (-1)) dX0_function_10 rfl ?_
      exact x_iret dX0_function_11 rfl rfl ⟨_, _, hW, hF, Or.inl ⟨_, rfl, hT⟩⟩
  · intro k s1 f2 hT h a hW hx hF
    exact c_out (rfl) hW hx hF hT
theorem eX0_function {l : Launch} {E : EN} {w : CO} {d : Nat} {s : CS} {f : RH} {Q : KO → CS → RH → Prop} {x1 : Int32} {x2 : Int32}  (hst : l.stackTraces = false) (hT : (EvC l E w d MX0_definition [.ref (w.1 0), .int x1] s f (fun o s1 f2 => KP o (fun r => ∃ v3 : Value, r = some v3 ∧ isR v3 = true ∧ ((v3 = .null → Q (.inl (some (.int (-1)))) s1 f2) ∧ (∀ a4 : Nat, v3 = .ref a4 → ((¬ x2 = 0 → ((¬ x2 = 1 → ((¬ x2 = 2 → Q (.inl (some (.int (-1)))) s1 f2) ∧ (x2 = 2 → (oc f2 a4 12 ∧ (∃ v5 : Int32, vl f2 a4 154 = .int v5 ∧ Q (.inl (some (.int v5))) s1 f2))))) ∧ (x2 = 1 → (oc f2 a4 12 ∧ (∃ v6 : Int32, vl f2 a4 156 = .int v6 ∧ Q (.inl (some (.int v6))) s1 f2))))) ∧ (x2 = 0 → (oc f2 a4 12 ∧ (∃ v7 : Int32, vl f2 a4 155 = .int v7 ∧ Q (.inl (some (.int v7))) s1 f2))))))) (fun k => Q (.inr k) s1 f2)))) : EvC l E w (d + 1) MX0_function [.ref (w.1 0), .int x1, .int x2] s f Q :=
  EvC.of hst (by decide) (Nat.le_of_ble_eq_true rfl) (vX0_function_0  hT)
theorem vX0_definition_0 {l : Launch} {E : EN} {w : CO} {d : Nat} {s : CS} {f : RH} {Q : KO → CS → RH → Prop} {x1 : Int32}  (hT : (∃ v1 : Value, (s.2.1 6) = v1 ∧ isR v1 = true ∧ ((v1 = .null → Q (.inl (some (.null))) s f) ∧ (∀ a2 : Nat, v1 = .ref a2 → ((x1 < 0 → Q (.inl (some (.null))) s f) ∧ (¬ x1 < 0 → (∃ v3 : Value, (s.2.1 6) = v3 ∧ isR v3 = true ∧ (∃ a4 : Nat, v3 = .ref a4 ∧ (oc f a4 11 ∧ (∃ v5 : Int32, vl f a4 149 = .int v5 ∧ ((x1 < v5 → (∃ v6 : Value, (s.2.1 6) = v6 ∧ isR v6 = true ∧ (∃ a7 : Nat, v6 = .ref a7 ∧ (oc f a7 11 ∧ (∃ a8 : Nat, vl f a7 148 = .ref a8 ∧ (∃ t9 : Nat, 4 ≤ t9 ∧ (tg f a8 = some (.inr t9) ∧ inB x1 (ln f a8) ∧ (∃ a10 : Nat, vl f a8 x1.toNatClampNeg = .ref a10 ∧ Q (.inl (some (.ref a10))) s f)))))))) ∧ (¬ x1 < v5 → Q (.inl (some (.null))) s f)))))))))))) : ExC l E w d MX0_definition 0 [some (.ref (w.1 0)), some (.int x1)] [] s f Q := by
  intro f0 h hW hF
  refine x_aload_n dX0_definition_0 rfl rfl rfl ?_
  obtain ⟨v1, ev, iv1, hT⟩ := hT
  refine c_getR (v := v1) dX0_definition_1 f_TallySlate_78 (by decide) (by decide) rfl hW ev ?_
  refine x_ifnull (tgt := 22) dX0_definition_4 rfl iv1 (fun e => ?_) (fun a2 e => ?_)
  · subst e
    replace hT := hT.1 rfl
    refine x_null dX0_definition_22 ?_
    refine x_goto (tgt := 35) dX0_definition_23 rfl ?_
    exact x_aret dX0_definition_35 rfl (by first | exact Or.inl ⟨_, rfl⟩ | exact Or.inr ⟨_, rfl⟩) rfl ⟨_, _, hW, hF, Or.inl ⟨_, rfl, hT⟩⟩
  · subst e
    replace hT := hT.2 a2 rfl
    refine x_iload_n dX0_definition_7 rfl rfl ?_
    refine x_if_lt (tgt := 22) dX0_definition_8 rfl (fun c => ?_) (fun c => ?_)
    · replace hT := hT.1 c
      refine x_null dX0_definition_22 ?_
      refine x_goto (tgt := 35) dX0_definition_23 rfl ?_
      exact x_aret dX0_definition_35 rfl (by first | exact Or.inl ⟨_, rfl⟩ | exact Or.inr ⟨_, rfl⟩) rfl ⟨_, _, hW, hF, Or.inl ⟨_, rfl, hT⟩⟩
    · replace hT := hT.2 c
      refine x_iload_n dX0_definition_11 rfl rfl ?_
      refine x_aload_n dX0_definition_12 rfl rfl rfl ?_
      obtain ⟨v3, ev, iv3, hT⟩ := hT
      refine c_getR (v := v3) dX0_definition_13 f_TallySlate_78 (by decide) (by decide) rfl hW ev ?_
      obtain ⟨a4, rfl, hT⟩ := hT
      obtain ⟨hc, hT⟩ := hT
      obtain ⟨v5, ev, hT⟩ := hT
      refine c_fgetG dX0_definition_16 f_TallySlate_82 hc (by decide) (by decide) hW ev ?_
      refine x_icmp_lt (tgt := 26) dX0_definition_19 rfl (fun c => ?_) (fun c => ?_)
      · replace hT := hT.1 c
        refine x_aload_n dX0_definition_26 rfl rfl rfl ?_
        obtain ⟨v6, ev, iv6, hT⟩ := hT
        refine c_getR (v := v6) dX0_definition_27 f_TallySlate_78 (by decide) (by decide) rfl hW ev ?_
        obtain ⟨a7, rfl, hT⟩ := hT
        obtain ⟨hc, hT⟩ := hT
        obtain ⟨a8, ev, hT⟩ := hT
        refine c_fgetG dX0_definition_30 f_TallySlate_85 hc (by decide) (by decide) hW ev ?_
        refine x_iload_n dX0_definition_33 rfl rfl ?_
        obtain ⟨t9, ht2, hc, hT⟩ := hT
        obtain ⟨hb, hT⟩ := hT
        obtain ⟨a10, ev, hT⟩ := hT
        refine c_faald dX0_definition_34 hc ht2 hb hW ev ?_
        exact x_aret dX0_definition_35 rfl (by first | exact Or.inl ⟨_, rfl⟩ | exact Or.inr ⟨_, rfl⟩) rfl ⟨_, _, hW, hF, Or.inl ⟨_, rfl, hT⟩⟩
      · replace hT := hT.2 c
        refine x_null dX0_definition_22 ?_
        refine x_goto (tgt := 35) dX0_definition_23 rfl ?_
        exact x_aret dX0_definition_35 rfl (by first | exact Or.inl ⟨_, rfl⟩ | exact Or.inr ⟨_, rfl⟩) rfl ⟨_, _, hW, hF, Or.inl ⟨_, rfl, hT⟩⟩
theorem eX0_definition {l : Launch} {E : EN} {w : CO} {d : Nat} {s : CS} {f : RH} {Q : KO → CS → RH → Prop} {x1 : Int32}  (hst : l.stackTraces = false) (hT : (∃ v1 : Value, (s.2.1 6) = v1 ∧ isR v1 = true ∧ ((v1 = .null → Q (.inl (some (.null))) s f) ∧ (∀ a2 : Nat, v1 = .ref a2 → ((x1 < 0 → Q (.inl (some (.null))) s f) ∧ (¬ x1 < 0 → (∃ v3 : Value, (s.2.1 6) = v3 ∧ isR v3 = true ∧ (∃ a4 : Nat, v3 = .ref a4 ∧ (oc f a4 11 ∧ (∃ v5 : Int32, vl f a4 149 = .int v5 ∧ ((x1 < v5 → (∃ v6 : Value, (s.2.1 6) = v6 ∧ isR v6 = true ∧ (∃ a7 : Nat, v6 = .ref a7 ∧ (oc f a7 11 ∧ (∃ a8 : Nat, vl f a7 148 = .ref a8 ∧ (∃ t9 : Nat, 4 ≤ t9 ∧ (tg f a8 = some (.inr t9) ∧ inB x1 (ln f a8) ∧ (∃ a10 : Nat, vl f a8 x1.toNatClampNeg = .ref a10 ∧ Q (.inl (some (.ref a10))) s f)))))))) ∧ (¬ x1 < v5 → Q (.inl (some (.null))) s f)))))))))))) : EvC l E w d MX0_definition [.ref (w.1 0), .int x1] s f Q :=
  EvC.of hst (by decide) (Nat.le_of_ble_eq_true rfl) (vX0_definition_0  hT)
set_option maxHeartbeats 16000000 in
theorem vX0_run_0 {l : Launch} {E : EN} {w : CO} {d : Nat} {s : CS} {f : RH} {Q : KO → CS → RH → Prop} {x1 : Int32} {x2 : Int32} {x3 : Int32}  (hT : (EvC l E w d MX0_definition [.ref (w.1 0), .int x1] s f (fun o s1 f2 => KP o (fun r => ∃ v3 : Value, r = some v3 ∧ isR v3 = true ∧ ((v3 = .null → Q (.inl (some (.int (-1)))) s1 f2) ∧ (∀ a4 : Nat, v3 = .ref a4 → (oc f2 a4 12 ∧ (∃ v5 : Int32, vl f2 a4 155 = .int v5 ∧ ((0 < v5 → Q (.inl (some (.int (-1)))) s1 f2) ∧ (¬ 0 < v5 → ((x2 = (-1) → ((x3 < 1 → Q (.inl (some (.int (-1)))) s1 f2) ∧ (¬ x3 < 1 → ((x3 ≤ 20000 → (EvC l E w d MX3_begin [.ref (w.1 3), .int x3] s1 f2 (fun o s6 f7 => KP o (fun r => r = none ∧ (EvC l E w d MX4_keep [.ref (w.1 4), .int 6] s6 f7 (fun o s8 f9 => KP o (fun r => r = none ∧ (EvC l E w d MX3_call [.ref (w.1 3), .ref a4, .int (-1)] (uI s8 7 1) f9 (fun o s10 f11 => KP o (fun r => r = none ∧ ((¬ x2 = (-1) → (EvC l E w d MX3_put [.ref (w.1 3), .int x2] s10 f11 (fun o s12 f13 => KP o (fun r => r = none ∧ (EvC l E w d MX3_wrong [.ref (w.1 3), .int 0, .int (-1)] s12 f13 (fun o s14 f15 => KP o (fun r => r = some (.ref (w.1 9)) ∧ Q (.inl (some (.int (s14.1 54)))) s14 f15) (fun k => Q (.inr k) s14 f15)))) (fun k => Q (.inr k) s12 f13)))) ∧ (x2 = (-1) → (EvC l E w d MX3_drop [.ref (w.1 3)] s10 f11 (fun o s16 f17 => KP o (fun r => r = none ∧ (EvC l E w d MX3_wrong [.ref (w.1 3), .int 0, .int (-1)] s16 f17 (fun o s18 f19 => KP o (fun r => r = some (.ref (w.1 9)) ∧ Q (.inl (some (.int (s18.1 54)))) s18 f19) (fun k => Q (.inr k) s18 f19)))) (fun k => Q (.inr k) s16 f17)))))) (fun k => (k = 9 ∧ (EvC l E w d MX4_back [.ref (w.1 4), .int 6] s10 f11 (fun o s20 f21 => KP o (fun r => r = none ∧ Q (.inl (some (.int (s20.1 54)))) s20 f21) (fun k => Q (.inr k) s20 f21)))))))) (fun k => Q (.inr k) s8 f9)))) (fun k => Q (.inr k) s6 f7)))) ∧ (¬ x3 ≤ 20000 → Q (.inl (some (.int (-1)))) s1 f2))))) ∧ (¬ x2 = (-1) → (EvC l E w d MX0_isShelf [.int x2] s1 f2 (fun o s22 f23 => KP o (fun r => ∃ v24 : Int32, r = some (.int v24) ∧ ((v24 = 0 → Q (.inl (some (.int (-1)))) s22 f23) ∧ (¬ v24 = 0 → ((x3 < 1 → Q (.inl (some (.int (-1)))) s22 f23) ∧ (¬ x3 < 1 → ((x3 ≤ 20000 → (EvC l E w d MX3_begin [.ref (w.1 3), .int x3] s22 f23 (fun o s25 f26 => KP o (fun r => r = none ∧ (EvC l E w d MX4_keep [.ref (w.1 4), .int 6] s25 f26 (fun o s27 f28 => KP o (fun r => r = none ∧ (EvC l E w d MX3_call [.ref (w.1 3), .ref a4, .int (-1)] (uI s27 7 1) f28 (fun o s29 f30 => KP o (fun r => r = none ∧ ((¬ x2 = (-1) → (EvC l E w d MX3_put [.ref (w.1 3), .int x2] s29 f30 (fun o s31 f32 => KP o (fun r => r = none ∧ (EvC l E w d MX3_wrong [.ref (w.1 3), .int 0, .int (-1)] s31 f32 (fun o s33 f34 => KP o (fun r => r = some (.ref (w.1 9)) ∧ Q (.inl (some (.int (s33.1 54)))) s33 f34) (fun k => Q (.inr k) s33 f34)))) (fun k => Q (.inr k) s31 f32)))) ∧ (x2 = (-1) → (EvC l E w d MX3_drop [.ref (w.1 3)] s29 f30 (fun o s35 f36 => KP o (fun r => r = none ∧ (EvC l E w d MX3_wrong [.ref (w.1 3), .int 0, .int (-1)] s35 f36 (fun o s37 f38 => KP o (fun r => r = some (.ref (w.1 9)) ∧ Q (.inl (some (.int (s37.1 54)))) s37 f38) (fun k => Q (.inr k) s37 f38)))) (fun k => Q (.inr k) s35 f36)))))) (fun k => (k = 9 ∧ (EvC l E w d MX4_back [.ref (w.1 4), .int 6] s29 f30 (fun o s39 f40 => KP o (fun r => r = none ∧ Q (.inl (some (.int (s39.1 54)))) s39 f40) (fun k => Q (.inr k) s39 f40)))))))) (fun k => Q (.inr k) s27 f28)))) (fun k => Q (.inr k) s25 f26)))) ∧ (¬ x3 ≤ 20000 → Q (.inl (some (.int (-1)))) s22 f23))))))) (fun k => Q (.inr k) s22 f23)))))))))))) (fun k => Q (.inr k) s1 f2)))) : ExC l E w (d + 1) MX0_run 0 [some (.ref (w.1 0)), some (.int x1), some (.int x2), some (.int x3), none, none, none] [] s f Q := by
  intro f0 h hW hF
  refine x_aload_n dX0_run_0 rfl rfl rfl ?_
  refine x_iload_n dX0_run_1 rfl rfl ?_
  obtain ⟨-, -, cc, hcc, -⟩ := hW.ob 0 (by decide)
  refine c_invV (vs := [.int x1]) dX0_run_2 oX0_definition q1299 q1297 hcc qs35 (Or.inl rfl) rfl rfl (Nat.le_of_ble_eq_true rfl) rfl hW hF hT ?_ ?_
  · intro _ s1 f2 hT h hW hF
    obtain ⟨v3, rfl, iv3, hT⟩ := hT
    refine x_astore (lo' := [some (.ref (w.1 0)), some (.int x1), some (.int x2), some (.int x3), some (v3), none, none]) dX0_run_5 (Nat.le_of_ble_eq_true rfl) iv3 rfl ?_
    refine x_aload dX0_run_7 rfl iv3 ?_
    refine x_ifnull (tgt := 44) dX0_run_9 rfl iv3 (fun e => ?_) (fun a4 e => ?_)
    · subst e
      replace hT := hT.1 rfl
      refine x_iconst (v := (-1)) dX0_run_44 rfl ?_
      exact x_iret dX0_run_45 rfl rfl ⟨_, _, hW, hF, Or.inl ⟨_, rfl, hT⟩⟩
    · subst e
      replace hT := hT.2 a4 rfl
      refine x_aload dX0_run_12 rfl rfl ?_
      obtain ⟨hc, hT⟩ := hT
      obtain ⟨v5, ev, hT⟩ := hT
      refine c_fgetG dX0_run_14 f_TallySlate_93 hc (by decide) (by decide) hW ev ?_
      refine x_if_gt (tgt := 44) dX0_run_17 rfl (fun c => ?_) (fun c => ?_)
      · replace hT := hT.1 c
        refine x_iconst (v := (-1)) dX0_run_44 rfl ?_
        exact x_iret dX0_run_45 rfl rfl ⟨_, _, hW, hF, Or.inl ⟨_, rfl, hT⟩⟩
      · replace hT := hT.2 c
        refine x_iload_n dX0_run_20 rfl rfl ?_
        refine x_iconst (v := (-1)) dX0_run_21 rfl ?_
        refine x_icmp_eq (tgt := 32) dX0_run_22 rfl (fun c => ?_) (fun c => ?_)
        · replace hT := hT.1 c
          refine x_iload_n dX0_run_32 rfl rfl ?_
          refine x_iconst (v := 1) dX0_run_33 rfl ?_
          refine x_icmp_lt (tgt := 44) dX0_run_34 rfl (fun c => ?_) (fun c => ?_)
          · replace hT := hT.1 c
            refine x_iconst (v := (-1)) dX0_run_44 rfl ?_
            exact x_iret dX0_run_45 rfl rfl ⟨_, _, hW, hF, Or.inl ⟨_, rfl, hT⟩⟩
          · replace hT := hT.2 c
            refine x_iload_n dX0_run_37 rfl rfl ?_
            refine x_sipush (v := 20000) dX0_run_38 rfl ?_
            refine x_icmp_le (tgt := 46) dX0_run_41 rfl (fun c => ?_) (fun c => ?_)
            · replace hT := hT.1 c
              refine x_aload_n dX0_run_46 rfl rfl rfl ?_
              refine c_getO dX0_run_47 f_TallySlate_40 (by decide) (by decide) rfl hW ?_
              refine x_astore (lo' := [some (.ref (w.1 0)), some (.int x1), some (.int x2), some (.int x3), some (.ref a4), some (.ref (w.1 3)), none]) dX0_run_50 (Nat.le_of_ble_eq_true rfl) rfl rfl ?_
              refine x_aload dX0_run_52 rfl rfl ?_
              refine x_iload_n dX0_run_54 rfl rfl ?_
              obtain ⟨-, -, cc, hcc, -⟩ := hW.ob 3 (by decide)
              refine c_invV (vs := [.int x3]) dX0_run_55 oX3_begin q1310 q1309 hcc q1311 (Or.inl rfl) rfl rfl (Nat.le_of_ble_eq_true rfl) rfl hW hF hT ?_ ?_
              · intro _ s6 f7 hT h hW hF
                obtain ⟨rfl, hT⟩ := hT
                refine x_aload dX0_run_58 rfl rfl ?_
                refine c_getO dX0_run_60 f_TallySlate_108 (by decide) (by decide) rfl hW ?_
                refine x_bipush (v := 6) dX0_run_63 rfl ?_
                obtain ⟨-, -, cc, hcc, -⟩ := hW.ob 4 (by decide)
                refine c_invV (vs := [.int 6]) dX0_run_65 oX4_keep q1314 q1313 hcc q1315 (Or.inl rfl) rfl rfl (Nat.le_of_ble_eq_true rfl) rfl hW hF hT ?_ ?_
                · intro _ s8 f9 hT h hW hF
                  obtain ⟨rfl, hT⟩ := hT
                  refine x_aload_n dX0_run_68 rfl rfl rfl ?_
                  refine x_iconst (v := 1) dX0_run_69 rfl ?_
                  refine c_putI dX0_run_70 f_TallySlate_117 (by decide) (by decide) rfl rfl rfl rfl hW ?_
                  intro h hW
                  refine x_aload dX0_run_73 rfl rfl ?_
                  refine x_aload dX0_run_75 rfl rfl ?_
                  refine x_iconst (v := (-1)) dX0_run_77 rfl ?_
                  obtain ⟨-, -, cc, hcc, -⟩ := hW.ob 3 (by decide)
                  refine c_invV (vs := [.ref a4, .int (-1)]) dX0_run_78 oX3_call q1319 q1318 hcc q1320 (Or.inl rfl) rfl rfl (Nat.le_of_ble_eq_true rfl) rfl hW hF hT ?_ ?_
                  · intro _ s10 f11 hT h hW hF
                    obtain ⟨rfl, hT⟩ := hT
                    refine x_goto (tgt := 102) dX0_run_81 rfl ?_
                    refine x_iload_n dX0_run_102 rfl rfl ?_
                    refine x_iconst (v := (-1)) dX0_run_103 rfl ?_
                    refine x_icmp_ne (tgt := 115) dX0_run_104 rfl (fun c => ?_) (fun c => ?_)
                    · replace hT := hT.1 c
                      refine x_aload dX0_run_115 rfl rfl ?_
                      refine x_iload_n dX0_run_117 rfl rfl ?_
                      obtain ⟨-, -, cc, hcc, -⟩ := hW.ob 3 (by decide)
                      refine c_invV (vs := [.int x2]) dX0_run_118 oX3_put q1935 q2058 hcc q1936 (Or.inl rfl) rfl rfl (Nat.le_of_ble_eq_true rfl) rfl hW hF hT ?_ ?_
                      · intro _ s12 f13 hT h hW hF
                        obtain ⟨rfl, hT⟩ := hT
                        refine x_aload dX0_run_121 rfl rfl ?_
                        refine x_iconst (v := 0) dX0_run_123 rfl ?_
                        refine x_iconst (v := (-1)) dX0_run_124 rfl ?_
                        obtain ⟨-, -, cc, hcc, -⟩ := hW.ob 3 (by decide)
                        refine c_invV (vs := [.int 0, .int (-1)]) dX0_run_125 oX3_wrong q1323 q2059 hcc q1324 (Or.inl rfl) rfl rfl (Nat.le_of_ble_eq_true rfl) rfl hW hF hT ?_ ?_
                        · intro _ s14 f15 hT h hW hF
                          obtain ⟨rfl, hT⟩ := hT
                          refine x_astore (lo' := [some (.ref (w.1 0)), some (.int x1), some (.int x2), some (.int x3), some (.ref a4), some (.ref (w.1 3)), some (.ref (w.1 9))]) dX0_run_128 (Nat.le_of_ble_eq_true rfl) rfl rfl ?_
                          refine x_aload dX0_run_130 rfl rfl ?_
                          refine c_getI (v := (s14.1 54)) dX0_run_132 f_TallySlate_129 (by decide) (by decide) rfl hW rfl ?_
                          exact x_iret dX0_run_135 rfl rfl ⟨_, _, hW, hF, Or.inl ⟨_, rfl, hT⟩⟩
                        · intro k s14 f15 hT h a hW hx hF
                          exact c_out (hsr_skip (by decide) (rfl)) hW hx hF hT
                      · intro k s12 f13 hT h a hW hx hF
                        exact c_out (hsr_skip (by decide) (rfl)) hW hx hF hT
                    · replace hT := hT.2 c
                      refine x_aload dX0_run_107 rfl rfl ?_
                      obtain ⟨-, -, cc, hcc, -⟩ := hW.ob 3 (by decide)
                      refine c_invV (vs := []) dX0_run_109 oX3_drop q1973 q2057 hcc q1974 (Or.inl rfl) rfl rfl (Nat.le_of_ble_eq_true rfl) rfl hW hF hT ?_ ?_
                      · intro _ s16 f17 hT h hW hF
                        obtain ⟨rfl, hT⟩ := hT
                        refine x_goto (tgt := 121) dX0_run_112 rfl ?_
                        refine x_aload dX0_run_121 rfl rfl ?_
                        refine x_iconst (v := 0) dX0_run_123 rfl ?_
                        refine x_iconst (v := (-1)) dX0_run_124 rfl ?_
                        obtain ⟨-, -, cc, hcc, -⟩ := hW.ob 3 (by decide)
                        refine c_invV (vs := [.int 0, .int (-1)]) dX0_run_125 oX3_wrong q1323 q2059 hcc q1324 (Or.inl rfl) rfl rfl (Nat.le_of_ble_eq_true rfl) rfl hW hF hT ?_ ?_
                        · intro _ s18 f19 hT h hW hF
                          obtain ⟨rfl, hT⟩ := hT
                          refine x_astore (lo' := [some (.ref (w.1 0)), some (.int x1), some (.int x2), some (.int x3), some (.ref a4), some (.ref (w.1 3)), some (.ref (w.1 9))]) dX0_run_128 (Nat.le_of_ble_eq_true rfl) rfl rfl ?_
                          refine x_aload dX0_run_130 rfl rfl ?_
                          refine c_getI (v := (s18.1 54)) dX0_run_132 f_TallySlate_129 (by decide) (by decide) rfl hW rfl ?_
                          exact x_iret dX0_run_135 rfl rfl ⟨_, _, hW, hF, Or.inl ⟨_, rfl, hT⟩⟩
                        · intro k s18 f19 hT h a hW hx hF
                          exact c_out (hsr_skip (by decide) (rfl)) hW hx hF hT
                      · intro k s16 f17 hT h a hW hx hF
                        exact c_out (hsr_skip (by decide) (rfl)) hW hx hF hT
                  · intro k s10 f11 hT h a hW hx hF
                    obtain ⟨rfl, hT⟩ := hT
                    obtain rfl : a = w.1 9 := xA.is9 hx
                    refine c_catch (hsr_yes (by decide) (by decide) q1305 (Or.inl rfl)) hW hx ?_
                    refine x_astore (lo' := [some (.ref (w.1 0)), some (.int x1), some (.int x2), some (.int x3), some (.ref a4), some (.ref (w.1 3)), some (.ref (w.1 9))]) dX0_run_84 (Nat.le_of_ble_eq_true rfl) rfl rfl ?_
                    refine x_aload dX0_run_86 rfl rfl ?_
                    refine c_getO dX0_run_88 f_TallySlate_108 (by decide) (by decide) rfl hW ?_
                    refine x_bipush (v := 6) dX0_run_91 rfl ?_
                    obtain ⟨-, -, cc, hcc, -⟩ := hW.ob 4 (by decide)
                    refine c_invV (vs := [.int 6]) dX0_run_93 oX4_back q2054 q2053 hcc q2055 (Or.inl rfl) rfl rfl (Nat.le_of_ble_eq_true rfl) rfl hW hF hT ?_ ?_
                    · intro _ s20 f21 hT h hW hF
                      obtain ⟨rfl, hT⟩ := hT
                      refine x_aload dX0_run_96 rfl rfl ?_
                      refine c_getI (v := (s20.1 54)) dX0_run_98 f_TallySlate_129 (by decide) (by decide) rfl hW rfl ?_
                      exact x_iret dX0_run_101 rfl rfl ⟨_, _, hW, hF, Or.inl ⟨_, rfl, hT⟩⟩
                    · intro k s20 f21 hT h a hW hx hF
                      exact c_out (hsr_skip (by decide) (rfl)) hW hx hF hT
                · intro k s8 f9 hT h a hW hx hF
                  exact c_out (hsr_skip (by decide) (rfl)) hW hx hF hT
              · intro k s6 f7 hT h a hW hx hF
                exact c_out (hsr_skip (by decide) (rfl)) hW hx hF hT
            · replace hT := hT.2 c
              refine x_iconst (v := (-1)) dX0_run_44 rfl ?_
              exact x_iret dX0_run_45 rfl rfl ⟨_, _, hW, hF, Or.inl ⟨_, rfl, hT⟩⟩
        · replace hT := hT.2 c
          refine x_iload_n dX0_run_25 rfl rfl ?_
          refine c_invS (vs := [.int x2]) dX0_run_26 oX0_isShelf q1307 (Or.inl q1306) rfl rfl (Nat.le_of_ble_eq_true rfl) rfl hW hF hT ?_ ?_
          · intro _ s22 f23 hT h hW hF
            obtain ⟨v24, rfl, hT⟩ := hT
            refine x_if_eq (tgt := 44) dX0_run_29 rfl (fun c => ?_) (fun c => ?_)
            · replace hT := hT.1 c
              refine x_iconst (v := (-1)) dX0_run_44 rfl ?_
              exact x_iret dX0_run_45 rfl rfl ⟨_, _, hW, hF, Or.inl ⟨_, rfl, hT⟩⟩
            · replace hT := hT.2 c
              refine x_iload_n dX0_run_32 rfl rfl ?_
              refine x_iconst (v := 1) dX0_run_33 rfl ?_
              refine x_icmp_lt (tgt := 44) dX0_run_34 rfl (fun c => ?_) (fun c => ?_)
              · replace hT := hT.1 c
                refine x_iconst (v := (-1)) dX0_run_44 rfl ?_
                exact x_iret dX0_run_45 rfl rfl ⟨_, _, hW, hF, Or.inl ⟨_, rfl, hT⟩⟩
              · replace hT := hT.2 c
                refine x_iload_n dX0_run_37 rfl rfl ?_
                refine x_sipush (v := 20000) dX0_run_38 rfl ?_
                refine x_icmp_le (tgt := 46) dX0_run_41 rfl (fun c => ?_) (fun c => ?_)
                · replace hT := hT.1 c
                  refine x_aload_n dX0_run_46 rfl rfl rfl ?_
                  refine c_getO dX0_run_47 f_TallySlate_40 (by decide) (by decide) rfl hW ?_
                  refine x_astore (lo' := [some (.ref (w.1 0)), some (.int x1), some (.int x2), some (.int x3), some (.ref a4), some (.ref (w.1 3)), none]) dX0_run_50 (Nat.le_of_ble_eq_true rfl) rfl rfl ?_
                  refine x_aload dX0_run_52 rfl rfl ?_
                  refine x_iload_n dX0_run_54 rfl rfl ?_
                  obtain ⟨-, -, cc, hcc, -⟩ := hW.ob 3 (by decide)
                  refine c_invV (vs := [.int x3]) dX0_run_55 oX3_begin q1310 q1309 hcc q1311 (Or.inl rfl) rfl rfl (Nat.le_of_ble_eq_true rfl) rfl hW hF hT ?_ ?_
                  · intro _ s25 f26 hT h hW hF
                    obtain ⟨rfl, hT⟩ := hT
                    refine x_aload dX0_run_58 rfl rfl ?_
                    refine c_getO dX0_run_60 f_TallySlate_108 (by decide) (by decide) rfl hW ?_
                    refine x_bipush (v := 6) dX0_run_63 rfl ?_
                    obtain ⟨-, -, cc, hcc, -⟩ := hW.ob 4 (by decide)
                    refine c_invV (vs := [.int 6]) dX0_run_65 oX4_keep q1314 q1313 hcc q1315 (Or.inl rfl) rfl rfl (Nat.le_of_ble_eq_true rfl) rfl hW hF hT ?_ ?_
                    · intro _ s27 f28 hT h hW hF
                      obtain ⟨rfl, hT⟩ := hT
                      refine x_aload_n dX0_run_68 rfl rfl rfl ?_
                      refine x_iconst (v := 1) dX0_run_69 rfl ?_
                      refine c_putI dX0_run_70 f_TallySlate_117 (by decide) (by decide) rfl rfl rfl rfl hW ?_
                      intro h hW
                      refine x_aload dX0_run_73 rfl rfl ?_
                      refine x_aload dX0_run_75 rfl rfl ?_
                      refine x_iconst (v := (-1)) dX0_run_77 rfl ?_
                      obtain ⟨-, -, cc, hcc, -⟩ := hW.ob 3 (by decide)
                      refine c_invV (vs := [.ref a4, .int (-1)]) dX0_run_78 oX3_call q1319 q1318 hcc q1320 (Or.inl rfl) rfl rfl (Nat.le_of_ble_eq_true rfl) rfl hW hF hT ?_ ?_
                      · intro _ s29 f30 hT h hW hF
                        obtain ⟨rfl, hT⟩ := hT
                        refine x_goto (tgt := 102) dX0_run_81 rfl ?_
                        refine x_iload_n dX0_run_102 rfl rfl ?_
                        refine x_iconst (v := (-1)) dX0_run_103 rfl ?_
                        refine x_icmp_ne (tgt := 115) dX0_run_104 rfl (fun c => ?_) (fun c => ?_)
                        · replace hT := hT.1 c
                          refine x_aload dX0_run_115 rfl rfl ?_
                          refine x_iload_n dX0_run_117 rfl rfl ?_
                          obtain ⟨-, -, cc, hcc, -⟩ := hW.ob 3 (by decide)
                          refine c_invV (vs := [.int x2]) dX0_run_118 oX3_put q1935 q2058 hcc q1936 (Or.inl rfl) rfl rfl (Nat.le_of_ble_eq_true rfl) rfl hW hF hT ?_ ?_
                          · intro _ s31 f32 hT h hW hF
                            obtain ⟨rfl, hT⟩ := hT
                            refine x_aload dX0_run_121 rfl rfl ?_
                            refine x_iconst (v := 0) dX0_run_123 rfl ?_
                            refine x_iconst (v := (-1)) dX0_run_124 rfl ?_
                            obtain ⟨-, -, cc, hcc, -⟩ := hW.ob 3 (by decide)
                            refine c_invV (vs := [.int 0, .int (-1)]) dX0_run_125 oX3_wrong q1323 q2059 hcc q1324 (Or.inl rfl) rfl rfl (Nat.le_of_ble_eq_true rfl) rfl hW hF hT ?_ ?_
                            · intro _ s33 f34 hT h hW hF
                              obtain ⟨rfl, hT⟩ := hT
                              refine x_astore (lo' := [some (.ref (w.1 0)), some (.int x1), some (.int x2), some (.int x3), some (.ref a4), some (.ref (w.1 3)), some (.ref (w.1 9))]) dX0_run_128 (Nat.le_of_ble_eq_true rfl) rfl rfl ?_
                              refine x_aload dX0_run_130 rfl rfl ?_
                              refine c_getI (v := (s33.1 54)) dX0_run_132 f_TallySlate_129 (by decide) (by decide) rfl hW rfl ?_
                              exact x_iret dX0_run_135 rfl rfl ⟨_, _, hW, hF, Or.inl ⟨_, rfl, hT⟩⟩
                            · intro k s33 f34 hT h a hW hx hF
                              exact c_out (hsr_skip (by decide) (rfl)) hW hx hF hT
                          · intro k s31 f32 hT h a hW hx hF
                            exact c_out (hsr_skip (by decide) (rfl)) hW hx hF hT
                        · replace hT := hT.2 c
                          refine x_aload dX0_run_107 rfl rfl ?_
                          obtain ⟨-, -, cc, hcc, -⟩ := hW.ob 3 (by decide)
                          refine c_invV (vs := []) dX0_run_109 oX3_drop q1973 q2057 hcc q1974 (Or.inl rfl) rfl rfl (Nat.le_of_ble_eq_true rfl) rfl hW hF hT ?_ ?_
                          · intro _ s35 f36 hT h hW hF
                            obtain ⟨rfl, hT⟩ := hT
                            refine x_goto (tgt := 121) dX0_run_112 rfl ?_
                            refine x_aload dX0_run_121 rfl rfl ?_
                            refine x_iconst (v := 0) dX0_run_123 rfl ?_
                            refine x_iconst (v := (-1)) dX0_run_124 rfl ?_
                            obtain ⟨-, -, cc, hcc, -⟩ := hW.ob 3 (by decide)
                            refine c_invV (vs := [.int 0, .int (-1)]) dX0_run_125 oX3_wrong q1323 q2059 hcc q1324 (Or.inl rfl) rfl rfl (Nat.le_of_ble_eq_true rfl) rfl hW hF hT ?_ ?_
                            · intro _ s37 f38 hT h hW hF
                              obtain ⟨rfl, hT⟩ := hT
                              refine x_astore (lo' := [some (.ref (w.1 0)), some (.int x1), some (.int x2), some (.int x3), some (.ref a4), some (.ref (w.1 3)), some (.ref (w.1 9))]) dX0_run_128 (Nat.le_of_ble_eq_true rfl) rfl rfl ?_
                              refine x_aload dX0_run_130 rfl rfl ?_
                              refine c_getI (v := (s37.1 54)) dX0_run_132 f_TallySlate_129 (by decide) (by decide) rfl hW rfl ?_
                              exact x_iret dX0_run_135 rfl rfl ⟨_, _, hW, hF, Or.inl ⟨_, rfl, hT⟩⟩
                            · intro k s37 f38 hT h a hW hx hF
                              exact c_out (hsr_skip (by decide) (rfl)) hW hx hF hT
                          · intro k s35 f36 hT h a hW hx hF
                            exact c_out (hsr_skip (by decide) (rfl)) hW hx hF hT
                      · intro k s29 f30 hT h a hW hx hF
                        obtain ⟨rfl, hT⟩ := hT
                        obtain rfl : a = w.1 9 := xA.is9 hx
                        refine c_catch (hsr_yes (by decide) (by decide) q1305 (Or.inl rfl)) hW hx ?_
                        refine x_astore (lo' := [some (.ref (w.1 0)), some (.int x1), some (.int x2), some (.int x3), some (.ref a4), some (.ref (w.1 3)), some (.ref (w.1 9))]) dX0_run_84 (Nat.le_of_ble_eq_true rfl) rfl rfl ?_
                        refine x_aload dX0_run_86 rfl rfl ?_
                        refine c_getO dX0_run_88 f_TallySlate_108 (by decide) (by decide) rfl hW ?_
                        refine x_bipush (v := 6) dX0_run_91 rfl ?_
                        obtain ⟨-, -, cc, hcc, -⟩ := hW.ob 4 (by decide)
                        refine c_invV (vs := [.int 6]) dX0_run_93 oX4_back q2054 q2053 hcc q2055 (Or.inl rfl) rfl rfl (Nat.le_of_ble_eq_true rfl) rfl hW hF hT ?_ ?_
                        · intro _ s39 f40 hT h hW hF
                          obtain ⟨rfl, hT⟩ := hT
                          refine x_aload dX0_run_96 rfl rfl ?_
                          refine c_getI (v := (s39.1 54)) dX0_run_98 f_TallySlate_129 (by decide) (by decide) rfl hW rfl ?_
                          exact x_iret dX0_run_101 rfl rfl ⟨_, _, hW, hF, Or.inl ⟨_, rfl, hT⟩⟩
                        · intro k s39 f40 hT h a hW hx hF
                          exact c_out (hsr_skip (by decide) (rfl)) hW hx hF hT
                    · intro k s27 f28 hT h a hW hx hF
                      exact c_out (hsr_skip (by decide) (rfl)) hW hx hF hT
                  · intro k s25 f26 hT h a hW hx hF
                    exact c_out (hsr_skip (by decide) (rfl)) hW hx hF hT
                · replace hT := hT.2 c
                  refine x_iconst (v := (-1)) dX0_run_44 rfl ?_
                  exact x_iret dX0_run_45 rfl rfl ⟨_, _, hW, hF, Or.inl ⟨_, rfl, hT⟩⟩
          · intro k s22 f23 hT h a hW hx hF
            exact c_out (hsr_skip (by decide) (rfl)) hW hx hF hT
  · intro k s1 f2 hT h a hW hx hF
    exact c_out (hsr_skip (by decide) (rfl)) hW hx hF hT
theorem eX0_run {l : Launch} {E : EN} {w : CO} {d : Nat} {s : CS} {f : RH} {Q : KO → CS → RH → Prop} {x1 : Int32} {x2 : Int32} {x3 : Int32}  (hst : l.stackTraces = false) (hT : (EvC l E w d MX0_definition [.ref (w.1 0), .int x1] s f (fun o s1 f2 => KP o (fun r => ∃ v3 : Value, r = some v3 ∧ isR v3 = true ∧ ((v3 = .null → Q (.inl (some (.int (-1)))) s1 f2) ∧ (∀ a4 : Nat, v3 = .ref a4 → (oc f2 a4 12 ∧ (∃ v5 : Int32, vl f2 a4 155 = .int v5 ∧ ((0 < v5 → Q (.inl (some (.int (-1)))) s1 f2) ∧ (¬ 0 < v5 → ((x2 = (-1) → ((x3 < 1 → Q (.inl (some (.int (-1)))) s1 f2) ∧ (¬ x3 < 1 → ((x3 ≤ 20000 → (EvC l E w d MX3_begin [.ref (w.1 3), .int x3] s1 f2 (fun o s6 f7 => KP o (fun r => r = none ∧ (EvC l E w d MX4_keep [.ref (w.1 4), .int 6] s6 f7 (fun o s8 f9 => KP o (fun r => r = none ∧ (EvC l E w d MX3_call [.ref (w.1 3), .ref a4, .int (-1)] (uI s8 7 1) f9 (fun o s10 f11 => KP o (fun r => r = none ∧ ((¬ x2 = (-1) → (EvC l E w d MX3_put [.ref (w.1 3), .int x2] s10 f11 (fun o s12 f13 => KP o (fun r => r = none ∧ (EvC l E w d MX3_wrong [.ref (w.1 3), .int 0, .int (-1)] s12 f13 (fun o s14 f15 => KP o (fun r => r = some (.ref (w.1 9)) ∧ Q (.inl (some (.int (s14.1 54)))) s14 f15) (fun k => Q (.inr k) s14 f15)))) (fun k => Q (.inr k) s12 f13)))) ∧ (x2 = (-1) → (EvC l E w d MX3_drop [.ref (w.1 3)] s10 f11 (fun o s16 f17 => KP o (fun r => r = none ∧ (EvC l E w d MX3_wrong [.ref (w.1 3), .int 0, .int (-1)] s16 f17 (fun o s18 f19 => KP o (fun r => r = some (.ref (w.1 9)) ∧ Q (.inl (some (.int (s18.1 54)))) s18 f19) (fun k => Q (.inr k) s18 f19)))) (fun k => Q (.inr k) s16 f17)))))) (fun k => (k = 9 ∧ (EvC l E w d MX4_back [.ref (w.1 4), .int 6] s10 f11 (fun o s20 f21 => KP o (fun r => r = none ∧ Q (.inl (some (.int (s20.1 54)))) s20 f21) (fun k => Q (.inr k) s20 f21)))))))) (fun k => Q (.inr k) s8 f9)))) (fun k => Q (.inr k) s6 f7)))) ∧ (¬ x3 ≤ 20000 → Q (.inl (some (.int (-1)))) s1 f2))))) ∧ (¬ x2 = (-1) → (EvC l E w d MX0_isShelf [.int x2] s1 f2 (fun o s22 f23 => KP o (fun r => ∃ v24 : Int32, r = some (.int v24) ∧ ((v24 = 0 → Q (.inl (some (.int (-1)))) s22 f23) ∧ (¬ v24 = 0 → ((x3 < 1 → Q (.inl (some (.int (-1)))) s22 f23) ∧ (¬ x3 < 1 → ((x3 ≤ 20000 → (EvC l E w d MX3_begin [.ref (w.1 3), .int x3] s22 f23 (fun o s25 f26 => KP o (fun r => r = none ∧ (EvC l E w d MX4_keep [.ref (w.1 4), .int 6] s25 f26 (fun o s27 f28 => KP o (fun r => r = none ∧ (EvC l E w d MX3_call [.ref (w.1 3), .ref a4, .int (-1)] (uI s27 7 1) f28 (fun o s29 f30 => KP o (fun r => r = none ∧ ((¬ x2 = (-1) → (EvC l E w d MX3_put [.ref (w.1 3), .int x2] s29 f30 (fun o s31 f32 => KP o (fun r => r = none ∧ (EvC l E w d MX3_wrong [.ref (w.1 3), .int 0, .int (-1)] s31 f32 (fun o s33 f34 => KP o (fun r => r = some (.ref (w.1 9)) ∧ Q (.inl (some (.int (s33.1 54)))) s33 f34) (fun k => Q (.inr k) s33 f34)))) (fun k => Q (.inr k) s31 f32)))) ∧ (x2 = (-1) → (EvC l E w d MX3_drop [.ref (w.1 3)] s29 f30 (fun o s35 f36 => KP o (fun r => r = none ∧ (EvC l E w d MX3_wrong [.ref (w.1 3), .int 0, .int (-1)] s35 f36 (fun o s37 f38 => KP o (fun r => r = some (.ref (w.1 9)) ∧ Q (.inl (some (.int (s37.1 54)))) s37 f38) (fun k => Q (.inr k) s37 f38)))) (fun k => Q (.inr k) s35 f36)))))) (fun k => (k = 9 ∧ (EvC l E w d MX4_back [.ref (w.1 4), .int 6] s29 f30 (fun o s39 f40 => KP o (fun r => r = none ∧ Q (.inl (some (.int (s39.1 54)))) s39 f40) (fun k => Q (.inr k) s39 f40)))))))) (fun k => Q (.inr k) s27 f28)))) (fun k => Q (.inr k) s25 f26)))) ∧ (¬ x3 ≤ 20000 → Q (.inl (some (.int (-1)))) s22 f23))))))) (fun k => Q (.inr k) s22 f23)))))))))))) (fun k => Q (.inr k) s1 f2)))) : EvC l E w (d + 1) MX0_run [.ref (w.1 0), .int x1, .int x2, .int x3] s f Q :=
  EvC.of hst (by decide) (Nat.le_of_ble_eq_true rfl) (vX0_run_0  hT)
theorem vX0_isShelf_0 {l : Launch} {E : EN} {w : CO} {d : Nat} {s : CS} {f : RH} {Q : KO → CS → RH → Prop} {x1 : Int32}  (hT : ((x1 < 0 → Q (.inl (some (.int 0))) s f) ∧ (¬ x1 < 0 → ((8 ≤ x1 → Q (.inl (some (.int 0))) s f) ∧ (¬ 8 ≤ x1 → Q (.inl (some (.int 1))) s f))))) : ExC l E w d MX0_isShelf 0 [some (.int x1)] [] s f Q := by
  intro f0 h hW hF
  refine x_iload_n dX0_isShelf_0 rfl rfl ?_
  refine x_if_lt (tgt := 14) dX0_isShelf_1 rfl (fun c => ?_) (fun c => ?_)
  · replace hT := hT.1 c
    refine x_iconst (v := 0) dX0_isShelf_14 rfl ?_
    exact x_iret dX0_isShelf_15 rfl rfl ⟨_, _, hW, hF, Or.inl ⟨_, rfl, hT⟩⟩
  · replace hT := hT.2 c
    refine x_iload_n dX0_isShelf_4 rfl rfl ?_
    refine x_bipush (v := 8) dX0_isShelf_5 rfl ?_
    refine x_icmp_ge (tgt := 14) dX0_isShelf_7 rfl (fun c => ?_) (fun c => ?_)
    · replace hT := hT.1 c
      refine x_iconst (v := 0) dX0_isShelf_14 rfl ?_
      exact x_iret dX0_isShelf_15 rfl rfl ⟨_, _, hW, hF, Or.inl ⟨_, rfl, hT⟩⟩
    · replace hT := hT.2 c
      refine x_iconst (v := 1) dX0_isShelf_10 rfl ?_
      refine x_goto (tgt := 15) dX0_isShelf_11 rfl ?_
      exact x_iret dX0_isShelf_15 rfl rfl ⟨_, _, hW, hF, Or.inl ⟨_, rfl, hT⟩⟩
theorem eX0_isShelf {l : Launch} {E : EN} {w : CO} {d : Nat} {s : CS} {f : RH} {Q : KO → CS → RH → Prop} {x1 : Int32}  (hst : l.stackTraces = false) (hT : ((x1 < 0 → Q (.inl (some (.int 0))) s f) ∧ (¬ x1 < 0 → ((8 ≤ x1 → Q (.inl (some (.int 0))) s f) ∧ (¬ 8 ≤ x1 → Q (.inl (some (.int 1))) s f))))) : EvC l E w d MX0_isShelf [.int x1] s f Q :=
  EvC.of hst (by decide) (Nat.le_of_ble_eq_true rfl) (vX0_isShelf_0  hT)
set_option maxHeartbeats 16000000 in
theorem vX0_trouble_0 {l : Launch} {E : EN} {w : CO} {d : Nat} {s : CS} {f : RH} {Q : KO → CS → RH → Prop} {x1 : Int32}  (hT : ((¬ (s.1 7) = 0 → ((x1 = 0 → Q (.inl (some (.int (s.1 54)))) s f) ∧ (¬ (x1 = 0) → ((x1 = 1 → Q (.inl (some (.int (s.1 55)))) s f) ∧ (¬ (x1 = 1) → ((x1 = 2 → Q (.inl (some (.int (s.1 56)))) s f) ∧ (¬ (x1 = 2) → ((x1 = 3 → Q (.inl (some (.int (s.1 38)))) s f) ∧ (¬ (x1 = 3) → ((x1 = 4 → Q (.inl (some (.int (s.1 40)))) s f) ∧ (¬ (x1 = 4) → ((x1 = 5 → Q (.inl (some (.int (s.1 37)))) s f) ∧ (¬ (x1 = 5) → ((x1 = 6 → Q (.inl (some (.int (s.1 41)))) s f) ∧ (¬ (x1 = 6) → (Q (.inl (some (.int (-1)))) s f)))))))))))))))) ∧ ((s.1 7) = 0 → Q (.inl (some (.int (-1)))) s f))) : ExC l E w d MX0_trouble 0 [some (.ref (w.1 0)), some (.int x1)] [] s f Q := by
  intro f0 h hW hF
  refine x_aload_n dX0_trouble_0 rfl rfl rfl ?_
  refine c_getI (v := (s.1 7)) dX0_trouble_1 f_TallySlate_117 (by decide) (by decide) rfl hW rfl ?_
  refine x_if_ne (tgt := 9) dX0_trouble_4 rfl (fun c => ?_) (fun c => ?_)
  · replace hT := hT.1 c
    refine x_iload_n dX0_trouble_9 rfl rfl ?_
    by_cases c : x1 = 0
    · replace hT := hT.1 c
      refine x_tableIn (tgt := 52) (off := 42) dX0_trouble_10 (by rw [c]; decide) (by rw [c]; decide) (by rw [c]; rfl) rfl ?_
      refine x_aload_n dX0_trouble_52 rfl rfl rfl ?_
      refine c_getO dX0_trouble_53 f_TallySlate_40 (by decide) (by decide) rfl hW ?_
      refine c_getO dX0_trouble_56 f_TallySlate_139 (by decide) (by decide) rfl hW ?_
      refine c_getI (v := (s.1 54)) dX0_trouble_59 f_TallySlate_129 (by decide) (by decide) rfl hW rfl ?_
      exact x_iret dX0_trouble_62 rfl rfl ⟨_, _, hW, hF, Or.inl ⟨_, rfl, hT⟩⟩
    · replace hT := hT.2 c
      have cs0 := c
      by_cases c : x1 = 1
      · replace hT := hT.1 c
        refine x_tableIn (tgt := 63) (off := 53) dX0_trouble_10 (by rw [c]; decide) (by rw [c]; decide) (by rw [c]; rfl) rfl ?_
        refine x_aload_n dX0_trouble_63 rfl rfl rfl ?_
        refine c_getO dX0_trouble_64 f_TallySlate_40 (by decide) (by decide) rfl hW ?_
        refine c_getO dX0_trouble_67 f_TallySlate_139 (by decide) (by decide) rfl hW ?_
        refine c_getI (v := (s.1 55)) dX0_trouble_70 f_TallySlate_143 (by decide) (by decide) rfl hW rfl ?_
        exact x_iret dX0_trouble_73 rfl rfl ⟨_, _, hW, hF, Or.inl ⟨_, rfl, hT⟩⟩
      · replace hT := hT.2 c
        have cs1 := c
        by_cases c : x1 = 2
        · replace hT := hT.1 c
          refine x_tableIn (tgt := 74) (off := 64) dX0_trouble_10 (by rw [c]; decide) (by rw [c]; decide) (by rw [c]; rfl) rfl ?_
          refine x_aload_n dX0_trouble_74 rfl rfl rfl ?_
          refine c_getO dX0_trouble_75 f_TallySlate_40 (by decide) (by decide) rfl hW ?_
          refine c_getO dX0_trouble_78 f_TallySlate_139 (by decide) (by decide) rfl hW ?_
          refine c_getI (v := (s.1 56)) dX0_trouble_81 f_TallySlate_144 (by decide) (by decide) rfl hW rfl ?_
          exact x_iret dX0_trouble_84 rfl rfl ⟨_, _, hW, hF, Or.inl ⟨_, rfl, hT⟩⟩
        · replace hT := hT.2 c
          have cs2 := c
          by_cases c : x1 = 3
          · replace hT := hT.1 c
            refine x_tableIn (tgt := 85) (off := 75) dX0_trouble_10 (by rw [c]; decide) (by rw [c]; decide) (by rw [c]; rfl) rfl ?_
            refine x_aload_n dX0_trouble_85 rfl rfl rfl ?_
            refine c_getO dX0_trouble_86 f_TallySlate_40 (by decide) (by decide) rfl hW ?_
            refine c_getI (v := (s.1 38)) dX0_trouble_89 f_TallySlate_147 (by decide) (by decide) rfl hW rfl ?_
            exact x_iret dX0_trouble_92 rfl rfl ⟨_, _, hW, hF, Or.inl ⟨_, rfl, hT⟩⟩
          · replace hT := hT.2 c
            have cs3 := c
            by_cases c : x1 = 4
            · replace hT := hT.1 c
              refine x_tableIn (tgt := 93) (off := 83) dX0_trouble_10 (by rw [c]; decide) (by rw [c]; decide) (by rw [c]; rfl) rfl ?_
              refine x_aload_n dX0_trouble_93 rfl rfl rfl ?_
              refine c_getO dX0_trouble_94 f_TallySlate_40 (by decide) (by decide) rfl hW ?_
              refine c_getI (v := (s.1 40)) dX0_trouble_97 f_TallySlate_150 (by decide) (by decide) rfl hW rfl ?_
              exact x_iret dX0_trouble_100 rfl rfl ⟨_, _, hW, hF, Or.inl ⟨_, rfl, hT⟩⟩
            · replace hT := hT.2 c
              have cs4 := c
              by_cases c : x1 = 5
              · replace hT := hT.1 c
                refine x_tableIn (tgt := 101) (off := 91) dX0_trouble_10 (by rw [c]; decide) (by rw [c]; decide) (by rw [c]; rfl) rfl ?_
                refine x_aload_n dX0_trouble_101 rfl rfl rfl ?_
                refine c_getO dX0_trouble_102 f_TallySlate_40 (by decide) (by decide) rfl hW ?_
                refine c_getI (v := (s.1 37)) dX0_trouble_105 f_TallySlate_153 (by decide) (by decide) rfl hW rfl ?_
                exact x_iret dX0_trouble_108 rfl rfl ⟨_, _, hW, hF, Or.inl ⟨_, rfl, hT⟩⟩
              · replace hT := hT.2 c
                have cs5 := c
                by_cases c : x1 = 6
                · replace hT := hT.1 c
                  refine x_tableIn (tgt := 109) (off := 99) dX0_trouble_10 (by rw [c]; decide) (by rw [c]; decide) (by rw [c]; rfl) rfl ?_
                  refine x_aload_n dX0_trouble_109 rfl rfl rfl ?_
                  refine c_getO dX0_trouble_110 f_TallySlate_40 (by decide) (by decide) rfl hW ?_
                  refine c_getI (v := (s.1 41)) dX0_trouble_113 f_TallySlate_156 (by decide) (by decide) rfl hW rfl ?_
                  exact x_iret dX0_trouble_116 rfl rfl ⟨_, _, hW, hF, Or.inl ⟨_, rfl, hT⟩⟩
                · replace hT := hT.2 c
                  have cs6 := c
                  refine x_tableD (tgt := 117) [0, 1, 2, 3, 4, 5, 6] dX0_trouble_10 (List.forall_mem_cons.mpr ⟨fun h => cs0 (i32_of (h.trans (show (0 : Int) = (0 : Int32).toInt from by decide))), List.forall_mem_cons.mpr ⟨fun h => cs1 (i32_of (h.trans (show (1 : Int) = (1 : Int32).toInt from by decide))), List.forall_mem_cons.mpr ⟨fun h => cs2 (i32_of (h.trans (show (2 : Int) = (2 : Int32).toInt from by decide))), List.forall_mem_cons.mpr ⟨fun h => cs3 (i32_of (h.trans (show (3 : Int) = (3 : Int32).toInt from by decide))), List.forall_mem_cons.mpr ⟨fun h => cs4 (i32_of (h.trans (show (4 : Int) = (4 : Int32).toInt from by decide))), List.forall_mem_cons.mpr ⟨fun h => cs5 (i32_of (h.trans (show (5 : Int) = (5 : Int32).toInt from by decide))), List.forall_mem_cons.mpr ⟨fun h => cs6 (i32_of (h.trans (show (6 : Int) = (6 : Int32).toInt from by decide))), fun _ h => absurd h List.not_mem_nil⟩⟩⟩⟩⟩⟩⟩) (by decide) (by decide) rfl ?_
                  refine x_iconst (v := (-1)) dX0_trouble_117 rfl ?_
                  exact x_iret dX0_trouble_118 rfl rfl ⟨_, _, hW, hF, Or.inl ⟨_, rfl, hT⟩⟩
  · replace hT := hT.2 c
    refine x_iconst (v := (-1)) dX0_trouble_7 rfl ?_
    exact x_iret dX0_trouble_8 rfl rfl ⟨_, _, hW, hF, Or.inl ⟨_, rfl, hT⟩⟩
theorem eX0_trouble {l : Launch} {E : EN} {w : CO} {d : Nat} {s : CS} {f : RH} {Q : KO → CS → RH → Prop} {x1 : Int32}  (hst : l.stackTraces = false) (hT : ((¬ (s.1 7) = 0 → ((x1 = 0 → Q (.inl (some (.int (s.1 54)))) s f) ∧ (¬ (x1 = 0) → ((x1 = 1 → Q (.inl (some (.int (s.1 55)))) s f) ∧ (¬ (x1 = 1) → ((x1 = 2 → Q (.inl (some (.int (s.1 56)))) s f) ∧ (¬ (x1 = 2) → ((x1 = 3 → Q (.inl (some (.int (s.1 38)))) s f) ∧ (¬ (x1 = 3) → ((x1 = 4 → Q (.inl (some (.int (s.1 40)))) s f) ∧ (¬ (x1 = 4) → ((x1 = 5 → Q (.inl (some (.int (s.1 37)))) s f) ∧ (¬ (x1 = 5) → ((x1 = 6 → Q (.inl (some (.int (s.1 41)))) s f) ∧ (¬ (x1 = 6) → (Q (.inl (some (.int (-1)))) s f)))))))))))))))) ∧ ((s.1 7) = 0 → Q (.inl (some (.int (-1)))) s f))) : EvC l E w d MX0_trouble [.ref (w.1 0), .int x1] s f Q :=
  EvC.of hst (by decide) (Nat.le_of_ble_eq_true rfl) (vX0_trouble_0  hT)
theorem vX0_out_0 {l : Launch} {E : EN} {w : CO} {d : Nat} {s : CS} {f : RH} {Q : KO → CS → RH → Prop} {x1 : Int32}  (hT : ((x1 < 0 → Q (.inl (some (.int (-1)))) s f) ∧ (¬ x1 < 0 → ((600 ≤ x1 → Q (.inl (some (.int (-1)))) s f) ∧ (¬ 600 ≤ x1 → (((s.1 53) ≤ x1 → Q (.inl (some (.int (-1)))) s f) ∧ (¬ (s.1 53) ≤ x1 → (inB x1 600 ∧ Q (.inl (some (.int (s.2.2.1 52 x1.toNatClampNeg)))) s f)))))))) : ExC l E w d MX0_out 0 [some (.ref (w.1 0)), some (.int x1)] [] s f Q := by
  intro f0 h hW hF
  refine x_iload_n dX0_out_0 rfl rfl ?_
  refine x_if_lt (tgt := 40) dX0_out_1 rfl (fun c => ?_) (fun c => ?_)
  · replace hT := hT.1 c
    refine x_iconst (v := (-1)) dX0_out_40 rfl ?_
    exact x_iret dX0_out_41 rfl rfl ⟨_, _, hW, hF, Or.inl ⟨_, rfl, hT⟩⟩
  · replace hT := hT.2 c
    refine x_iload_n dX0_out_4 rfl rfl ?_
    refine x_sipush (v := 600) dX0_out_5 rfl ?_
    refine x_icmp_ge (tgt := 40) dX0_out_8 rfl (fun c => ?_) (fun c => ?_)
    · replace hT := hT.1 c
      refine x_iconst (v := (-1)) dX0_out_40 rfl ?_
      exact x_iret dX0_out_41 rfl rfl ⟨_, _, hW, hF, Or.inl ⟨_, rfl, hT⟩⟩
    · replace hT := hT.2 c
      refine x_iload_n dX0_out_11 rfl rfl ?_
      refine x_aload_n dX0_out_12 rfl rfl rfl ?_
      refine c_getO dX0_out_13 f_TallySlate_40 (by decide) (by decide) rfl hW ?_
      refine c_getO dX0_out_16 f_TallySlate_159 (by decide) (by decide) rfl hW ?_
      refine c_getI (v := (s.1 53)) dX0_out_19 f_TallySlate_163 (by decide) (by decide) rfl hW rfl ?_
      refine x_icmp_ge (tgt := 40) dX0_out_22 rfl (fun c => ?_) (fun c => ?_)
      · replace hT := hT.1 c
        refine x_iconst (v := (-1)) dX0_out_40 rfl ?_
        exact x_iret dX0_out_41 rfl rfl ⟨_, _, hW, hF, Or.inl ⟨_, rfl, hT⟩⟩
      · replace hT := hT.2 c
        refine x_aload_n dX0_out_25 rfl rfl rfl ?_
        refine c_getO dX0_out_26 f_TallySlate_40 (by decide) (by decide) rfl hW ?_
        refine c_getO dX0_out_29 f_TallySlate_159 (by decide) (by decide) rfl hW ?_
        refine c_getA dX0_out_32 f_TallySlate_166 (by decide) (by decide) rfl hW ?_
        refine x_iload_n dX0_out_35 rfl rfl ?_
        obtain ⟨hb, hT⟩ := hT
        refine c_bald (v := (s.2.2.1 52 x1.toNatClampNeg)) dX0_out_36 rfl (by decide) hb hW rfl ?_
        refine x_goto (tgt := 41) dX0_out_37 rfl ?_
        exact x_iret dX0_out_41 rfl rfl ⟨_, _, hW, hF, Or.inl ⟨_, rfl, hT⟩⟩
theorem eX0_out {l : Launch} {E : EN} {w : CO} {d : Nat} {s : CS} {f : RH} {Q : KO → CS → RH → Prop} {x1 : Int32}  (hst : l.stackTraces = false) (hT : ((x1 < 0 → Q (.inl (some (.int (-1)))) s f) ∧ (¬ x1 < 0 → ((600 ≤ x1 → Q (.inl (some (.int (-1)))) s f) ∧ (¬ 600 ≤ x1 → (((s.1 53) ≤ x1 → Q (.inl (some (.int (-1)))) s f) ∧ (¬ (s.1 53) ≤ x1 → (inB x1 600 ∧ Q (.inl (some (.int (s.2.2.1 52 x1.toNatClampNeg)))) s f)))))))) : EvC l E w d MX0_out [.ref (w.1 0), .int x1] s f Q :=
  EvC.of hst (by decide) (Nat.le_of_ble_eq_true rfl) (vX0_out_0  hT)
theorem vX0_outs_0 {l : Launch} {E : EN} {w : CO} {d : Nat} {s : CS} {f : RH} {Q : KO → CS → RH → Prop}   (hT : Q (.inl (some (.int (s.1 53)))) s f) : ExC l E w d MX0_outs 0 [some (.ref (w.1 0))] [] s f Q := by
  intro f0 h hW hF
  refine x_aload_n dX0_outs_0 rfl rfl rfl ?_
  refine c_getO dX0_outs_1 f_TallySlate_40 (by decide) (by decide) rfl hW ?_
  refine c_getO dX0_outs_4 f_TallySlate_159 (by decide) (by decide) rfl hW ?_
  refine c_getI (v := (s.1 53)) dX0_outs_7 f_TallySlate_163 (by decide) (by decide) rfl hW rfl ?_
  exact x_iret dX0_outs_10 rfl rfl ⟨_, _, hW, hF, Or.inl ⟨_, rfl, hT⟩⟩
theorem eX0_outs {l : Launch} {E : EN} {w : CO} {d : Nat} {s : CS} {f : RH} {Q : KO → CS → RH → Prop}   (hst : l.stackTraces = false) (hT : Q (.inl (some (.int (s.1 53)))) s f) : EvC l E w d MX0_outs [.ref (w.1 0)] s f Q :=
  EvC.of hst (by decide) (Nat.le_of_ble_eq_true rfl) (vX0_outs_0  hT)
set_option maxHeartbeats 16000000 in
theorem vX0_show_0 {l : Launch} {E : EN} {w : CO} {d : Nat} {s : CS} {f : RH} {Q : KO → CS → RH → Prop} {x1 : Int32}  (hT : (EvC l E w d MX0_has [.ref (w.1 0), .int x1] s f (fun o s1 f2 => KP o (fun r => ∃ v3 : Int32, r = some (.int v3) ∧ ((¬ v3 = 0 → (EvC l E w d MX0_thingOn [.ref (w.1 0), .int x1] (uI s1 53 0) f2 (fun o s4 f5 => KP o (fun r => ∃ v6 : Value, r = some v6 ∧ isR v6 = true ∧ ((v6 = .null → (inB x1 8 ∧ (EvC l E w d MX8_number [.ref (w.1 8), .int (s4.2.2.1 42 x1.toNatClampNeg)] s4 f5 (fun o s8 f9 => KP o (fun r => r = none ∧ Q (.inl (some (.int (s8.1 53)))) s8 f9) (fun k => Q (.inr k) s8 f9))))) ∧ (∀ a7 : Nat, v6 = .ref a7 → (EvC l E w d MX0_thingOn [.ref (w.1 0), .int x1] s4 f5 (fun o s10 f11 => KP o (fun r => ∃ v12 : Value, r = some v12 ∧ isR v12 = true ∧ (∃ a15 : Nat, v12 = .ref a15 ∧ (∃ P17 : KO → CS → RH → Prop, (∀ o s13 f14, P17 o s13 f14 → KP o (fun r => r = none ∧ Q (.inl (some (.int (s13.1 53)))) s13 f14) (fun k => Q (.inr k) s13 f14)) ∧ ∃ k16 : Nat, oc f11 a15 k16 ∧ ((k16 = 29 ∧ EvC l E w d MX32_form [.ref a15, .ref (w.1 8)] s10 f11 P17) ∨ (k16 = 30 ∧ EvC l E w d MX33_form [.ref a15, .ref (w.1 8)] s10 f11 P17) ∨ (k16 = 31 ∧ EvC l E w d MX34_form [.ref a15, .ref (w.1 8)] s10 f11 P17) ∨ (k16 = 32 ∧ EvC l E w d MX35_form [.ref a15, .ref (w.1 8)] s10 f11 P17))))) (fun k => Q (.inr k) s10 f11)))))) (fun k => Q (.inr k) s4 f5)))) ∧ (v3 = 0 → Q (.inl (some (.int (-1)))) s1 f2))) (fun k => Q (.inr k) s1 f2)))) : ExC l E w (d + 1) MX0_show 0 [some (.ref (w.1 0)), some (.int x1)] [] s f Q := by
  intro f0 h hW hF
  refine x_aload_n dX0_show_0 rfl rfl rfl ?_
  refine x_iload_n dX0_show_1 rfl rfl ?_
  obtain ⟨-, -, cc, hcc, -⟩ := hW.ob 0 (by decide)
  refine c_invV (vs := [.int x1]) dX0_show_2 oX0_has q2078 q2076 hcc qs58 (Or.inl rfl) rfl rfl (Nat.le_of_ble_eq_true rfl) rfl hW hF hT ?_ ?_
  · intro _ s1 f2 hT h hW hF
    obtain ⟨v3, rfl, hT⟩ := hT
    refine x_if_ne (tgt := 10) dX0_show_5 rfl (fun c => ?_) (fun c => ?_)
    · replace hT := hT.1 c
      refine x_aload_n dX0_show_10 rfl rfl rfl ?_
      refine c_getO dX0_show_11 f_TallySlate_40 (by decide) (by decide) rfl hW ?_
      refine c_getO dX0_show_14 f_TallySlate_159 (by decide) (by decide) rfl hW ?_
      refine x_iconst (v := 0) dX0_show_17 rfl ?_
      refine c_putI dX0_show_18 f_TallySlate_163 (by decide) (by decide) rfl rfl rfl rfl hW ?_
      intro h hW
      refine x_aload_n dX0_show_21 rfl rfl rfl ?_
      refine x_iload_n dX0_show_22 rfl rfl ?_
      obtain ⟨-, -, cc, hcc, -⟩ := hW.ob 0 (by decide)
      refine c_invV (vs := [.int x1]) dX0_show_23 oX0_thingOn q2082 q2080 hcc qs59 (Or.inl rfl) rfl rfl (Nat.le_of_ble_eq_true rfl) rfl hW hF hT ?_ ?_
      · intro _ s4 f5 hT h hW hF
        obtain ⟨v6, rfl, iv6, hT⟩ := hT
        refine x_ifnonnull (tgt := 54) dX0_show_26 rfl iv6 (fun a7 e => ?_) (fun e => ?_)
        · subst e
          replace hT := hT.2 a7 rfl
          refine x_aload_n dX0_show_54 rfl rfl rfl ?_
          refine x_iload_n dX0_show_55 rfl rfl ?_
          obtain ⟨-, -, cc, hcc, -⟩ := hW.ob 0 (by decide)
          refine c_invV (vs := [.int x1]) dX0_show_56 oX0_thingOn q2082 q2080 hcc qs59 (Or.inl rfl) rfl rfl (Nat.le_of_ble_eq_true rfl) rfl hW hF hT ?_ ?_
          · intro _ s10 f11 hT h hW hF
            obtain ⟨v12, rfl, iv12, hT⟩ := hT
            refine x_aload_n dX0_show_59 rfl rfl rfl ?_
            refine c_getO dX0_show_60 f_TallySlate_40 (by decide) (by decide) rfl hW ?_
            refine c_getO dX0_show_63 f_TallySlate_159 (by decide) (by decide) rfl hW ?_
            obtain ⟨a15, rfl, hT⟩ := hT
            obtain ⟨P17, hP, k16, hc, hT⟩ := hT
            have kr : ∀ r s13 f14, P17 (.inl r) s13 f14 → ∀ h, CW E w s13 f14 h → Frz f0 f14 → Ex l E (d + 1) MX0_show (66 + 3) [some (.ref (w.1 0)), some (.int x1)] (r.toList ++ []) h (PoC E w f0 Q) := by
              intro r s13 f14 h0 h hW hF
              have hT := hP _ _ _ h0
              clear h0
              obtain ⟨rfl, hT⟩ := hT
              refine x_aload_n dX0_show_69 rfl rfl rfl ?_
              refine c_getO dX0_show_70 f_TallySlate_40 (by decide) (by decide) rfl hW ?_
              refine c_getO dX0_show_73 f_TallySlate_159 (by decide) (by decide) rfl hW ?_
              refine c_getI (v := (s13.1 53)) dX0_show_76 f_TallySlate_163 (by decide) (by decide) rfl hW rfl ?_
              exact x_iret dX0_show_79 rfl rfl ⟨_, _, hW, hF, Or.inl ⟨_, rfl, hT⟩⟩
            have kt : ∀ k s13 f14, P17 (.inr k) s13 f14 → ∀ h a, CW E w s13 f14 h → xA w h k a → Frz f0 f14 → ExT l E (d + 1) MX0_show 66 [some (.ref (w.1 0)), some (.int x1)] [] a h (PoC E w f0 Q) := by
              intro k s13 f14 h0 h a hW hx hF
              have hT := hP _ _ _ h0
              clear h0
              exact c_out (rfl) hW hx hF hT
            obtain ⟨cc, hcc⟩ := hW.ocell hc
            rcases hT with ⟨rfl, hT⟩ | ⟨rfl, hT⟩ | ⟨rfl, hT⟩ | ⟨rfl, hT⟩
            · exact c_invV (vs := [.ref (w.1 8)]) dX0_show_66 oX32_form q2013 q2085 hcc q2027 (Or.inr hy_Thing_form) rfl rfl (Nat.le_of_ble_eq_true rfl) rfl hW hF hT kr kt
            · exact c_invV (vs := [.ref (w.1 8)]) dX0_show_66 oX33_form q2020 q2085 hcc q2028 (Or.inr hy_Thing_form) rfl rfl (Nat.le_of_ble_eq_true rfl) rfl hW hF hT kr kt
            · exact c_invV (vs := [.ref (w.1 8)]) dX0_show_66 oX34_form q2009 q2085 hcc q2008 (Or.inr hy_Thing_form) rfl rfl (Nat.le_of_ble_eq_true rfl) rfl hW hF hT kr kt
            · exact c_invV (vs := [.ref (w.1 8)]) dX0_show_66 oX35_form q2024 q2085 hcc q2029 (Or.inr hy_Thing_form) rfl rfl (Nat.le_of_ble_eq_true rfl) rfl hW hF hT kr kt
          · intro k s10 f11 hT h a hW hx hF
            exact c_out (rfl) hW hx hF hT
        · subst e
          replace hT := hT.1 rfl
          refine x_aload_n dX0_show_29 rfl rfl rfl ?_
          refine c_getO dX0_show_30 f_TallySlate_40 (by decide) (by decide) rfl hW ?_
          refine c_getO dX0_show_33 f_TallySlate_159 (by decide) (by decide) rfl hW ?_
          refine x_aload_n dX0_show_36 rfl rfl rfl ?_
          refine c_getO dX0_show_37 f_TallySlate_40 (by decide) (by decide) rfl hW ?_
          refine c_getO dX0_show_40 f_TallySlate_108 (by decide) (by decide) rfl hW ?_
          refine c_getA dX0_show_43 f_TallySlate_184 (by decide) (by decide) rfl hW ?_
          refine x_iload_n dX0_show_46 rfl rfl ?_
          obtain ⟨hb, hT⟩ := hT
          refine c_iald (v := (s4.2.2.1 42 x1.toNatClampNeg)) dX0_show_47 rfl hb hW rfl ?_
          obtain ⟨-, -, cc, hcc, -⟩ := hW.ob 8 (by decide)
          refine c_invV (vs := [.int (s4.2.2.1 42 x1.toNatClampNeg)]) dX0_show_48 oX8_number q1995 q2084 hcc q1996 (Or.inl rfl) rfl rfl (Nat.le_of_ble_eq_true rfl) rfl hW hF hT ?_ ?_
          · intro _ s8 f9 hT h hW hF
            obtain ⟨rfl, hT⟩ := hT
            refine x_goto (tgt := 69) dX0_show_51 rfl ?_
            refine x_aload_n dX0_show_69 rfl rfl rfl ?_
            refine c_getO dX0_show_70 f_TallySlate_40 (by decide) (by decide) rfl hW ?_
            refine c_getO dX0_show_73 f_TallySlate_159 (by decide) (by decide) rfl hW ?_
            refine c_getI (v := (s8.1 53)) dX0_show_76 f_TallySlate_163 (by decide) (by decide) rfl hW rfl ?_
            exact x_iret dX0_show_79 rfl rfl ⟨_, _, hW, hF, Or.inl ⟨_, rfl, hT⟩⟩
          · intro k s8 f9 hT h a hW hx hF
            exact c_out (rfl) hW hx hF hT
      · intro k s4 f5 hT h a hW hx hF
        exact c_out (rfl) hW hx hF hT
    · replace hT := hT.2 c
      refine x_iconst (v := (-1)) dX0_show_8 rfl ?_
      exact x_iret dX0_show_9 rfl rfl ⟨_, _, hW, hF, Or.inl ⟨_, rfl, hT⟩⟩
  · intro k s1 f2 hT h a hW hx hF
    exact c_out (rfl) hW hx hF hT
theorem eX0_show {l : Launch} {E : EN} {w : CO} {d : Nat} {s : CS} {f : RH} {Q : KO → CS → RH → Prop} {x1 : Int32}  (hst : l.stackTraces = false) (hT : (EvC l E w d MX0_has [.ref (w.1 0), .int x1] s f (fun o s1 f2 => KP o (fun r => ∃ v3 : Int32, r = some (.int v3) ∧ ((¬ v3 = 0 → (EvC l E w d MX0_thingOn [.ref (w.1 0), .int x1] (uI s1 53 0) f2 (fun o s4 f5 => KP o (fun r => ∃ v6 : Value, r = some v6 ∧ isR v6 = true ∧ ((v6 = .null → (inB x1 8 ∧ (EvC l E w d MX8_number [.ref (w.1 8), .int (s4.2.2.1 42 x1.toNatClampNeg)] s4 f5 (fun o s8 f9 => KP o (fun r => r = none ∧ Q (.inl (some (.int (s8.1 53)))) s8 f9) (fun k => Q (.inr k) s8 f9))))) ∧ (∀ a7 : Nat, v6 = .ref a7 → (EvC l E w d MX0_thingOn [.ref (w.1 0), .int x1] s4 f5 (fun o s10 f11 => KP o (fun r => ∃ v12 : Value, r = some v12 ∧ isR v12 = true ∧ (∃ a15 : Nat, v12 = .ref a15 ∧ (∃ P17 : KO → CS → RH → Prop, (∀ o s13 f14, P17 o s13 f14 → KP o (fun r => r = none ∧ Q (.inl (some (.int (s13.1 53)))) s13 f14) (fun k => Q (.inr k) s13 f14)) ∧ ∃ k16 : Nat, oc f11 a15 k16 ∧ ((k16 = 29 ∧ EvC l E w d MX32_form [.ref a15, .ref (w.1 8)] s10 f11 P17) ∨ (k16 = 30 ∧ EvC l E w d MX33_form [.ref a15, .ref (w.1 8)] s10 f11 P17) ∨ (k16 = 31 ∧ EvC l E w d MX34_form [.ref a15, .ref (w.1 8)] s10 f11 P17) ∨ (k16 = 32 ∧ EvC l E w d MX35_form [.ref a15, .ref (w.1 8)] s10 f11 P17))))) (fun k => Q (.inr k) s10 f11)))))) (fun k => Q (.inr k) s4 f5)))) ∧ (v3 = 0 → Q (.inl (some (.int (-1)))) s1 f2))) (fun k => Q (.inr k) s1 f2)))) : EvC l E w (d + 1) MX0_show [.ref (w.1 0), .int x1] s f Q :=
  EvC.of hst (by decide) (Nat.le_of_ble_eq_true rfl) (vX0_show_0  hT)
theorem vX0_has_0 {l : Launch} {E : EN} {w : CO} {d : Nat} {s : CS} {f : RH} {Q : KO → CS → RH → Prop} {x1 : Int32}  (hT : (EvC l E w d MX0_isShelf [.int x1] s f (fun o s1 f2 => KP o (fun r => ∃ v3 : Int32, r = some (.int v3) ∧ ((v3 = 0 → Q (.inl (some (.int 0))) s1 f2) ∧ (¬ v3 = 0 → (inB x1 8 ∧ (((s1.2.2.1 46 x1.toNatClampNeg) = 0 → Q (.inl (some (.int 0))) s1 f2) ∧ (¬ (s1.2.2.1 46 x1.toNatClampNeg) = 0 → Q (.inl (some (.int 1))) s1 f2)))))) (fun k => Q (.inr k) s1 f2)))) : ExC l E w (d + 1) MX0_has 0 [some (.ref (w.1 0)), some (.int x1)] [] s f Q := by
  intro f0 h hW hF
  refine x_iload_n dX0_has_0 rfl rfl ?_
  refine c_invS (vs := [.int x1]) dX0_has_1 oX0_isShelf q1307 (Or.inl q1306) rfl rfl (Nat.le_of_ble_eq_true rfl) rfl hW hF hT ?_ ?_
  · intro _ s1 f2 hT h hW hF
    obtain ⟨v3, rfl, hT⟩ := hT
    refine x_if_eq (tgt := 26) dX0_has_4 rfl (fun c => ?_) (fun c => ?_)
    · replace hT := hT.1 c
      refine x_iconst (v := 0) dX0_has_26 rfl ?_
      exact x_iret dX0_has_27 rfl rfl ⟨_, _, hW, hF, Or.inl ⟨_, rfl, hT⟩⟩
    · replace hT := hT.2 c
      refine x_aload_n dX0_has_7 rfl rfl rfl ?_
      refine c_getO dX0_has_8 f_TallySlate_40 (by decide) (by decide) rfl hW ?_
      refine c_getO dX0_has_11 f_TallySlate_108 (by decide) (by decide) rfl hW ?_
      refine c_getA dX0_has_14 f_TallySlate_169 (by decide) (by decide) rfl hW ?_
      refine x_iload_n dX0_has_17 rfl rfl ?_
      obtain ⟨hb, hT⟩ := hT
      refine c_bald (v := (s1.2.2.1 46 x1.toNatClampNeg)) dX0_has_18 rfl (by decide) hb hW rfl ?_
      refine x_if_eq (tgt := 26) dX0_has_19 rfl (fun c => ?_) (fun c => ?_)
      · replace hT := hT.1 c
        refine x_iconst (v := 0) dX0_has_26 rfl ?_
        exact x_iret dX0_has_27 rfl rfl ⟨_, _, hW, hF, Or.inl ⟨_, rfl, hT⟩⟩
      · replace hT := hT.2 c
        refine x_iconst (v := 1) dX0_has_22 rfl ?_
        refine x_goto (tgt := 27) dX0_has_23 rfl ?_
        exact x_iret dX0_has_27 rfl rfl ⟨_, _, hW, hF, Or.inl ⟨_, rfl, hT⟩⟩
  · intro k s1 f2 hT h a hW hx hF
    exact c_out (rfl) hW hx hF hT
theorem eX0_has {l : Launch} {E : EN} {w : CO} {d : Nat} {s : CS} {f : RH} {Q : KO → CS → RH → Prop} {x1 : Int32}  (hst : l.stackTraces = false) (hT : (EvC l E w d MX0_isShelf [.int x1] s f (fun o s1 f2 => KP o (fun r => ∃ v3 : Int32, r = some (.int v3) ∧ ((v3 = 0 → Q (.inl (some (.int 0))) s1 f2) ∧ (¬ v3 = 0 → (inB x1 8 ∧ (((s1.2.2.1 46 x1.toNatClampNeg) = 0 → Q (.inl (some (.int 0))) s1 f2) ∧ (¬ (s1.2.2.1 46 x1.toNatClampNeg) = 0 → Q (.inl (some (.int 1))) s1 f2)))))) (fun k => Q (.inr k) s1 f2)))) : EvC l E w (d + 1) MX0_has [.ref (w.1 0), .int x1] s f Q :=
  EvC.of hst (by decide) (Nat.le_of_ble_eq_true rfl) (vX0_has_0  hT)
theorem vX0_thingOn_0 {l : Launch} {E : EN} {w : CO} {d : Nat} {s : CS} {f : RH} {Q : KO → CS → RH → Prop} {x1 : Int32}  (hT : (inB x1 8 ∧ ∃ v1 : Value, (s.2.2.2 44 x1.toNatClampNeg) = v1 ∧ isR v1 = true ∧ Q (.inl (some v1)) s f)) : ExC l E w d MX0_thingOn 0 [some (.ref (w.1 0)), some (.int x1)] [] s f Q := by
  intro f0 h hW hF
  refine x_aload_n dX0_thingOn_0 rfl rfl rfl ?_
  refine c_getO dX0_thingOn_1 f_TallySlate_40 (by decide) (by decide) rfl hW ?_
  refine c_getO dX0_thingOn_4 f_TallySlate_108 (by decide) (by decide) rfl hW ?_
  refine c_getA dX0_thingOn_7 f_TallySlate_173 (by decide) (by decide) rfl hW ?_
  refine x_iload_n dX0_thingOn_10 rfl rfl ?_
  obtain ⟨hb, v1, ev, iv1, hT⟩ := hT
  refine c_aald (v := v1) dX0_thingOn_11 rfl hb hW ev ?_
  exact x_aret dX0_thingOn_12 rfl (by first | exact Or.inl ⟨_, rfl⟩ | exact Or.inr ⟨_, rfl⟩) iv1 ⟨_, _, hW, hF, Or.inl ⟨_, rfl, hT⟩⟩
theorem eX0_thingOn {l : Launch} {E : EN} {w : CO} {d : Nat} {s : CS} {f : RH} {Q : KO → CS → RH → Prop} {x1 : Int32}  (hst : l.stackTraces = false) (hT : (inB x1 8 ∧ ∃ v1 : Value, (s.2.2.2 44 x1.toNatClampNeg) = v1 ∧ isR v1 = true ∧ Q (.inl (some v1)) s f)) : EvC l E w d MX0_thingOn [.ref (w.1 0), .int x1] s f Q :=
  EvC.of hst (by decide) (Nat.le_of_ble_eq_true rfl) (vX0_thingOn_0  hT)
theorem vX0_set_0 {l : Launch} {E : EN} {w : CO} {d : Nat} {s : CS} {f : RH} {Q : KO → CS → RH → Prop} {x1 : Int32} {x2 : Int32}  (hT : (EvC l E w d MX0_isShelf [.int x1] s f (fun o s1 f2 => KP o (fun r => ∃ v3 : Int32, r = some (.int v3) ∧ ((¬ v3 = 0 → (EvC l E w d MX4_put [.ref (w.1 4), .int x1, .int x2, .null] s1 f2 (fun o s4 f5 => KP o (fun r => r = none ∧ Q (.inl (some (.int 1))) s4 f5) (fun k => Q (.inr k) s4 f5)))) ∧ (v3 = 0 → Q (.inl (some (.int 0))) s1 f2))) (fun k => Q (.inr k) s1 f2)))) : ExC l E w (d + 1) MX0_set 0 [some (.ref (w.1 0)), some (.int x1), some (.int x2)] [] s f Q := by
  intro f0 h hW hF
  refine x_iload_n dX0_set_0 rfl rfl ?_
  refine c_invS (vs := [.int x1]) dX0_set_1 oX0_isShelf q1307 (Or.inl q1306) rfl rfl (Nat.le_of_ble_eq_true rfl) rfl hW hF hT ?_ ?_
  · intro _ s1 f2 hT h hW hF
    obtain ⟨v3, rfl, hT⟩ := hT
    refine x_if_ne (tgt := 9) dX0_set_4 rfl (fun c => ?_) (fun c => ?_)
    · replace hT := hT.1 c
      refine x_aload_n dX0_set_9 rfl rfl rfl ?_
      refine c_getO dX0_set_10 f_TallySlate_40 (by decide) (by decide) rfl hW ?_
      refine c_getO dX0_set_13 f_TallySlate_108 (by decide) (by decide) rfl hW ?_
      refine x_iload_n dX0_set_16 rfl rfl ?_
      refine x_iload_n dX0_set_17 rfl rfl ?_
      refine x_null dX0_set_18 ?_
      obtain ⟨-, -, cc, hcc, -⟩ := hW.ob 4 (by decide)
      refine c_invV (vs := [.int x1, .int x2, .null]) dX0_set_19 oX4_put q1939 q2090 hcc q1940 (Or.inl rfl) rfl rfl (Nat.le_of_ble_eq_true rfl) rfl hW hF hT ?_ ?_
      · intro _ s4 f5 hT h hW hF
        obtain ⟨rfl, hT⟩ := hT
        refine x_iconst (v := 1) dX0_set_22 rfl ?_
        exact x_iret dX0_set_23 rfl rfl ⟨_, _, hW, hF, Or.inl ⟨_, rfl, hT⟩⟩
      · intro k s4 f5 hT h a hW hx hF
        exact c_out (rfl) hW hx hF hT
    · replace hT := hT.2 c
      refine x_iconst (v := 0) dX0_set_7 rfl ?_
      exact x_iret dX0_set_8 rfl rfl ⟨_, _, hW, hF, Or.inl ⟨_, rfl, hT⟩⟩
  · intro k s1 f2 hT h a hW hx hF
    exact c_out (rfl) hW hx hF hT
theorem eX0_set {l : Launch} {E : EN} {w : CO} {d : Nat} {s : CS} {f : RH} {Q : KO → CS → RH → Prop} {x1 : Int32} {x2 : Int32}  (hst : l.stackTraces = false) (hT : (EvC l E w d MX0_isShelf [.int x1] s f (fun o s1 f2 => KP o (fun r => ∃ v3 : Int32, r = some (.int v3) ∧ ((¬ v3 = 0 → (EvC l E w d MX4_put [.ref (w.1 4), .int x1, .int x2, .null] s1 f2 (fun o s4 f5 => KP o (fun r => r = none ∧ Q (.inl (some (.int 1))) s4 f5) (fun k => Q (.inr k) s4 f5)))) ∧ (v3 = 0 → Q (.inl (some (.int 0))) s1 f2))) (fun k => Q (.inr k) s1 f2)))) : EvC l E w (d + 1) MX0_set [.ref (w.1 0), .int x1, .int x2] s f Q :=
  EvC.of hst (by decide) (Nat.le_of_ble_eq_true rfl) (vX0_set_0  hT)
theorem vX0_clear_0 {l : Launch} {E : EN} {w : CO} {d : Nat} {s : CS} {f : RH} {Q : KO → CS → RH → Prop} {x1 : Int32}  (hT : (EvC l E w d MX0_has [.ref (w.1 0), .int x1] s f (fun o s1 f2 => KP o (fun r => ∃ v3 : Int32, r = some (.int v3) ∧ ((¬ v3 = 0 → (inB x1 8 ∧ Q (.inl (some (.int 1))) (uA s1 46 x1.toNatClampNeg 0) f2)) ∧ (v3 = 0 → Q (.inl (some (.int 0))) s1 f2))) (fun k => Q (.inr k) s1 f2)))) : ExC l E w (d + 1) MX0_clear 0 [some (.ref (w.1 0)), some (.int x1)] [] s f Q := by
  intro f0 h hW hF
  refine x_aload_n dX0_clear_0 rfl rfl rfl ?_
  refine x_iload_n dX0_clear_1 rfl rfl ?_
  obtain ⟨-, -, cc, hcc, -⟩ := hW.ob 0 (by decide)
  refine c_invV (vs := [.int x1]) dX0_clear_2 oX0_has q2078 q2076 hcc qs58 (Or.inl rfl) rfl rfl (Nat.le_of_ble_eq_true rfl) rfl hW hF hT ?_ ?_
  · intro _ s1 f2 hT h hW hF
    obtain ⟨v3, rfl, hT⟩ := hT
    refine x_if_ne (tgt := 10) dX0_clear_5 rfl (fun c => ?_) (fun c => ?_)
    · replace hT := hT.1 c
      refine x_aload_n dX0_clear_10 rfl rfl rfl ?_
      refine c_getO dX0_clear_11 f_TallySlate_40 (by decide) (by decide) rfl hW ?_
      refine c_getO dX0_clear_14 f_TallySlate_108 (by decide) (by decide) rfl hW ?_
      refine c_getA dX0_clear_17 f_TallySlate_169 (by decide) (by decide) rfl hW ?_
      refine x_iload_n dX0_clear_20 rfl rfl ?_
      refine x_iconst (v := 0) dX0_clear_21 rfl ?_
      obtain ⟨hb, hT⟩ := hT
      refine c_zast dX0_clear_22 rfl hb rfl hW ?_
      intro h hW
      refine x_iconst (v := 1) dX0_clear_23 rfl ?_
      exact x_iret dX0_clear_24 rfl rfl ⟨_, _, hW, hF, Or.inl ⟨_, rfl, hT⟩⟩
    · replace hT := hT.2 c
      refine x_iconst (v := 0) dX0_clear_8 rfl ?_
      exact x_iret dX0_clear_9 rfl rfl ⟨_, _, hW, hF, Or.inl ⟨_, rfl, hT⟩⟩
  · intro k s1 f2 hT h a hW hx hF
    exact c_out (rfl) hW hx hF hT
theorem eX0_clear {l : Launch} {E : EN} {w : CO} {d : Nat} {s : CS} {f : RH} {Q : KO → CS → RH → Prop} {x1 : Int32}  (hst : l.stackTraces = false) (hT : (EvC l E w d MX0_has [.ref (w.1 0), .int x1] s f (fun o s1 f2 => KP o (fun r => ∃ v3 : Int32, r = some (.int v3) ∧ ((¬ v3 = 0 → (inB x1 8 ∧ Q (.inl (some (.int 1))) (uA s1 46 x1.toNatClampNeg 0) f2)) ∧ (v3 = 0 → Q (.inl (some (.int 0))) s1 f2))) (fun k => Q (.inr k) s1 f2)))) : EvC l E w (d + 1) MX0_clear [.ref (w.1 0), .int x1] s f Q :=
  EvC.of hst (by decide) (Nat.le_of_ble_eq_true rfl) (vX0_clear_0  hT)
theorem vX0_kind_0 {l : Launch} {E : EN} {w : CO} {d : Nat} {s : CS} {f : RH} {Q : KO → CS → RH → Prop} {x1 : Int32}  (hT : (EvC l E w d MX0_has [.ref (w.1 0), .int x1] s f (fun o s1 f2 => KP o (fun r => ∃ v3 : Int32, r = some (.int v3) ∧ ((¬ v3 = 0 → (EvC l E w d MX0_thingOn [.ref (w.1 0), .int x1] s1 f2 (fun o s4 f5 => KP o (fun r => ∃ v6 : Value, r = some v6 ∧ isR v6 = true ∧ ((v6 = .null → Q (.inl (some (.int 0))) s4 f5) ∧ (∀ a7 : Nat, v6 = .ref a7 → (EvC l E w d MX0_thingOn [.ref (w.1 0), .int x1] s4 f5 (fun o s8 f9 => KP o (fun r => ∃ v10 : Value, r = some v10 ∧ isR v10 = true ∧ (∃ a13 : Nat, v10 = .ref a13 ∧ (∃ P16 : KO → CS → RH → Prop, (∀ o s11 f12, P16 o s11 f12 → KP o (fun r => ∃ v14 : Int32, r = some (.int v14) ∧ Q (.inl (some (.int v14))) s11 f12) (fun k => Q (.inr k) s11 f12)) ∧ ∃ k15 : Nat, oc f9 a13 k15 ∧ ((k15 = 29 ∧ EvC l E w d MX32_kind [.ref a13] s8 f9 P16) ∨ (k15 = 30 ∧ EvC l E w d MX33_kind [.ref a13] s8 f9 P16) ∨ (k15 = 31 ∧ EvC l E w d MX34_kind [.ref a13] s8 f9 P16) ∨ (k15 = 32 ∧ EvC l E w d MX35_kind [.ref a13] s8 f9 P16))))) (fun k => Q (.inr k) s8 f9)))))) (fun k => Q (.inr k) s4 f5)))) ∧ (v3 = 0 → Q (.inl (some (.int (-1)))) s1 f2))) (fun k => Q (.inr k) s1 f2)))) : ExC l E w (d + 1) MX0_kind 0 [some (.ref (w.1 0)), some (.int x1)] [] s f Q := by
  intro f0 h hW hF
  refine x_aload_n dX0_kind_0 rfl rfl rfl ?_
  refine x_iload_n dX0_kind_1 rfl rfl ?_
  obtain ⟨-, -, cc, hcc, -⟩ := hW.ob 0 (by decide)
  refine c_invV (vs := [.int x1]) dX0_kind_2 oX0_has q2078 q2076 hcc qs58 (Or.inl rfl) rfl rfl (Nat.le_of_ble_eq_true rfl) rfl hW hF hT ?_ ?_
  · intro _ s1 f2 hT h hW hF
    obtain ⟨v3, rfl, hT⟩ := hT
    refine x_if_ne (tgt := 12) dX0_kind_5 rfl (fun c => ?_) (fun c => ?_)
    · replace hT := hT.1 c
      refine x_aload_n dX0_kind_12 rfl rfl rfl ?_
      refine x_iload_n dX0_kind_13 rfl rfl ?_
      obtain ⟨-, -, cc, hcc, -⟩ := hW.ob 0 (by decide)
      refine c_invV (vs := [.int x1]) dX0_kind_14 oX0_thingOn q2082 q2080 hcc qs59 (Or.inl rfl) rfl rfl (Nat.le_of_ble_eq_true rfl) rfl hW hF hT ?_ ?_
      · intro _ s4 f5 hT h hW hF
        obtain ⟨v6, rfl, iv6, hT⟩ := hT
        refine x_ifnonnull (tgt := 24) dX0_kind_17 rfl iv6 (fun a7 e => ?_) (fun e => ?_)
        · subst e
          replace hT := hT.2 a7 rfl
          refine x_aload_n dX0_kind_24 rfl rfl rfl ?_
          refine x_iload_n dX0_kind_25 rfl rfl ?_
          obtain ⟨-, -, cc, hcc, -⟩ := hW.ob 0 (by decide)
          refine c_invV (vs := [.int x1]) dX0_kind_26 oX0_thingOn q2082 q2080 hcc qs59 (Or.inl rfl) rfl rfl (Nat.le_of_ble_eq_true rfl) rfl hW hF hT ?_ ?_
          · intro _ s8 f9 hT h hW hF
            obtain ⟨v10, rfl, iv10, hT⟩ := hT
            obtain ⟨a13, rfl, hT⟩ := hT
            obtain ⟨P16, hP, k15, hc, hT⟩ := hT
            have kr : ∀ r s11 f12, P16 (.inl r) s11 f12 → ∀ h, CW E w s11 f12 h → Frz f0 f12 → Ex l E (d + 1) MX0_kind (29 + 3) [some (.ref (w.1 0)), some (.int x1)] (r.toList ++ []) h (PoC E w f0 Q) := by
              intro r s11 f12 h0 h hW hF
              have hT := hP _ _ _ h0
              clear h0
              obtain ⟨v14, rfl, hT⟩ := hT
              exact x_iret dX0_kind_32 rfl rfl ⟨_, _, hW, hF, Or.inl ⟨_, rfl, hT⟩⟩
            have kt : ∀ k s11 f12, P16 (.inr k) s11 f12 → ∀ h a, CW E w s11 f12 h → xA w h k a → Frz f0 f12 → ExT l E (d + 1) MX0_kind 29 [some (.ref (w.1 0)), some (.int x1)] [] a h (PoC E w f0 Q) := by
              intro k s11 f12 h0 h a hW hx hF
              have hT := hP _ _ _ h0
              clear h0
              exact c_out (rfl) hW hx hF hT
            obtain ⟨cc, hcc⟩ := hW.ocell hc
            rcases hT with ⟨rfl, hT⟩ | ⟨rfl, hT⟩ | ⟨rfl, hT⟩ | ⟨rfl, hT⟩
            · exact c_invV (vs := []) dX0_kind_29 oX32_kind q1765 q2106 hcc q1764 (Or.inr hy_Thing_kind) rfl rfl (Nat.le_of_ble_eq_true rfl) rfl hW hF hT kr kt
            · exact c_invV (vs := []) dX0_kind_29 oX33_kind q1768 q2106 hcc q1767 (Or.inr hy_Thing_kind) rfl rfl (Nat.le_of_ble_eq_true rfl) rfl hW hF hT kr kt
            · exact c_invV (vs := []) dX0_kind_29 oX34_kind q1762 q2106 hcc q1761 (Or.inr hy_Thing_kind) rfl rfl (Nat.le_of_ble_eq_true rfl) rfl hW hF hT kr kt
            · exact c_invV (vs := []) dX0_kind_29 oX35_kind q1771 q2106 hcc q1770 (Or.inr hy_Thing_kind) rfl rfl (Nat.le_of_ble_eq_true rfl) rfl hW hF hT kr kt
          · intro k s8 f9 hT h a hW hx hF
            exact c_out (rfl) hW hx hF hT
        · subst e
          replace hT := hT.1 rfl
          refine x_iconst (v := 0) dX0_kind_20 rfl ?_
          refine x_goto (tgt := 32) dX0_kind_21 rfl ?_
          exact x_iret dX0_kind_32 rfl rfl ⟨_, _, hW, hF, Or.inl ⟨_, rfl, hT⟩⟩
      · intro k s4 f5 hT h a hW hx hF
        exact c_out (rfl) hW hx hF hT
    · replace hT := hT.2 c
      refine x_iconst (v := (-1)) dX0_kind_8 rfl ?_
      refine x_goto (tgt := 32) dX0_kind_9 rfl ?_
      exact x_iret dX0_kind_32 rfl rfl ⟨_, _, hW, hF, Or.inl ⟨_, rfl, hT⟩⟩
  · intro k s1 f2 hT h a hW hx hF
    exact c_out (rfl) hW hx hF hT
theorem eX0_kind {l : Launch} {E : EN} {w : CO} {d : Nat} {s : CS} {f : RH} {Q : KO → CS → RH → Prop} {x1 : Int32}  (hst : l.stackTraces = false) (hT : (EvC l E w d MX0_has [.ref (w.1 0), .int x1] s f (fun o s1 f2 => KP o (fun r => ∃ v3 : Int32, r = some (.int v3) ∧ ((¬ v3 = 0 → (EvC l E w d MX0_thingOn [.ref (w.1 0), .int x1] s1 f2 (fun o s4 f5 => KP o (fun r => ∃ v6 : Value, r = some v6 ∧ isR v6 = true ∧ ((v6 = .null → Q (.inl (some (.int 0))) s4 f5) ∧ (∀ a7 : Nat, v6 = .ref a7 → (EvC l E w d MX0_thingOn [.ref (w.1 0), .int x1] s4 f5 (fun o s8 f9 => KP o (fun r => ∃ v10 : Value, r = some v10 ∧ isR v10 = true ∧ (∃ a13 : Nat, v10 = .ref a13 ∧ (∃ P16 : KO → CS → RH → Prop, (∀ o s11 f12, P16 o s11 f12 → KP o (fun r => ∃ v14 : Int32, r = some (.int v14) ∧ Q (.inl (some (.int v14))) s11 f12) (fun k => Q (.inr k) s11 f12)) ∧ ∃ k15 : Nat, oc f9 a13 k15 ∧ ((k15 = 29 ∧ EvC l E w d MX32_kind [.ref a13] s8 f9 P16) ∨ (k15 = 30 ∧ EvC l E w d MX33_kind [.ref a13] s8 f9 P16) ∨ (k15 = 31 ∧ EvC l E w d MX34_kind [.ref a13] s8 f9 P16) ∨ (k15 = 32 ∧ EvC l E w d MX35_kind [.ref a13] s8 f9 P16))))) (fun k => Q (.inr k) s8 f9)))))) (fun k => Q (.inr k) s4 f5)))) ∧ (v3 = 0 → Q (.inl (some (.int (-1)))) s1 f2))) (fun k => Q (.inr k) s1 f2)))) : EvC l E w (d + 1) MX0_kind [.ref (w.1 0), .int x1] s f Q :=
  EvC.of hst (by decide) (Nat.le_of_ble_eq_true rfl) (vX0_kind_0  hT)
set_option maxHeartbeats 16000000 in
theorem vX0_size_0 {l : Launch} {E : EN} {w : CO} {d : Nat} {s : CS} {f : RH} {Q : KO → CS → RH → Prop} {x1 : Int32} {x2 : Int32}  (hT : (EvC l E w d MX0_has [.ref (w.1 0), .int x1] s f (fun o s1 f2 => KP o (fun r => ∃ v3 : Int32, r = some (.int v3) ∧ ((¬ v3 = 0 → (EvC l E w d MX0_thingOn [.ref (w.1 0), .int x1] s1 f2 (fun o s4 f5 => KP o (fun r => ∃ v6 : Value, r = some v6 ∧ isR v6 = true ∧ ((¬ x2 = (-1) → ((v6 = .null → Q (.inl (some (.int (-1)))) s4 f5) ∧ (∀ a7 : Nat, v6 = .ref a7 → ((x2 < 0 → Q (.inl (some (.int (-1)))) s4 f5) ∧ (¬ x2 < 0 → (∃ P26 : KO → CS → RH → Prop, (∀ o s8 f9, P26 o s8 f9 → KP o (fun r => ∃ v10 : Int32, r = some (.int v10) ∧ ((x2 < v10 → (isT f9 (.ref a7) ∧ ((tg f9 a7 = some (.inl 30) → (tg f9 a7 = some (.inl 30) ∧ (oc f9 a7 30 ∧ (∃ a12 : Nat, vl f9 a7 204 = .ref a12 ∧ (∃ t13 : Nat, 4 ≤ t13 ∧ (tg f9 a12 = some (.inr t13) ∧ inB x2 (ln f9 a12) ∧ (∃ a14 : Nat, vl f9 a12 x2.toNatClampNeg = .ref a14 ∧ (∃ t15 : Nat, tg f9 a14 = some (.inr t15) ∧ Q (.inl (some (.int (nI (ln f9 a14))))) s8 f9)))))))) ∧ (¬ tg f9 a7 = some (.inl 30) → (isT f9 (.ref a7) ∧ ((tg f9 a7 = some (.inl 31) → (tg f9 a7 = some (.inl 31) ∧ (oc f9 a7 31 ∧ (∃ a17 : Nat, vl f9 a7 206 = .ref a17 ∧ (∃ t18 : Nat, 4 ≤ t18 ∧ (tg f9 a17 = some (.inr t18) ∧ inB x2 (ln f9 a17) ∧ (∃ a19 : Nat, vl f9 a17 x2.toNatClampNeg = .ref a19 ∧ (∃ P24 : KO → CS → RH → Prop, (∀ o s20 f21, P24 o s20 f21 → KP o (fun r => ∃ v22 : Int32, r = some (.int v22) ∧ Q (.inl (some (.int v22))) s20 f21) (fun k => Q (.inr k) s20 f21)) ∧ ∃ k23 : Nat, oc f9 a19 k23 ∧ ((k23 = 29 ∧ EvC l E w d MX32_kind [.ref a19] s8 f9 P24) ∨ (k23 = 30 ∧ EvC l E w d MX33_kind [.ref a19] s8 f9 P24) ∨ (k23 = 31 ∧ EvC l E w d MX34_kind [.ref a19] s8 f9 P24) ∨ (k23 = 32 ∧ EvC l E w d MX35_kind [.ref a19] s8 f9 P24)))))))))) ∧ (¬ tg f9 a7 = some (.inl 31) → Q (.inl (some (.int (-1)))) s8 f9))))))) ∧ (¬ x2 < v10 → Q (.inl (some (.int (-1)))) s8 f9))) (fun k => Q (.inr k) s8 f9)) ∧ ∃ k25 : Nat, oc f5 a7 k25 ∧ ((k25 = 29 ∧ EvC l E w d MX32_size [.ref a7] s4 f5 P26) ∨ (k25 = 30 ∧ EvC l E w d MX33_size [.ref a7] s4 f5 P26) ∨ (k25 = 31 ∧ EvC l E w d MX34_size [.ref a7] s4 f5 P26) ∨ (k25 = 32 ∧ EvC l E w d MX35_size [.ref a7] s4 f5 P26)))))))) ∧ (x2 = (-1) → ((v6 = .null → Q (.inl (some (.int 0))) s4 f5) ∧ (∀ a27 : Nat, v6 = .ref a27 → (∃ P32 : KO → CS → RH → Prop, (∀ o s28 f29, P32 o s28 f29 → KP o (fun r => ∃ v30 : Int32, r = some (.int v30) ∧ Q (.inl (some (.int v30))) s28 f29) (fun k => Q (.inr k) s28 f29)) ∧ ∃ k31 : Nat, oc f5 a27 k31 ∧ ((k31 = 29 ∧ EvC l E w d MX32_size [.ref a27] s4 f5 P32) ∨ (k31 = 30 ∧ EvC l E w d MX33_size [.ref a27] s4 f5 P32) ∨ (k31 = 31 ∧ EvC l E w d MX34_size [.ref a27] s4 f5 P32) ∨ (k31 = 32 ∧ EvC l E w d MX35_size [.ref a27] s4 f5 P32)))))))) (fun k => Q (.inr k) s4 f5)))) ∧ (v3 = 0 → Q (.inl (some (.int (-1)))) s1 f2))) (fun k => Q (.inr k) s1 f2)))) : ExC l E w (d + 1) MX0_size 0 [some (.ref (w.1 0)), some (.int x1), some (.int x2), none, none] [] s f Q := by
  intro f0 h hW hF
  refine x_aload_n dX0_size_0 rfl rfl rfl ?_
  refine x_iload_n dX0_size_1 rfl rfl ?_
  obtain ⟨-, -, cc, hcc, -⟩ := hW.ob 0 (by decide)
  refine c_invV (vs := [.int x1]) dX0_size_2 oX0_has q2078 q2076 hcc qs58 (Or.inl rfl) rfl rfl (Nat.le_of_ble_eq_true rfl) rfl hW hF hT ?_ ?_
  · intro _ s1 f2 hT h hW hF
    obtain ⟨v3, rfl, hT⟩ := hT
    refine x_if_ne (tgt := 10) dX0_size_5 rfl (fun c => ?_) (fun c => ?_)
    · replace hT := hT.1 c
      refine x_aload_n dX0_size_10 rfl rfl rfl ?_
      refine x_iload_n dX0_size_11 rfl rfl ?_
      obtain ⟨-, -, cc, hcc, -⟩ := hW.ob 0 (by decide)
      refine c_invV (vs := [.int x1]) dX0_size_12 oX0_thingOn q2082 q2080 hcc qs59 (Or.inl rfl) rfl rfl (Nat.le_of_ble_eq_true rfl) rfl hW hF hT ?_ ?_
      · intro _ s4 f5 hT h hW hF
        obtain ⟨v6, rfl, iv6, hT⟩ := hT
        refine x_astore_n (lo' := [some (.ref (w.1 0)), some (.int x1), some (.int x2), some (v6), none]) dX0_size_15 rfl (Nat.le_of_ble_eq_true rfl) iv6 rfl ?_
        refine x_iload_n dX0_size_16 rfl rfl ?_
        refine x_iconst (v := (-1)) dX0_size_17 rfl ?_
        refine x_icmp_ne (tgt := 34) dX0_size_18 rfl (fun c => ?_) (fun c => ?_)
        · replace hT := hT.1 c
          refine x_aload_n dX0_size_34 rfl rfl iv6 ?_
          refine x_ifnull (tgt := 50) dX0_size_35 rfl iv6 (fun e => ?_) (fun a7 e => ?_)
          · subst e
            replace hT := hT.1 rfl
            refine x_iconst (v := (-1)) dX0_size_50 rfl ?_
            exact x_iret dX0_size_51 rfl rfl ⟨_, _, hW, hF, Or.inl ⟨_, rfl, hT⟩⟩
          · subst e
            replace hT := hT.2 a7 rfl
            refine x_iload_n dX0_size_38 rfl rfl ?_
            refine x_if_lt (tgt := 50) dX0_size_39 rfl (fun c => ?_) (fun c => ?_)
            · replace hT := hT.1 c
              refine x_iconst (v := (-1)) dX0_size_50 rfl ?_
              exact x_iret dX0_size_51 rfl rfl ⟨_, _, hW, hF, Or.inl ⟨_, rfl, hT⟩⟩
            · replace hT := hT.2 c
              refine x_iload_n dX0_size_42 rfl rfl ?_
              refine x_aload_n dX0_size_43 rfl rfl rfl ?_
              obtain ⟨P26, hP, k25, hc, hT⟩ := hT
              have kr : ∀ r s8 f9, P26 (.inl r) s8 f9 → ∀ h, CW E w s8 f9 h → Frz f0 f9 → Ex l E (d + 1) MX0_size (44 + 3) [some (.ref (w.1 0)), some (.int x1), some (.int x2), some (.ref a7), none] (r.toList ++ [.int x2]) h (PoC E w f0 Q) := by
                intro r s8 f9 h0 h hW hF
                have hT := hP _ _ _ h0
                clear h0
                obtain ⟨v10, rfl, hT⟩ := hT
                refine x_icmp_lt (tgt := 52) dX0_size_47 rfl (fun c => ?_) (fun c => ?_)
                · replace hT := hT.1 c
                  refine x_aload_n dX0_size_52 rfl rfl rfl ?_
                  obtain ⟨ht, hT⟩ := hT
                  refine c_inst (K := 30) dX0_size_53 (by decide) q2112 ht hW (fun hi11 => ?_) (fun hi11 => ?_)
                  · replace hT := hT.1 hi11
                    refine x_if_eq (tgt := 74) dX0_size_56 rfl (fun c => absurd c (by decide)) (fun _ => ?_)
                    refine x_aload_n dX0_size_59 rfl rfl rfl ?_
                    obtain ⟨hc, hT⟩ := hT
                    refine c_cast (K := 30) dX0_size_60 q2112 hc hW ?_
                    refine x_astore (lo' := [some (.ref (w.1 0)), some (.int x1), some (.int x2), some (.ref a7), some (.ref a7)]) dX0_size_63 (Nat.le_of_ble_eq_true rfl) rfl rfl ?_
                    refine x_aload dX0_size_65 rfl rfl ?_
                    obtain ⟨hc, hT⟩ := hT
                    obtain ⟨a12, ev, hT⟩ := hT
                    refine c_fgetG dX0_size_67 f_TallySlate_220 hc (by decide) (by decide) hW ev ?_
                    refine x_iload_n dX0_size_70 rfl rfl ?_
                    obtain ⟨t13, ht2, hc, hT⟩ := hT
                    obtain ⟨hb, hT⟩ := hT
                    obtain ⟨a14, ev, hT⟩ := hT
                    refine c_faald dX0_size_71 hc ht2 hb hW ev ?_
                    obtain ⟨t15, hc, hT⟩ := hT
                    refine c_alen dX0_size_72 hc hW ?_
                    exact x_iret dX0_size_73 rfl rfl ⟨_, _, hW, hF, Or.inl ⟨_, rfl, hT⟩⟩
                  · replace hT := hT.2 hi11
                    refine x_if_eq (tgt := 74) dX0_size_56 rfl (fun _ => ?_) (fun c => absurd c (by decide))
                    refine x_aload_n dX0_size_74 rfl rfl rfl ?_
                    obtain ⟨ht, hT⟩ := hT
                    refine c_inst (K := 31) dX0_size_75 (by decide) q2113 ht hW (fun hi16 => ?_) (fun hi16 => ?_)
                    · replace hT := hT.1 hi16
                      refine x_if_eq (tgt := 100) dX0_size_78 rfl (fun c => absurd c (by decide)) (fun _ => ?_)
                      refine x_aload_n dX0_size_81 rfl rfl rfl ?_
                      obtain ⟨hc, hT⟩ := hT
                      refine c_cast (K := 31) dX0_size_82 q2113 hc hW ?_
                      refine x_astore (lo' := [some (.ref (w.1 0)), some (.int x1), some (.int x2), some (.ref a7), some (.ref a7)]) dX0_size_85 (Nat.le_of_ble_eq_true rfl) rfl rfl ?_
                      refine x_aload dX0_size_87 rfl rfl ?_
                      obtain ⟨hc, hT⟩ := hT
                      obtain ⟨a17, ev, hT⟩ := hT
                      refine c_fgetG dX0_size_89 f_TallySlate_225 hc (by decide) (by decide) hW ev ?_
                      refine x_iload_n dX0_size_92 rfl rfl ?_
                      obtain ⟨t18, ht2, hc, hT⟩ := hT
                      obtain ⟨hb, hT⟩ := hT
                      obtain ⟨a19, ev, hT⟩ := hT
                      refine c_faald dX0_size_93 hc ht2 hb hW ev ?_
                      obtain ⟨P24, hP, k23, hc, hT⟩ := hT
                      have kr : ∀ r s20 f21, P24 (.inl r) s20 f21 → ∀ h, CW E w s20 f21 h → Frz f0 f21 → Ex l E (d + 1) MX0_size (94 + 3) [some (.ref (w.1 0)), some (.int x1), some (.int x2), some (.ref a7), some (.ref a7)] (r.toList ++ []) h (PoC E w f0 Q) := by
                        intro r s20 f21 h0 h hW hF
                        have hT := hP _ _ _ h0
                        clear h0
                        obtain ⟨v22, rfl, hT⟩ := hT
                        refine x_goto (tgt := 101) dX0_size_97 rfl ?_
                        exact x_iret dX0_size_101 rfl rfl ⟨_, _, hW, hF, Or.inl ⟨_, rfl, hT⟩⟩
                      have kt : ∀ k s20 f21, P24 (.inr k) s20 f21 → ∀ h a, CW E w s20 f21 h → xA w h k a → Frz f0 f21 → ExT l E (d + 1) MX0_size 94 [some (.ref (w.1 0)), some (.int x1), some (.int x2), some (.ref a7), some (.ref a7)] [] a h (PoC E w f0 Q) := by
                        intro k s20 f21 h0 h a hW hx hF
                        have hT := hP _ _ _ h0
                        clear h0
                        exact c_out (rfl) hW hx hF hT
                      obtain ⟨cc, hcc⟩ := hW.ocell hc
                      rcases hT with ⟨rfl, hT⟩ | ⟨rfl, hT⟩ | ⟨rfl, hT⟩ | ⟨rfl, hT⟩
                      · exact c_invV (vs := []) dX0_size_94 oX32_kind q1765 q2106 hcc q1764 (Or.inr hy_Thing_kind) rfl rfl (Nat.le_of_ble_eq_true rfl) rfl hW hF hT kr kt
                      · exact c_invV (vs := []) dX0_size_94 oX33_kind q1768 q2106 hcc q1767 (Or.inr hy_Thing_kind) rfl rfl (Nat.le_of_ble_eq_true rfl) rfl hW hF hT kr kt
                      · exact c_invV (vs := []) dX0_size_94 oX34_kind q1762 q2106 hcc q1761 (Or.inr hy_Thing_kind) rfl rfl (Nat.le_of_ble_eq_true rfl) rfl hW hF hT kr kt
                      · exact c_invV (vs := []) dX0_size_94 oX35_kind q1771 q2106 hcc q1770 (Or.inr hy_Thing_kind) rfl rfl (Nat.le_of_ble_eq_true rfl) rfl hW hF hT kr kt
                    · replace hT := hT.2 hi16
                      refine x_if_eq (tgt := 100) dX0_size_78 rfl (fun _ => ?_) (fun c => absurd c (by decide))
                      refine x_iconst (v := (-1)) dX0_size_100 rfl ?_
                      exact x_iret dX0_size_101 rfl rfl ⟨_, _, hW, hF, Or.inl ⟨_, rfl, hT⟩⟩
                · replace hT := hT.2 c
                  refine x_iconst (v := (-1)) dX0_size_50 rfl ?_
                  exact x_iret dX0_size_51 rfl rfl ⟨_, _, hW, hF, Or.inl ⟨_, rfl, hT⟩⟩
              have kt : ∀ k s8 f9, P26 (.inr k) s8 f9 → ∀ h a, CW E w s8 f9 h → xA w h k a → Frz f0 f9 → ExT l E (d + 1) MX0_size 44 [some (.ref (w.1 0)), some (.int x1), some (.int x2), some (.ref a7), none] [.int x2] a h (PoC E w f0 Q) := by
                intro k s8 f9 h0 h a hW hx hF
                have hT := hP _ _ _ h0
                clear h0
                exact c_out (rfl) hW hx hF hT
              obtain ⟨cc, hcc⟩ := hW.ocell hc
              rcases hT with ⟨rfl, hT⟩ | ⟨rfl, hT⟩ | ⟨rfl, hT⟩ | ⟨rfl, hT⟩
              · exact c_invV (vs := []) dX0_size_44 oX32_size q1454 q2111 hcc q1453 (Or.inr hy_Thing_size) rfl rfl (Nat.le_of_ble_eq_true rfl) rfl hW hF hT kr kt
              · exact c_invV (vs := []) dX0_size_44 oX33_size q1457 q2111 hcc q1456 (Or.inr hy_Thing_size) rfl rfl (Nat.le_of_ble_eq_true rfl) rfl hW hF hT kr kt
              · exact c_invV (vs := []) dX0_size_44 oX34_size q1451 q2111 hcc q1450 (Or.inr hy_Thing_size) rfl rfl (Nat.le_of_ble_eq_true rfl) rfl hW hF hT kr kt
              · exact c_invV (vs := []) dX0_size_44 oX35_size q1460 q2111 hcc q1459 (Or.inr hy_Thing_size) rfl rfl (Nat.le_of_ble_eq_true rfl) rfl hW hF hT kr kt
        · replace hT := hT.2 c
          refine x_aload_n dX0_size_21 rfl rfl iv6 ?_
          refine x_ifnonnull (tgt := 29) dX0_size_22 rfl iv6 (fun a27 e => ?_) (fun e => ?_)
          · subst e
            replace hT := hT.2 a27 rfl
            refine x_aload_n dX0_size_29 rfl rfl rfl ?_
            obtain ⟨P32, hP, k31, hc, hT⟩ := hT
            have kr : ∀ r s28 f29, P32 (.inl r) s28 f29 → ∀ h, CW E w s28 f29 h → Frz f0 f29 → Ex l E (d + 1) MX0_size (30 + 3) [some (.ref (w.1 0)), some (.int x1), some (.int x2), some (.ref a27), none] (r.toList ++ []) h (PoC E w f0 Q) := by
              intro r s28 f29 h0 h hW hF
              have hT := hP _ _ _ h0
              clear h0
              obtain ⟨v30, rfl, hT⟩ := hT
              exact x_iret dX0_size_33 rfl rfl ⟨_, _, hW, hF, Or.inl ⟨_, rfl, hT⟩⟩
            have kt : ∀ k s28 f29, P32 (.inr k) s28 f29 → ∀ h a, CW E w s28 f29 h → xA w h k a → Frz f0 f29 → ExT l E (d + 1) MX0_size 30 [some (.ref (w.1 0)), some (.int x1), some (.int x2), some (.ref a27), none] [] a h (PoC E w f0 Q) := by
              intro k s28 f29 h0 h a hW hx hF
              have hT := hP _ _ _ h0
              clear h0
              exact c_out (rfl) hW hx hF hT
            obtain ⟨cc, hcc⟩ := hW.ocell hc
            rcases hT with ⟨rfl, hT⟩ | ⟨rfl, hT⟩ | ⟨rfl, hT⟩ | ⟨rfl, hT⟩
            · exact c_invV (vs := []) dX0_size_30 oX32_size q1454 q2111 hcc q1453 (Or.inr hy_Thing_size) rfl rfl (Nat.le_of_ble_eq_true rfl) rfl hW hF hT kr kt
            · exact c_invV (vs := []) dX0_size_30 oX33_size q1457 q2111 hcc q1456 (Or.inr hy_Thing_size) rfl rfl (Nat.le_of_ble_eq_true rfl) rfl hW hF hT kr kt
            · exact c_invV (vs := []) dX0_size_30 oX34_size q1451 q2111 hcc q1450 (Or.inr hy_Thing_size) rfl rfl (Nat.le_of_ble_eq_true rfl) rfl hW hF hT kr kt
            · exact c_invV (vs := []) dX0_size_30 oX35_size q1460 q2111 hcc q1459 (Or.inr hy_Thing_size) rfl rfl (Nat.le_of_ble_eq_true rfl) rfl hW hF hT kr kt
          · subst e
            replace hT := hT.1 rfl
            refine x_iconst (v := 0) dX0_size_25 rfl ?_
            refine x_goto (tgt := 33) dX0_size_26 rfl ?_
            exact x_iret dX0_size_33 rfl rfl ⟨_, _, hW, hF, Or.inl ⟨_, rfl, hT⟩⟩
      · intro k s4 f5 hT h a hW hx hF
        exact c_out (rfl) hW hx hF hT
    · replace hT := hT.2 c
      refine x_iconst (v := (-1)) dX0_size_8 rfl ?_
      exact x_iret dX0_size_9 rfl rfl ⟨_, _, hW, hF, Or.inl ⟨_, rfl, hT⟩⟩
  · intro k s1 f2 hT h a hW hx hF
    exact c_out (rfl) hW hx hF hT
theorem eX0_size {l : Launch} {E : EN} {w : CO} {d : Nat} {s : CS} {f : RH} {Q : KO → CS → RH → Prop} {x1 : Int32} {x2 : Int32}  (hst : l.stackTraces = false) (hT : (EvC l E w d MX0_has [.ref (w.1 0), .int x1] s f (fun o s1 f2 => KP o (fun r => ∃ v3 : Int32, r = some (.int v3) ∧ ((¬ v3 = 0 → (EvC l E w d MX0_thingOn [.ref (w.1 0), .int x1] s1 f2 (fun o s4 f5 => KP o (fun r => ∃ v6 : Value, r = some v6 ∧ isR v6 = true ∧ ((¬ x2 = (-1) → ((v6 = .null → Q (.inl (some (.int (-1)))) s4 f5) ∧ (∀ a7 : Nat, v6 = .ref a7 → ((x2 < 0 → Q (.inl (some (.int (-1)))) s4 f5) ∧ (¬ x2 < 0 → (∃ P26 : KO → CS → RH → Prop, (∀ o s8 f9, P26 o s8 f9 → KP o (fun r => ∃ v10 : Int32, r = some (.int v10) ∧ ((x2 < v10 → (isT f9 (.ref a7) ∧ ((tg f9 a7 = some (.inl 30) → (tg f9 a7 = some (.inl 30) ∧ (oc f9 a7 30 ∧ (∃ a12 : Nat, vl f9 a7 204 = .ref a12 ∧ (∃ t13 : Nat, 4 ≤ t13 ∧ (tg f9 a12 = some (.inr t13) ∧ inB x2 (ln f9 a12) ∧ (∃ a14 : Nat, vl f9 a12 x2.toNatClampNeg = .ref a14 ∧ (∃ t15 : Nat, tg f9 a14 = some (.inr t15) ∧ Q (.inl (some (.int (nI (ln f9 a14))))) s8 f9)))))))) ∧ (¬ tg f9 a7 = some (.inl 30) → (isT f9 (.ref a7) ∧ ((tg f9 a7 = some (.inl 31) → (tg f9 a7 = some (.inl 31) ∧ (oc f9 a7 31 ∧ (∃ a17 : Nat, vl f9 a7 206 = .ref a17 ∧ (∃ t18 : Nat, 4 ≤ t18 ∧ (tg f9 a17 = some (.inr t18) ∧ inB x2 (ln f9 a17) ∧ (∃ a19 : Nat, vl f9 a17 x2.toNatClampNeg = .ref a19 ∧ (∃ P24 : KO → CS → RH → Prop, (∀ o s20 f21, P24 o s20 f21 → KP o (fun r => ∃ v22 : Int32, r = some (.int v22) ∧ Q (.inl (some (.int v22))) s20 f21) (fun k => Q (.inr k) s20 f21)) ∧ ∃ k23 : Nat, oc f9 a19 k23 ∧ ((k23 = 29 ∧ EvC l E w d MX32_kind [.ref a19] s8 f9 P24) ∨ (k23 = 30 ∧ EvC l E w d MX33_kind [.ref a19] s8 f9 P24) ∨ (k23 = 31 ∧ EvC l E w d MX34_kind [.ref a19] s8 f9 P24) ∨ (k23 = 32 ∧ EvC l E w d MX35_kind [.ref a19] s8 f9 P24)))))))))) ∧ (¬ tg f9 a7 = some (.inl 31) → Q (.inl (some (.int (-1)))) s8 f9))))))) ∧ (¬ x2 < v10 → Q (.inl (some (.int (-1)))) s8 f9))) (fun k => Q (.inr k) s8 f9)) ∧ ∃ k25 : Nat, oc f5 a7 k25 ∧ ((k25 = 29 ∧ EvC l E w d MX32_size [.ref a7] s4 f5 P26) ∨ (k25 = 30 ∧ EvC l E w d MX33_size [.ref a7] s4 f5 P26) ∨ (k25 = 31 ∧ EvC l E w d MX34_size [.ref a7] s4 f5 P26) ∨ (k25 = 32 ∧ EvC l E w d MX35_size [.ref a7] s4 f5 P26)))))))) ∧ (x2 = (-1) → ((v6 = .null → Q (.inl (some (.int 0))) s4 f5) ∧ (∀ a27 : Nat, v6 = .ref a27 → (∃ P32 : KO → CS → RH → Prop, (∀ o s28 f29, P32 o s28 f29 → KP o (fun r => ∃ v30 : Int32, r = some (.int v30) ∧ Q (.inl (some (.int v30))) s28 f29) (fun k => Q (.inr k) s28 f29)) ∧ ∃ k31 : Nat, oc f5 a27 k31 ∧ ((k31 = 29 ∧ EvC l E w d MX32_size [.ref a27] s4 f5 P32) ∨ (k31 = 30 ∧ EvC l E w d MX33_size [.ref a27] s4 f5 P32) ∨ (k31 = 31 ∧ EvC l E w d MX34_size [.ref a27] s4 f5 P32) ∨ (k31 = 32 ∧ EvC l E w d MX35_size [.ref a27] s4 f5 P32)))))))) (fun k => Q (.inr k) s4 f5)))) ∧ (v3 = 0 → Q (.inl (some (.int (-1)))) s1 f2))) (fun k => Q (.inr k) s1 f2)))) : EvC l E w (d + 1) MX0_size [.ref (w.1 0), .int x1, .int x2] s f Q :=
  EvC.of hst (by decide) (Nat.le_of_ble_eq_true rfl) (vX0_size_0  hT)
set_option maxHeartbeats 16000000 in
theorem vX0_cell_0 {l : Launch} {E : EN} {w : CO} {d : Nat} {s : CS} {f : RH} {Q : KO → CS → RH → Prop} {x1 : Int32} {x2 : Int32} {x3 : Int32}  (hT : (EvC l E w d MX0_has [.ref (w.1 0), .int x1] s f (fun o s1 f2 => KP o (fun r => ∃ v3 : Int32, r = some (.int v3) ∧ ((¬ v3 = 0 → (EvC l E w d MX0_thingOn [.ref (w.1 0), .int x1] s1 f2 (fun o s4 f5 => KP o (fun r => ∃ v6 : Value, r = some v6 ∧ isR v6 = true ∧ ((v6 = .null → (inB x1 8 ∧ Q (.inl (some (.int (s4.2.2.1 42 x1.toNatClampNeg)))) s4 f5)) ∧ (∀ a7 : Nat, v6 = .ref a7 → (isT f5 (.ref a7) ∧ ((tg f5 a7 = some (.inl 29) → (tg f5 a7 = some (.inl 29) ∧ (oc f5 a7 29 ∧ (∃ a9 : Nat, vl f5 a7 203 = .ref a9 ∧ (EvC l E w d MX0_intOf [.ref a9, .int x2] s4 f5 (fun o s10 f11 => KP o (fun r => ∃ v12 : Int32, r = some (.int v12) ∧ Q (.inl (some (.int v12))) s10 f11) (fun k => Q (.inr k) s10 f11))))))) ∧ (¬ tg f5 a7 = some (.inl 29) → ((x2 < 0 → Q (.inl (some (.int 0))) s4 f5) ∧ (¬ x2 < 0 → (∃ P34 : KO → CS → RH → Prop, (∀ o s13 f14, P34 o s13 f14 → KP o (fun r => ∃ v15 : Int32, r = some (.int v15) ∧ ((x2 < v15 → (isT f14 (.ref a7) ∧ ((tg f14 a7 = some (.inl 30) → (tg f14 a7 = some (.inl 30) ∧ (oc f14 a7 30 ∧ (∃ a17 : Nat, vl f14 a7 204 = .ref a17 ∧ (∃ t18 : Nat, 4 ≤ t18 ∧ (tg f14 a17 = some (.inr t18) ∧ inB x2 (ln f14 a17) ∧ (∃ a19 : Nat, vl f14 a17 x2.toNatClampNeg = .ref a19 ∧ (EvC l E w d MX0_intOf [.ref a19, .int x3] s13 f14 (fun o s20 f21 => KP o (fun r => ∃ v22 : Int32, r = some (.int v22) ∧ Q (.inl (some (.int v22))) s20 f21) (fun k => Q (.inr k) s20 f21)))))))))) ∧ (¬ tg f14 a7 = some (.inl 30) → (tg f14 a7 = some (.inl 31) ∧ (oc f14 a7 31 ∧ (∃ a23 : Nat, vl f14 a7 206 = .ref a23 ∧ (∃ t24 : Nat, 4 ≤ t24 ∧ (tg f14 a23 = some (.inr t24) ∧ inB x2 (ln f14 a23) ∧ (∃ a25 : Nat, vl f14 a23 x2.toNatClampNeg = .ref a25 ∧ (isT f14 (.ref a25) ∧ ((tg f14 a25 = some (.inl 32) → (tg f14 a25 = some (.inl 32) ∧ (oc f14 a25 32 ∧ (∃ v27 : Int32, vl f14 a25 209 = .int v27 ∧ Q (.inl (some (.int v27))) s13 f14)))) ∧ (¬ tg f14 a25 = some (.inl 32) → (isT f14 (.ref a25) ∧ ((tg f14 a25 = some (.inl 29) → (tg f14 a25 = some (.inl 29) ∧ (oc f14 a25 29 ∧ (∃ a29 : Nat, vl f14 a25 203 = .ref a29 ∧ (EvC l E w d MX0_intOf [.ref a29, .int x3] s13 f14 (fun o s30 f31 => KP o (fun r => ∃ v32 : Int32, r = some (.int v32) ∧ Q (.inl (some (.int v32))) s30 f31) (fun k => Q (.inr k) s30 f31))))))) ∧ (¬ tg f14 a25 = some (.inl 29) → Q (.inl (some (.int 0))) s13 f14)))))))))))))))) ∧ (¬ x2 < v15 → Q (.inl (some (.int 0))) s13 f14))) (fun k => Q (.inr k) s13 f14)) ∧ ∃ k33 : Nat, oc f5 a7 k33 ∧ ((k33 = 29 ∧ EvC l E w d MX32_size [.ref a7] s4 f5 P34) ∨ (k33 = 30 ∧ EvC l E w d MX33_size [.ref a7] s4 f5 P34) ∨ (k33 = 31 ∧ EvC l E w d MX34_size [.ref a7] s4 f5 P34) ∨ (k33 = 32 ∧ EvC l E w d MX35_size [.ref a7] s4 f5 P34))))))))))) (fun k => Q (.inr k) s4 f5)))) ∧ (v3 = 0 → Q (.inl (some (.int 0))) s1 f2))) (fun k => Q (.inr k) s1 f2)))) : ExC l E w (d + 1) MX0_cell 0 [some (.ref (w.1 0)), some (.int x1), some (.int x2), some (.int x3), none, none, none, none] [] s f Q := by
  intro f0 h hW hF
  refine x_aload_n dX0_cell_0 rfl rfl rfl ?_
  refine x_iload_n dX0_cell_1 rfl rfl ?_
  obtain ⟨-, -, cc, hcc, -⟩ := hW.ob 0 (by decide)
  refine c_invV (vs := [.int x1]) dX0_cell_2 oX0_has q2078 q2076 hcc qs58 (Or.inl rfl) rfl rfl (Nat.le_of_ble_eq_true rfl) rfl hW hF hT ?_ ?_
  · intro _ s1 f2 hT h hW hF
    obtain ⟨v3, rfl, hT⟩ := hT
    refine x_if_ne (tgt := 10) dX0_cell_5 rfl (fun c => ?_) (fun c => ?_)
    · replace hT := hT.1 c
      refine x_aload_n dX0_cell_10 rfl rfl rfl ?_
      refine x_iload_n dX0_cell_11 rfl rfl ?_
      obtain ⟨-, -, cc, hcc, -⟩ := hW.ob 0 (by decide)
      refine c_invV (vs := [.int x1]) dX0_cell_12 oX0_thingOn q2082 q2080 hcc qs59 (Or.inl rfl) rfl rfl (Nat.le_of_ble_eq_true rfl) rfl hW hF hT ?_ ?_
      · intro _ s4 f5 hT h hW hF
        obtain ⟨v6, rfl, iv6, hT⟩ := hT
        refine x_astore (lo' := [some (.ref (w.1 0)), some (.int x1), some (.int x2), some (.int x3), some (v6), none, none, none]) dX0_cell_15 (Nat.le_of_ble_eq_true rfl) iv6 rfl ?_
        refine x_aload dX0_cell_17 rfl iv6 ?_
        refine x_ifnonnull (tgt := 35) dX0_cell_19 rfl iv6 (fun a7 e => ?_) (fun e => ?_)
        · subst e
          replace hT := hT.2 a7 rfl
          refine x_aload dX0_cell_35 rfl rfl ?_
          obtain ⟨ht, hT⟩ := hT
          refine c_inst (K := 29) dX0_cell_37 (by decide) q2095 ht hW (fun hi8 => ?_) (fun hi8 => ?_)
          · replace hT := hT.1 hi8
            refine x_if_eq (tgt := 60) dX0_cell_40 rfl (fun c => absurd c (by decide)) (fun _ => ?_)
            refine x_aload dX0_cell_43 rfl rfl ?_
            obtain ⟨hc, hT⟩ := hT
            refine c_cast (K := 29) dX0_cell_45 q2095 hc hW ?_
            refine x_astore (lo' := [some (.ref (w.1 0)), some (.int x1), some (.int x2), some (.int x3), some (.ref a7), some (.ref a7), none, none]) dX0_cell_48 (Nat.le_of_ble_eq_true rfl) rfl rfl ?_
            refine x_aload dX0_cell_50 rfl rfl ?_
            obtain ⟨hc, hT⟩ := hT
            obtain ⟨a9, ev, hT⟩ := hT
            refine c_fgetG dX0_cell_52 f_TallySlate_200 hc (by decide) (by decide) hW ev ?_
            refine x_iload_n dX0_cell_55 rfl rfl ?_
            refine c_invS (vs := [.ref a9, .int x2]) dX0_cell_56 oX0_intOf q2119 (Or.inl q2118) rfl rfl (Nat.le_of_ble_eq_true rfl) rfl hW hF hT ?_ ?_
            · intro _ s10 f11 hT h hW hF
              obtain ⟨v12, rfl, hT⟩ := hT
              exact x_iret dX0_cell_59 rfl rfl ⟨_, _, hW, hF, Or.inl ⟨_, rfl, hT⟩⟩
            · intro k s10 f11 hT h a hW hx hF
              exact c_out (rfl) hW hx hF hT
          · replace hT := hT.2 hi8
            refine x_if_eq (tgt := 60) dX0_cell_40 rfl (fun _ => ?_) (fun c => absurd c (by decide))
            refine x_iload_n dX0_cell_60 rfl rfl ?_
            refine x_if_lt (tgt := 73) dX0_cell_61 rfl (fun c => ?_) (fun c => ?_)
            · replace hT := hT.1 c
              refine x_iconst (v := 0) dX0_cell_73 rfl ?_
              exact x_iret dX0_cell_74 rfl rfl ⟨_, _, hW, hF, Or.inl ⟨_, rfl, hT⟩⟩
            · replace hT := hT.2 c
              refine x_iload_n dX0_cell_64 rfl rfl ?_
              refine x_aload dX0_cell_65 rfl rfl ?_
              obtain ⟨P34, hP, k33, hc, hT⟩ := hT
              have kr : ∀ r s13 f14, P34 (.inl r) s13 f14 → ∀ h, CW E w s13 f14 h → Frz f0 f14 → Ex l E (d + 1) MX0_cell (67 + 3) [some (.ref (w.1 0)), some (.int x1), some (.int x2), some (.int x3), some (.ref a7), none, none, none] (r.toList ++ [.int x2]) h (PoC E w f0 Q) := by
                intro r s13 f14 h0 h hW hF
                have hT := hP _ _ _ h0
                clear h0
                obtain ⟨v15, rfl, hT⟩ := hT
                refine x_icmp_lt (tgt := 75) dX0_cell_70 rfl (fun c => ?_) (fun c => ?_)
                · replace hT := hT.1 c
                  refine x_aload dX0_cell_75 rfl rfl ?_
                  obtain ⟨ht, hT⟩ := hT
                  refine c_inst (K := 30) dX0_cell_77 (by decide) q2112 ht hW (fun hi16 => ?_) (fun hi16 => ?_)
                  · replace hT := hT.1 hi16
                    refine x_if_eq (tgt := 102) dX0_cell_80 rfl (fun c => absurd c (by decide)) (fun _ => ?_)
                    refine x_aload dX0_cell_83 rfl rfl ?_
                    obtain ⟨hc, hT⟩ := hT
                    refine c_cast (K := 30) dX0_cell_85 q2112 hc hW ?_
                    refine x_astore (lo' := [some (.ref (w.1 0)), some (.int x1), some (.int x2), some (.int x3), some (.ref a7), some (.ref a7), none, none]) dX0_cell_88 (Nat.le_of_ble_eq_true rfl) rfl rfl ?_
                    refine x_aload dX0_cell_90 rfl rfl ?_
                    obtain ⟨hc, hT⟩ := hT
                    obtain ⟨a17, ev, hT⟩ := hT
                    refine c_fgetG dX0_cell_92 f_TallySlate_220 hc (by decide) (by decide) hW ev ?_
                    refine x_iload_n dX0_cell_95 rfl rfl ?_
                    obtain ⟨t18, ht2, hc, hT⟩ := hT
                    obtain ⟨hb, hT⟩ := hT
                    obtain ⟨a19, ev, hT⟩ := hT
                    refine c_faald dX0_cell_96 hc ht2 hb hW ev ?_
                    refine x_iload_n dX0_cell_97 rfl rfl ?_
                    refine c_invS (vs := [.ref a19, .int x3]) dX0_cell_98 oX0_intOf q2119 (Or.inl q2118) rfl rfl (Nat.le_of_ble_eq_true rfl) rfl hW hF hT ?_ ?_
                    · intro _ s20 f21 hT h hW hF
                      obtain ⟨v22, rfl, hT⟩ := hT
                      exact x_iret dX0_cell_101 rfl rfl ⟨_, _, hW, hF, Or.inl ⟨_, rfl, hT⟩⟩
                    · intro k s20 f21 hT h a hW hx hF
                      exact c_out (rfl) hW hx hF hT
                  · replace hT := hT.2 hi16
                    refine x_if_eq (tgt := 102) dX0_cell_80 rfl (fun _ => ?_) (fun c => absurd c (by decide))
                    refine x_aload dX0_cell_102 rfl rfl ?_
                    obtain ⟨hc, hT⟩ := hT
                    refine c_cast (K := 31) dX0_cell_104 q2113 hc hW ?_
                    obtain ⟨hc, hT⟩ := hT
                    obtain ⟨a23, ev, hT⟩ := hT
                    refine c_fgetG dX0_cell_107 f_TallySlate_225 hc (by decide) (by decide) hW ev ?_
                    refine x_iload_n dX0_cell_110 rfl rfl ?_
                    obtain ⟨t24, ht2, hc, hT⟩ := hT
                    obtain ⟨hb, hT⟩ := hT
                    obtain ⟨a25, ev, hT⟩ := hT
                    refine c_faald dX0_cell_111 hc ht2 hb hW ev ?_
                    refine x_astore (lo' := [some (.ref (w.1 0)), some (.int x1), some (.int x2), some (.int x3), some (.ref a7), some (.ref a25), none, none]) dX0_cell_112 (Nat.le_of_ble_eq_true rfl) rfl rfl ?_
                    refine x_aload dX0_cell_114 rfl rfl ?_
                    obtain ⟨ht, hT⟩ := hT
                    refine c_inst (K := 32) dX0_cell_116 (by decide) q2121 ht hW (fun hi26 => ?_) (fun hi26 => ?_)
                    · replace hT := hT.1 hi26
                      refine x_if_eq (tgt := 137) dX0_cell_119 rfl (fun c => absurd c (by decide)) (fun _ => ?_)
                      refine x_aload dX0_cell_122 rfl rfl ?_
                      obtain ⟨hc, hT⟩ := hT
                      refine c_cast (K := 32) dX0_cell_124 q2121 hc hW ?_
                      refine x_astore (lo' := [some (.ref (w.1 0)), some (.int x1), some (.int x2), some (.int x3), some (.ref a7), some (.ref a25), none, some (.ref a25)]) dX0_cell_127 (Nat.le_of_ble_eq_true rfl) rfl rfl ?_
                      refine x_aload dX0_cell_129 rfl rfl ?_
                      obtain ⟨hc, hT⟩ := hT
                      obtain ⟨v27, ev, hT⟩ := hT
                      refine c_fgetG dX0_cell_131 f_TallySlate_233 hc (by decide) (by decide) hW ev ?_
                      refine x_goto (tgt := 165) dX0_cell_134 rfl ?_
                      exact x_iret dX0_cell_165 rfl rfl ⟨_, _, hW, hF, Or.inl ⟨_, rfl, hT⟩⟩
                    · replace hT := hT.2 hi26
                      refine x_if_eq (tgt := 137) dX0_cell_119 rfl (fun _ => ?_) (fun c => absurd c (by decide))
                      refine x_aload dX0_cell_137 rfl rfl ?_
                      obtain ⟨ht, hT⟩ := hT
                      refine c_inst (K := 29) dX0_cell_139 (by decide) q2095 ht hW (fun hi28 => ?_) (fun hi28 => ?_)
                      · replace hT := hT.1 hi28
                        refine x_if_eq (tgt := 164) dX0_cell_142 rfl (fun c => absurd c (by decide)) (fun _ => ?_)
                        refine x_aload dX0_cell_145 rfl rfl ?_
                        obtain ⟨hc, hT⟩ := hT
                        refine c_cast (K := 29) dX0_cell_147 q2095 hc hW ?_
                        refine x_astore (lo' := [some (.ref (w.1 0)), some (.int x1), some (.int x2), some (.int x3), some (.ref a7), some (.ref a25), some (.ref a25), none]) dX0_cell_150 (Nat.le_of_ble_eq_true rfl) rfl rfl ?_
                        refine x_aload dX0_cell_152 rfl rfl ?_
                        obtain ⟨hc, hT⟩ := hT
                        obtain ⟨a29, ev, hT⟩ := hT
                        refine c_fgetG dX0_cell_154 f_TallySlate_200 hc (by decide) (by decide) hW ev ?_
                        refine x_iload_n dX0_cell_157 rfl rfl ?_
                        refine c_invS (vs := [.ref a29, .int x3]) dX0_cell_158 oX0_intOf q2119 (Or.inl q2118) rfl rfl (Nat.le_of_ble_eq_true rfl) rfl hW hF hT ?_ ?_
                        · intro _ s30 f31 hT h hW hF
                          obtain ⟨v32, rfl, hT⟩ := hT
                          refine x_goto (tgt := 165) dX0_cell_161 rfl ?_
                          exact x_iret dX0_cell_165 rfl rfl ⟨_, _, hW, hF, Or.inl ⟨_, rfl, hT⟩⟩
                        · intro k s30 f31 hT h a hW hx hF
                          exact c_out (rfl) hW hx hF hT
                      · replace hT := hT.2 hi28
                        refine x_if_eq (tgt := 164) dX0_cell_142 rfl (fun _ => ?_) (fun c => absurd c (by decide))
                        refine x_iconst (v := 0) dX0_cell_164 rfl ?_
                        exact x_iret dX0_cell_165 rfl rfl ⟨_, _, hW, hF, Or.inl ⟨_, rfl, hT⟩⟩
                · replace hT := hT.2 c
                  refine x_iconst (v := 0) dX0_cell_73 rfl ?_
                  exact x_iret dX0_cell_74 rfl rfl ⟨_, _, hW, hF, Or.inl ⟨_, rfl, hT⟩⟩
              have kt : ∀ k s13 f14, P34 (.inr k) s13 f14 → ∀ h a, CW E w s13 f14 h → xA w h k a → Frz f0 f14 → ExT l E (d + 1) MX0_cell 67 [some (.ref (w.1 0)), some (.int x1), some (.int x2), some (.int x3), some (.ref a7), none, none, none] [.int x2] a h (PoC E w f0 Q) := by
                intro k s13 f14 h0 h a hW hx hF
                have hT := hP _ _ _ h0
                clear h0
                exact c_out (rfl) hW hx hF hT
              obtain ⟨cc, hcc⟩ := hW.ocell hc
              rcases hT with ⟨rfl, hT⟩ | ⟨rfl, hT⟩ | ⟨rfl, hT⟩ | ⟨rfl, hT⟩
              · exact c_invV (vs := []) dX0_cell_67 oX32_size q1454 q2111 hcc q1453 (Or.inr hy_Thing_size) rfl rfl (Nat.le_of_ble_eq_true rfl) rfl hW hF hT kr kt
              · exact c_invV (vs := []) dX0_cell_67 oX33_size q1457 q2111 hcc q1456 (Or.inr hy_Thing_size) rfl rfl (Nat.le_of_ble_eq_true rfl) rfl hW hF hT kr kt
              · exact c_invV (vs := []) dX0_cell_67 oX34_size q1451 q2111 hcc q1450 (Or.inr hy_Thing_size) rfl rfl (Nat.le_of_ble_eq_true rfl) rfl hW hF hT kr kt
              · exact c_invV (vs := []) dX0_cell_67 oX35_size q1460 q2111 hcc q1459 (Or.inr hy_Thing_size) rfl rfl (Nat.le_of_ble_eq_true rfl) rfl hW hF hT kr kt
        · subst e
          replace hT := hT.1 rfl
          refine x_aload_n dX0_cell_22 rfl rfl rfl ?_
          refine c_getO dX0_cell_23 f_TallySlate_40 (by decide) (by decide) rfl hW ?_
          refine c_getO dX0_cell_26 f_TallySlate_108 (by decide) (by decide) rfl hW ?_
          refine c_getA dX0_cell_29 f_TallySlate_184 (by decide) (by decide) rfl hW ?_
          refine x_iload_n dX0_cell_32 rfl rfl ?_
          obtain ⟨hb, hT⟩ := hT
          refine c_iald (v := (s4.2.2.1 42 x1.toNatClampNeg)) dX0_cell_33 rfl hb hW rfl ?_
          exact x_iret dX0_cell_34 rfl rfl ⟨_, _, hW, hF, Or.inl ⟨_, rfl, hT⟩⟩
      · intro k s4 f5 hT h a hW hx hF
        exact c_out (rfl) hW hx hF hT
    · replace hT := hT.2 c
      refine x_iconst (v := 0) dX0_cell_8 rfl ?_
      exact x_iret dX0_cell_9 rfl rfl ⟨_, _, hW, hF, Or.inl ⟨_, rfl, hT⟩⟩
  · intro k s1 f2 hT h a hW hx hF
    exact c_out (rfl) hW hx hF hT
theorem eX0_cell {l : Launch} {E : EN} {w : CO} {d : Nat} {s : CS} {f : RH} {Q : KO → CS → RH → Prop} {x1 : Int32} {x2 : Int32} {x3 : Int32}  (hst : l.stackTraces = false) (hT : (EvC l E w d MX0_has [.ref (w.1 0), .int x1] s f (fun o s1 f2 => KP o (fun r => ∃ v3 : Int32, r = some (.int v3) ∧ ((¬ v3 = 0 → (EvC l E w d MX0_thingOn [.ref (w.1 0), .int x1] s1 f2 (fun o s4 f5 => KP o (fun r => ∃ v6 : Value, r = some v6 ∧ isR v6 = true ∧ ((v6 = .null → (inB x1 8 ∧ Q (.inl (some (.int (s4.2.2.1 42 x1.toNatClampNeg)))) s4 f5)) ∧ (∀ a7 : Nat, v6 = .ref a7 → (isT f5 (.ref a7) ∧ ((tg f5 a7 = some (.inl 29) → (tg f5 a7 = some (.inl 29) ∧ (oc f5 a7 29 ∧ (∃ a9 : Nat, vl f5 a7 203 = .ref a9 ∧ (EvC l E w d MX0_intOf [.ref a9, .int x2] s4 f5 (fun o s10 f11 => KP o (fun r => ∃ v12 : Int32, r = some (.int v12) ∧ Q (.inl (some (.int v12))) s10 f11) (fun k => Q (.inr k) s10 f11))))))) ∧ (¬ tg f5 a7 = some (.inl 29) → ((x2 < 0 → Q (.inl (some (.int 0))) s4 f5) ∧ (¬ x2 < 0 → (∃ P34 : KO → CS → RH → Prop, (∀ o s13 f14, P34 o s13 f14 → KP o (fun r => ∃ v15 : Int32, r = some (.int v15) ∧ ((x2 < v15 → (isT f14 (.ref a7) ∧ ((tg f14 a7 = some (.inl 30) → (tg f14 a7 = some (.inl 30) ∧ (oc f14 a7 30 ∧ (∃ a17 : Nat, vl f14 a7 204 = .ref a17 ∧ (∃ t18 : Nat, 4 ≤ t18 ∧ (tg f14 a17 = some (.inr t18) ∧ inB x2 (ln f14 a17) ∧ (∃ a19 : Nat, vl f14 a17 x2.toNatClampNeg = .ref a19 ∧ (EvC l E w d MX0_intOf [.ref a19, .int x3] s13 f14 (fun o s20 f21 => KP o (fun r => ∃ v22 : Int32, r = some (.int v22) ∧ Q (.inl (some (.int v22))) s20 f21) (fun k => Q (.inr k) s20 f21)))))))))) ∧ (¬ tg f14 a7 = some (.inl 30) → (tg f14 a7 = some (.inl 31) ∧ (oc f14 a7 31 ∧ (∃ a23 : Nat, vl f14 a7 206 = .ref a23 ∧ (∃ t24 : Nat, 4 ≤ t24 ∧ (tg f14 a23 = some (.inr t24) ∧ inB x2 (ln f14 a23) ∧ (∃ a25 : Nat, vl f14 a23 x2.toNatClampNeg = .ref a25 ∧ (isT f14 (.ref a25) ∧ ((tg f14 a25 = some (.inl 32) → (tg f14 a25 = some (.inl 32) ∧ (oc f14 a25 32 ∧ (∃ v27 : Int32, vl f14 a25 209 = .int v27 ∧ Q (.inl (some (.int v27))) s13 f14)))) ∧ (¬ tg f14 a25 = some (.inl 32) → (isT f14 (.ref a25) ∧ ((tg f14 a25 = some (.inl 29) → (tg f14 a25 = some (.inl 29) ∧ (oc f14 a25 29 ∧ (∃ a29 : Nat, vl f14 a25 203 = .ref a29 ∧ (EvC l E w d MX0_intOf [.ref a29, .int x3] s13 f14 (fun o s30 f31 => KP o (fun r => ∃ v32 : Int32, r = some (.int v32) ∧ Q (.inl (some (.int v32))) s30 f31) (fun k => Q (.inr k) s30 f31))))))) ∧ (¬ tg f14 a25 = some (.inl 29) → Q (.inl (some (.int 0))) s13 f14)))))))))))))))) ∧ (¬ x2 < v15 → Q (.inl (some (.int 0))) s13 f14))) (fun k => Q (.inr k) s13 f14)) ∧ ∃ k33 : Nat, oc f5 a7 k33 ∧ ((k33 = 29 ∧ EvC l E w d MX32_size [.ref a7] s4 f5 P34) ∨ (k33 = 30 ∧ EvC l E w d MX33_size [.ref a7] s4 f5 P34) ∨ (k33 = 31 ∧ EvC l E w d MX34_size [.ref a7] s4 f5 P34) ∨ (k33 = 32 ∧ EvC l E w d MX35_size [.ref a7] s4 f5 P34))))))))))) (fun k => Q (.inr k) s4 f5)))) ∧ (v3 = 0 → Q (.inl (some (.int 0))) s1 f2))) (fun k => Q (.inr k) s1 f2)))) : EvC l E w (d + 1) MX0_cell [.ref (w.1 0), .int x1, .int x2, .int x3] s f Q :=
  EvC.of hst (by decide) (Nat.le_of_ble_eq_true rfl) (vX0_cell_0  hT)
theorem vX0_intOf_0 {l : Launch} {E : EN} {w : CO} {d : Nat} {s : CS} {f : RH} {Q : KO → CS → RH → Prop} {x1 : Nat} {x2 : Int32}  (hT : ((x2 < 0 → Q (.inl (some (.int 0))) s f) ∧ (¬ x2 < 0 → (∃ t1 : Nat, tg f x1 = some (.inr t1) ∧ (((nI (ln f x1)) ≤ x2 → Q (.inl (some (.int 0))) s f) ∧ (¬ (nI (ln f x1)) ≤ x2 → (tg f x1 = some (.inr 0) ∧ inB x2 (ln f x1) ∧ (∃ v2 : Int32, vl f x1 x2.toNatClampNeg = .int v2 ∧ Q (.inl (some (.int v2))) s f)))))))) : ExC l E w d MX0_intOf 0 [some (.ref x1), some (.int x2)] [] s f Q := by
  intro f0 h hW hF
  refine x_iload_n dX0_intOf_0 rfl rfl ?_
  refine x_if_lt (tgt := 16) dX0_intOf_1 rfl (fun c => ?_) (fun c => ?_)
  · replace hT := hT.1 c
    refine x_iconst (v := 0) dX0_intOf_16 rfl ?_
    exact x_iret dX0_intOf_17 rfl rfl ⟨_, _, hW, hF, Or.inl ⟨_, rfl, hT⟩⟩
  · replace hT := hT.2 c
    refine x_iload_n dX0_intOf_4 rfl rfl ?_
    refine x_aload_n dX0_intOf_5 rfl rfl rfl ?_
    obtain ⟨t1, hc, hT⟩ := hT
    refine c_alen dX0_intOf_6 hc hW ?_
    refine x_icmp_ge (tgt := 16) dX0_intOf_7 rfl (fun c => ?_) (fun c => ?_)
    · replace hT := hT.1 c
      refine x_iconst (v := 0) dX0_intOf_16 rfl ?_
      exact x_iret dX0_intOf_17 rfl rfl ⟨_, _, hW, hF, Or.inl ⟨_, rfl, hT⟩⟩
    · replace hT := hT.2 c
      refine x_aload_n dX0_intOf_10 rfl rfl rfl ?_
      refine x_iload_n dX0_intOf_11 rfl rfl ?_
      obtain ⟨hc, hT⟩ := hT
      obtain ⟨hb, hT⟩ := hT
      obtain ⟨v2, ev, hT⟩ := hT
      refine c_fiald dX0_intOf_12 hc hb hW ev ?_
      refine x_goto (tgt := 17) dX0_intOf_13 rfl ?_
      exact x_iret dX0_intOf_17 rfl rfl ⟨_, _, hW, hF, Or.inl ⟨_, rfl, hT⟩⟩
theorem eX0_intOf {l : Launch} {E : EN} {w : CO} {d : Nat} {s : CS} {f : RH} {Q : KO → CS → RH → Prop} {x1 : Nat} {x2 : Int32}  (hst : l.stackTraces = false) (hT : ((x2 < 0 → Q (.inl (some (.int 0))) s f) ∧ (¬ x2 < 0 → (∃ t1 : Nat, tg f x1 = some (.inr t1) ∧ (((nI (ln f x1)) ≤ x2 → Q (.inl (some (.int 0))) s f) ∧ (¬ (nI (ln f x1)) ≤ x2 → (tg f x1 = some (.inr 0) ∧ inB x2 (ln f x1) ∧ (∃ v2 : Int32, vl f x1 x2.toNatClampNeg = .int v2 ∧ Q (.inl (some (.int v2))) s f)))))))) : EvC l E w d MX0_intOf [.ref x1, .int x2] s f Q :=
  EvC.of hst (by decide) (Nat.le_of_ble_eq_true rfl) (vX0_intOf_0  hT)
theorem vX0_same_0 {l : Launch} {E : EN} {w : CO} {d : Nat} {s : CS} {f : RH} {Q : KO → CS → RH → Prop} {x1 : Int32} {x2 : Int32}  (hT : (EvC l E w d MX0_isShelf [.int x1] s f (fun o s1 f2 => KP o (fun r => ∃ v3 : Int32, r = some (.int v3) ∧ ((v3 = 0 → Q (.inl (some (.int 0))) s1 f2) ∧ (¬ v3 = 0 → (EvC l E w d MX0_isShelf [.int x2] s1 f2 (fun o s4 f5 => KP o (fun r => ∃ v6 : Int32, r = some (.int v6) ∧ ((v6 = 0 → Q (.inl (some (.int 0))) s4 f5) ∧ (¬ v6 = 0 → (EvC l E w d MX4_same [.ref (w.1 4), .int x1, .int x2] s4 f5 (fun o s7 f8 => KP o (fun r => ∃ v9 : Int32, r = some (.int v9) ∧ ((v9 = 0 → Q (.inl (some (.int 0))) s7 f8) ∧ (¬ v9 = 0 → Q (.inl (some (.int 1))) s7 f8))) (fun k => Q (.inr k) s7 f8)))))) (fun k => Q (.inr k) s4 f5)))))) (fun k => Q (.inr k) s1 f2)))) : ExC l E w (d + 1) MX0_same 0 [some (.ref (w.1 0)), some (.int x1), some (.int x2)] [] s f Q := by
  intro f0 h hW hF
  refine x_iload_n dX0_same_0 rfl rfl ?_
  refine c_invS (vs := [.int x1]) dX0_same_1 oX0_isShelf q1307 (Or.inl q1306) rfl rfl (Nat.le_of_ble_eq_true rfl) rfl hW hF hT ?_ ?_
  · intro _ s1 f2 hT h hW hF
    obtain ⟨v3, rfl, hT⟩ := hT
    refine x_if_eq (tgt := 33) dX0_same_4 rfl (fun c => ?_) (fun c => ?_)
    · replace hT := hT.1 c
      refine x_iconst (v := 0) dX0_same_33 rfl ?_
      exact x_iret dX0_same_34 rfl rfl ⟨_, _, hW, hF, Or.inl ⟨_, rfl, hT⟩⟩
    · replace hT := hT.2 c
      refine x_iload_n dX0_same_7 rfl rfl ?_
      refine c_invS (vs := [.int x2]) dX0_same_8 oX0_isShelf q1307 (Or.inl q1306) rfl rfl (Nat.le_of_ble_eq_true rfl) rfl hW hF hT ?_ ?_
      · intro _ s4 f5 hT h hW hF
        obtain ⟨v6, rfl, hT⟩ := hT
        refine x_if_eq (tgt := 33) dX0_same_11 rfl (fun c => ?_) (fun c => ?_)
        · replace hT := hT.1 c
          refine x_iconst (v := 0) dX0_same_33 rfl ?_
          exact x_iret dX0_same_34 rfl rfl ⟨_, _, hW, hF, Or.inl ⟨_, rfl, hT⟩⟩
        · replace hT := hT.2 c
          refine x_aload_n dX0_same_14 rfl rfl rfl ?_
          refine c_getO dX0_same_15 f_TallySlate_40 (by decide) (by decide) rfl hW ?_
          refine c_getO dX0_same_18 f_TallySlate_108 (by decide) (by decide) rfl hW ?_
          refine x_iload_n dX0_same_21 rfl rfl ?_
          refine x_iload_n dX0_same_22 rfl rfl ?_
          obtain ⟨-, -, cc, hcc, -⟩ := hW.ob 4 (by decide)
          refine c_invV (vs := [.int x1, .int x2]) dX0_same_23 oX4_same q2127 q2126 hcc q2128 (Or.inl rfl) rfl rfl (Nat.le_of_ble_eq_true rfl) rfl hW hF hT ?_ ?_
          · intro _ s7 f8 hT h hW hF
            obtain ⟨v9, rfl, hT⟩ := hT
            refine x_if_eq (tgt := 33) dX0_same_26 rfl (fun c => ?_) (fun c => ?_)
            · replace hT := hT.1 c
              refine x_iconst (v := 0) dX0_same_33 rfl ?_
              exact x_iret dX0_same_34 rfl rfl ⟨_, _, hW, hF, Or.inl ⟨_, rfl, hT⟩⟩
            · replace hT := hT.2 c
              refine x_iconst (v := 1) dX0_same_29 rfl ?_
              refine x_goto (tgt := 34) dX0_same_30 rfl ?_
              exact x_iret dX0_same_34 rfl rfl ⟨_, _, hW, hF, Or.inl ⟨_, rfl, hT⟩⟩
          · intro k s7 f8 hT h a hW hx hF
            exact c_out (rfl) hW hx hF hT
      · intro k s4 f5 hT h a hW hx hF
        exact c_out (rfl) hW hx hF hT
  · intro k s1 f2 hT h a hW hx hF
    exact c_out (rfl) hW hx hF hT
theorem eX0_same {l : Launch} {E : EN} {w : CO} {d : Nat} {s : CS} {f : RH} {Q : KO → CS → RH → Prop} {x1 : Int32} {x2 : Int32}  (hst : l.stackTraces = false) (hT : (EvC l E w d MX0_isShelf [.int x1] s f (fun o s1 f2 => KP o (fun r => ∃ v3 : Int32, r = some (.int v3) ∧ ((v3 = 0 → Q (.inl (some (.int 0))) s1 f2) ∧ (¬ v3 = 0 → (EvC l E w d MX0_isShelf [.int x2] s1 f2 (fun o s4 f5 => KP o (fun r => ∃ v6 : Int32, r = some (.int v6) ∧ ((v6 = 0 → Q (.inl (some (.int 0))) s4 f5) ∧ (¬ v6 = 0 → (EvC l E w d MX4_same [.ref (w.1 4), .int x1, .int x2] s4 f5 (fun o s7 f8 => KP o (fun r => ∃ v9 : Int32, r = some (.int v9) ∧ ((v9 = 0 → Q (.inl (some (.int 0))) s7 f8) ∧ (¬ v9 = 0 → Q (.inl (some (.int 1))) s7 f8))) (fun k => Q (.inr k) s7 f8)))))) (fun k => Q (.inr k) s4 f5)))))) (fun k => Q (.inr k) s1 f2)))) : EvC l E w (d + 1) MX0_same [.ref (w.1 0), .int x1, .int x2] s f Q :=
  EvC.of hst (by decide) (Nat.le_of_ble_eq_true rfl) (vX0_same_0  hT)
theorem vX0_mark_0 {l : Launch} {E : EN} {w : CO} {d : Nat} {s : CS} {f : RH} {Q : KO → CS → RH → Prop}   (hT : (EvC l E w d MX4_mark [.ref (w.1 4)] s f (fun o s1 f2 => KP o (fun r => ∃ v3 : Int32, r = some (.int v3) ∧ Q (.inl (some (.int v3))) s1 f2) (fun k => Q (.inr k) s1 f2)))) : ExC l E w (d + 1) MX0_mark 0 [some (.ref (w.1 0))] [] s f Q := by
  intro f0 h hW hF
  refine x_aload_n dX0_mark_0 rfl rfl rfl ?_
  refine c_getO dX0_mark_1 f_TallySlate_40 (by decide) (by decide) rfl hW ?_
  refine c_getO dX0_mark_4 f_TallySlate_108 (by decide) (by decide) rfl hW ?_
  obtain ⟨-, -, cc, hcc, -⟩ := hW.ob 4 (by decide)
  refine c_invV (vs := []) dX0_mark_7 oX4_mark q2136 q2135 hcc q2137 (Or.inl rfl) rfl rfl (Nat.le_of_ble_eq_true rfl) rfl hW hF hT ?_ ?_
  · intro _ s1 f2 hT h hW hF
    obtain ⟨v3, rfl, hT⟩ := hT
    exact x_iret dX0_mark_10 rfl rfl ⟨_, _, hW, hF, Or.inl ⟨_, rfl, hT⟩⟩
  · intro k s1 f2 hT h a hW hx hF
    exact c_out (rfl) hW hx hF hT
theorem eX0_mark {l : Launch} {E : EN} {w : CO} {d : Nat} {s : CS} {f : RH} {Q : KO → CS → RH → Prop}   (hst : l.stackTraces = false) (hT : (EvC l E w d MX4_mark [.ref (w.1 4)] s f (fun o s1 f2 => KP o (fun r => ∃ v3 : Int32, r = some (.int v3) ∧ Q (.inl (some (.int v3))) s1 f2) (fun k => Q (.inr k) s1 f2)))) : EvC l E w (d + 1) MX0_mark [.ref (w.1 0)] s f Q :=
  EvC.of hst (by decide) (Nat.le_of_ble_eq_true rfl) (vX0_mark_0  hT)
theorem vX0_back_0 {l : Launch} {E : EN} {w : CO} {d : Nat} {s : CS} {f : RH} {Q : KO → CS → RH → Prop}   (hT : ((¬ (s.1 48) = 0 → (EvC l E w d MX4_back [.ref (w.1 4), .int ((s.1 48) - 1)] (uI s 48 ((s.1 48) - 1)) f (fun o s1 f2 => KP o (fun r => r = none ∧ Q (.inl (some (.int 1))) s1 f2) (fun k => Q (.inr k) s1 f2)))) ∧ ((s.1 48) = 0 → Q (.inl (some (.int 0))) s f))) : ExC l E w (d + 1) MX0_back 0 [some (.ref (w.1 0))] [] s f Q := by
  intro f0 h hW hF
  refine x_aload_n dX0_back_0 rfl rfl rfl ?_
  refine c_getO dX0_back_1 f_TallySlate_40 (by decide) (by decide) rfl hW ?_
  refine c_getO dX0_back_4 f_TallySlate_108 (by decide) (by decide) rfl hW ?_
  refine c_getI (v := (s.1 48)) dX0_back_7 f_TallySlate_242 (by decide) (by decide) rfl hW rfl ?_
  refine x_if_ne (tgt := 15) dX0_back_10 rfl (fun c => ?_) (fun c => ?_)
  · replace hT := hT.1 c
    refine x_aload_n dX0_back_15 rfl rfl rfl ?_
    refine c_getO dX0_back_16 f_TallySlate_40 (by decide) (by decide) rfl hW ?_
    refine c_getO dX0_back_19 f_TallySlate_108 (by decide) (by decide) rfl hW ?_
    refine x_dup dX0_back_22 rfl ?_
    refine c_getI (v := (s.1 48)) dX0_back_23 f_TallySlate_242 (by decide) (by decide) rfl hW rfl ?_
    refine x_iconst (v := 1) dX0_back_26 rfl ?_
    refine x_isub dX0_back_27 ?_
    refine c_putI dX0_back_28 f_TallySlate_242 (by decide) (by decide) rfl rfl rfl rfl hW ?_
    intro h hW
    refine x_aload_n dX0_back_31 rfl rfl rfl ?_
    refine c_getO dX0_back_32 f_TallySlate_40 (by decide) (by decide) rfl hW ?_
    refine c_getO dX0_back_35 f_TallySlate_108 (by decide) (by decide) rfl hW ?_
    refine x_aload_n dX0_back_38 rfl rfl rfl ?_
    refine c_getO dX0_back_39 f_TallySlate_40 (by decide) (by decide) rfl hW ?_
    refine c_getO dX0_back_42 f_TallySlate_108 (by decide) (by decide) rfl hW ?_
    refine c_getI (v := ((s.1 48) - 1)) dX0_back_45 f_TallySlate_242 (by decide) (by decide) rfl hW rfl ?_
    obtain ⟨-, -, cc, hcc, -⟩ := hW.ob 4 (by decide)
    refine c_invV (vs := [.int ((s.1 48) - 1)]) dX0_back_48 oX4_back q2054 q2053 hcc q2055 (Or.inl rfl) rfl rfl (Nat.le_of_ble_eq_true rfl) rfl hW hF hT ?_ ?_
    · intro _ s1 f2 hT h hW hF
      obtain ⟨rfl, hT⟩ := hT
      refine x_iconst (v := 1) dX0_back_51 rfl ?_
      exact x_iret dX0_back_52 rfl rfl ⟨_, _, hW, hF, Or.inl ⟨_, rfl, hT⟩⟩
    · intro k s1 f2 hT h a hW hx hF
      exact c_out (rfl) hW hx hF hT
  · replace hT := hT.2 c
    refine x_iconst (v := 0) dX0_back_13 rfl ?_
    exact x_iret dX0_back_14 rfl rfl ⟨_, _, hW, hF, Or.inl ⟨_, rfl, hT⟩⟩
theorem eX0_back {l : Launch} {E : EN} {w : CO} {d : Nat} {s : CS} {f : RH} {Q : KO → CS → RH → Prop}   (hst : l.stackTraces = false) (hT : ((¬ (s.1 48) = 0 → (EvC l E w d MX4_back [.ref (w.1 4), .int ((s.1 48) - 1)] (uI s 48 ((s.1 48) - 1)) f (fun o s1 f2 => KP o (fun r => r = none ∧ Q (.inl (some (.int 1))) s1 f2) (fun k => Q (.inr k) s1 f2)))) ∧ ((s.1 48) = 0 → Q (.inl (some (.int 0))) s f))) : EvC l E w (d + 1) MX0_back [.ref (w.1 0)] s f Q :=
  EvC.of hst (by decide) (Nat.le_of_ble_eq_true rfl) (vX0_back_0  hT)
theorem vX0_sum_0 {l : Launch} {E : EN} {w : CO} {d : Nat} {s : CS} {f : RH} {Q : KO → CS → RH → Prop}   (hT : ExC l E w (d + 1) MX0_sum 4 [some (.ref (w.1 0)), some (.long 0), none, some (.int 0)] [] s f Q) : ExC l E w (d + 1) MX0_sum 0 [some (.ref (w.1 0)), none, none, none] [] s f Q := by
  intro f0 h hW hF
  refine x_lconst (v := 0) dX0_sum_0 rfl ?_
  refine x_lstore_n (lo' := [some (.ref (w.1 0)), some (.long 0), none, none]) dX0_sum_1 rfl (Nat.le_of_ble_eq_true rfl) rfl ?_
  refine x_iconst (v := 0) dX0_sum_2 rfl ?_
  refine x_istore_n (lo' := [some (.ref (w.1 0)), some (.long 0), none, some (.int 0)]) dX0_sum_3 rfl (Nat.le_of_ble_eq_true rfl) rfl ?_
  exact hT f0 h hW hF
theorem eX0_sum {l : Launch} {E : EN} {w : CO} {d : Nat} {s : CS} {f : RH} {Q : KO → CS → RH → Prop}   (hst : l.stackTraces = false) (hT : ExC l E w (d + 1) MX0_sum 4 [some (.ref (w.1 0)), some (.long 0), none, some (.int 0)] [] s f Q) : EvC l E w (d + 1) MX0_sum [.ref (w.1 0)] s f Q :=
  EvC.of hst (by decide) (Nat.le_of_ble_eq_true rfl) (vX0_sum_0  hT)
set_option maxHeartbeats 16000000 in
theorem vX0_sum_4 {l : Launch} {E : EN} {w : CO} {d : Nat} {s : CS} {f : RH} {Q : KO → CS → RH → Prop} {b1 : Int64} {b3 : Int32}  (hT : ((8 ≤ b3 → Q (.inl (some (.long b1))) s f) ∧ (¬ 8 ≤ b3 → (EvC l E w d MX0_has [.ref (w.1 0), .int b3] s f (fun o s1 f2 => KP o (fun r => ∃ v3 : Int32, r = some (.int v3) ∧ ((¬ v3 = 0 → (EvC l E w d MX0_thingOn [.ref (w.1 0), .int b3] s1 f2 (fun o s4 f5 => KP o (fun r => ∃ v6 : Value, r = some v6 ∧ isR v6 = true ∧ ((v6 = .null → (EvC l E w d MX0_joined [.long b1, .long 0] s4 f5 (fun o s8 f9 => KP o (fun r => ∃ v10 : Int64, r = some (.long v10) ∧ (inB b3 8 ∧ (EvC l E w d MX0_joined [.long v10, .long (s8.2.2.1 42 b3.toNatClampNeg).toInt64] s8 f9 (fun o s11 f12 => KP o (fun r => ∃ v13 : Int64, r = some (.long v13) ∧ ExC l E w (d + 1) MX0_sum 4 [some (.ref (w.1 0)), some (.long v13), none, some (.int (b3 + 1))] [] s11 f12 Q) (fun k => Q (.inr k) s11 f12))))) (fun k => Q (.inr k) s8 f9)))) ∧ (∀ a7 : Nat, v6 = .ref a7 → (EvC l E w d MX0_thingOn [.ref (w.1 0), .int b3] s4 f5 (fun o s14 f15 => KP o (fun r => ∃ v16 : Value, r = some v16 ∧ isR v16 = true ∧ (∃ a19 : Nat, v16 = .ref a19 ∧ (∃ P22 : KO → CS → RH → Prop, (∀ o s17 f18, P22 o s17 f18 → KP o (fun r => ∃ v20 : Int64, r = some (.long v20) ∧ ExC l E w (d + 1) MX0_sum 4 [some (.ref (w.1 0)), some (.long v20), none, some (.int (b3 + 1))] [] s17 f18 Q) (fun k => Q (.inr k) s17 f18)) ∧ ∃ k21 : Nat, oc f15 a19 k21 ∧ ((k21 = 29 ∧ EvC l E w d MX32_sum [.ref a19, .long b1] s14 f15 P22) ∨ (k21 = 30 ∧ EvC l E w d MX33_sum [.ref a19, .long b1] s14 f15 P22) ∨ (k21 = 31 ∧ EvC l E w d MX34_sum [.ref a19, .long b1] s14 f15 P22) ∨ (k21 = 32 ∧ EvC l E w d MX35_sum [.ref a19, .long b1] s14 f15 P22))))) (fun k => Q (.inr k) s14 f15)))))) (fun k => Q (.inr k) s4 f5)))) ∧ (v3 = 0 → (EvC l E w d MX0_joined [.long b1, .long (-1)] s1 f2 (fun o s23 f24 => KP o (fun r => ∃ v25 : Int64, r = some (.long v25) ∧ ExC l E w (d + 1) MX0_sum 4 [some (.ref (w.1 0)), some (.long v25), none, some (.int (b3 + 1))] [] s23 f24 Q) (fun k => Q (.inr k) s23 f24)))))) (fun k => Q (.inr k) s1 f2)))))) : ExC l E w (d + 1) MX0_sum 4 [some (.ref (w.1 0)), some (.long b1), none, some (.int b3)] [] s f Q := by
  intro f0 h hW hF
  refine x_iload_n dX0_sum_4 rfl rfl ?_
  refine x_bipush (v := 8) dX0_sum_5 rfl ?_
  refine x_icmp_ge (tgt := 78) dX0_sum_7 rfl (fun c => ?_) (fun c => ?_)
  · replace hT := hT.1 c
    refine x_lload_n dX0_sum_78 rfl rfl ?_
    exact x_lret dX0_sum_79 rfl ⟨_, _, hW, hF, Or.inl ⟨_, rfl, hT⟩⟩
  · replace hT := hT.2 c
    refine x_aload_n dX0_sum_10 rfl rfl rfl ?_
    refine x_iload_n dX0_sum_11 rfl rfl ?_
    obtain ⟨-, -, cc, hcc, -⟩ := hW.ob 0 (by decide)
    refine c_invV (vs := [.int b3]) dX0_sum_12 oX0_has q2078 q2076 hcc qs58 (Or.inl rfl) rfl rfl (Nat.le_of_ble_eq_true rfl) rfl hW hF hT ?_ ?_
    · intro _ s1 f2 hT h hW hF
      obtain ⟨v3, rfl, hT⟩ := hT
      refine x_if_ne (tgt := 29) dX0_sum_15 rfl (fun c => ?_) (fun c => ?_)
      · replace hT := hT.1 c
        refine x_aload_n dX0_sum_29 rfl rfl rfl ?_
        refine x_iload_n dX0_sum_30 rfl rfl ?_
        obtain ⟨-, -, cc, hcc, -⟩ := hW.ob 0 (by decide)
        refine c_invV (vs := [.int b3]) dX0_sum_31 oX0_thingOn q2082 q2080 hcc qs59 (Or.inl rfl) rfl rfl (Nat.le_of_ble_eq_true rfl) rfl hW hF hT ?_ ?_
        · intro _ s4 f5 hT h hW hF
          obtain ⟨v6, rfl, iv6, hT⟩ := hT
          refine x_ifnonnull (tgt := 62) dX0_sum_34 rfl iv6 (fun a7 e => ?_) (fun e => ?_)
          · subst e
            replace hT := hT.2 a7 rfl
            refine x_aload_n dX0_sum_62 rfl rfl rfl ?_
            refine x_iload_n dX0_sum_63 rfl rfl ?_
            obtain ⟨-, -, cc, hcc, -⟩ := hW.ob 0 (by decide)
            refine c_invV (vs := [.int b3]) dX0_sum_64 oX0_thingOn q2082 q2080 hcc qs59 (Or.inl rfl) rfl rfl (Nat.le_of_ble_eq_true rfl) rfl hW hF hT ?_ ?_
            · intro _ s14 f15 hT h hW hF
              obtain ⟨v16, rfl, iv16, hT⟩ := hT
              refine x_lload_n dX0_sum_67 rfl rfl ?_
              obtain ⟨a19, rfl, hT⟩ := hT
              obtain ⟨P22, hP, k21, hc, hT⟩ := hT
              have kr : ∀ r s17 f18, P22 (.inl r) s17 f18 → ∀ h, CW E w s17 f18 h → Frz f0 f18 → Ex l E (d + 1) MX0_sum (68 + 3) [some (.ref (w.1 0)), some (.long b1), none, some (.int b3)] (r.toList ++ []) h (PoC E w f0 Q) := by
                intro r s17 f18 h0 h hW hF
                have hT := hP _ _ _ h0
                clear h0
                obtain ⟨v20, rfl, hT⟩ := hT
                refine x_lstore_n (lo' := [some (.ref (w.1 0)), some (.long v20), none, some (.int b3)]) dX0_sum_71 rfl (Nat.le_of_ble_eq_true rfl) rfl ?_
                refine x_iinc (lo' := [some (.ref (w.1 0)), some (.long v20), none, some (.int (b3 + 1))]) dX0_sum_72 rfl (show _ = (b3 + 1) from rfl) rfl ?_
                refine x_goto (tgt := 4) dX0_sum_75 rfl ?_
                exact hT f0 h hW hF
              have kt : ∀ k s17 f18, P22 (.inr k) s17 f18 → ∀ h a, CW E w s17 f18 h → xA w h k a → Frz f0 f18 → ExT l E (d + 1) MX0_sum 68 [some (.ref (w.1 0)), some (.long b1), none, some (.int b3)] [] a h (PoC E w f0 Q) := by
                intro k s17 f18 h0 h a hW hx hF
                have hT := hP _ _ _ h0
                clear h0
                exact c_out (rfl) hW hx hF hT
              obtain ⟨cc, hcc⟩ := hW.ocell hc
              rcases hT with ⟨rfl, hT⟩ | ⟨rfl, hT⟩ | ⟨rfl, hT⟩ | ⟨rfl, hT⟩
              · exact c_invV (vs := [.long b1]) dX0_sum_68 oX32_sum q2162 q2153 hcc q2176 (Or.inr hy_Thing_sum) rfl rfl (Nat.le_of_ble_eq_true rfl) rfl hW hF hT kr kt
              · exact c_invV (vs := [.long b1]) dX0_sum_68 oX33_sum q2168 q2153 hcc q2177 (Or.inr hy_Thing_sum) rfl rfl (Nat.le_of_ble_eq_true rfl) rfl hW hF hT kr kt
              · exact c_invV (vs := [.long b1]) dX0_sum_68 oX34_sum q2157 q2153 hcc q2156 (Or.inr hy_Thing_sum) rfl rfl (Nat.le_of_ble_eq_true rfl) rfl hW hF hT kr kt
              · exact c_invV (vs := [.long b1]) dX0_sum_68 oX35_sum q2173 q2153 hcc q2178 (Or.inr hy_Thing_sum) rfl rfl (Nat.le_of_ble_eq_true rfl) rfl hW hF hT kr kt
            · intro k s14 f15 hT h a hW hx hF
              exact c_out (rfl) hW hx hF hT
          · subst e
            replace hT := hT.1 rfl
            refine x_lload_n dX0_sum_37 rfl rfl ?_
            refine x_lconst (v := 0) dX0_sum_38 rfl ?_
            refine c_invS (vs := [.long b1, .long 0]) dX0_sum_39 oX0_joined q2150 (Or.inl q2149) rfl rfl (Nat.le_of_ble_eq_true rfl) rfl hW hF hT ?_ ?_
            · intro _ s8 f9 hT h hW hF
              obtain ⟨v10, rfl, hT⟩ := hT
              refine x_aload_n dX0_sum_42 rfl rfl rfl ?_
              refine c_getO dX0_sum_43 f_TallySlate_40 (by decide) (by decide) rfl hW ?_
              refine c_getO dX0_sum_46 f_TallySlate_108 (by decide) (by decide) rfl hW ?_
              refine c_getA dX0_sum_49 f_TallySlate_184 (by decide) (by decide) rfl hW ?_
              refine x_iload_n dX0_sum_52 rfl rfl ?_
              obtain ⟨hb, hT⟩ := hT
              refine c_iald (v := (s8.2.2.1 42 b3.toNatClampNeg)) dX0_sum_53 rfl hb hW rfl ?_
              refine x_i2l dX0_sum_54 ?_
              refine c_invS (vs := [.long v10, .long (s8.2.2.1 42 b3.toNatClampNeg).toInt64]) dX0_sum_55 oX0_joined q2150 (Or.inl q2149) rfl rfl (Nat.le_of_ble_eq_true rfl) rfl hW hF hT ?_ ?_
              · intro _ s11 f12 hT h hW hF
                obtain ⟨v13, rfl, hT⟩ := hT
                refine x_lstore_n (lo' := [some (.ref (w.1 0)), some (.long v13), none, some (.int b3)]) dX0_sum_58 rfl (Nat.le_of_ble_eq_true rfl) rfl ?_
                refine x_goto (tgt := 72) dX0_sum_59 rfl ?_
                refine x_iinc (lo' := [some (.ref (w.1 0)), some (.long v13), none, some (.int (b3 + 1))]) dX0_sum_72 rfl (show _ = (b3 + 1) from rfl) rfl ?_
                refine x_goto (tgt := 4) dX0_sum_75 rfl ?_
                exact hT f0 h hW hF
              · intro k s11 f12 hT h a hW hx hF
                exact c_out (rfl) hW hx hF hT
            · intro k s8 f9 hT h a hW hx hF
              exact c_out (rfl) hW hx hF hT
        · intro k s4 f5 hT h a hW hx hF
          exact c_out (rfl) hW hx hF hT
      · replace hT := hT.2 c
        refine x_lload_n dX0_sum_18 rfl rfl ?_
        refine x_ldc2 dX0_sum_19 q2148 ?_
        refine c_invS (vs := [.long b1, .long (-1)]) dX0_sum_22 oX0_joined q2150 (Or.inl q2149) rfl rfl (Nat.le_of_ble_eq_true rfl) rfl hW hF hT ?_ ?_
        · intro _ s23 f24 hT h hW hF
          obtain ⟨v25, rfl, hT⟩ := hT
          refine x_lstore_n (lo' := [some (.ref (w.1 0)), some (.long v25), none, some (.int b3)]) dX0_sum_25 rfl (Nat.le_of_ble_eq_true rfl) rfl ?_
          refine x_goto (tgt := 72) dX0_sum_26 rfl ?_
          refine x_iinc (lo' := [some (.ref (w.1 0)), some (.long v25), none, some (.int (b3 + 1))]) dX0_sum_72 rfl (show _ = (b3 + 1) from rfl) rfl ?_
          refine x_goto (tgt := 4) dX0_sum_75 rfl ?_
          exact hT f0 h hW hF
        · intro k s23 f24 hT h a hW hx hF
          exact c_out (rfl) hW hx hF hT
    · intro k s1 f2 hT h a hW hx hF
      exact c_out (rfl) hW hx hF hT
theorem vX0_joined_0 {l : Launch} {E : EN} {w : CO} {d : Nat} {s : CS} {f : RH} {Q : KO → CS → RH → Prop} {x1 : Int64} {x2 : Int64}  (hT : Q (.inl (some (.long ((x1 * 1000003) ^^^ x2)))) s f) : ExC l E w d MX0_joined 0 [some (.long x1), none, some (.long x2), none] [] s f Q := by
  intro f0 h hW hF
  refine x_lload_n dX0_joined_0 rfl rfl ?_
  refine x_ldc2 dX0_joined_1 q2152 ?_
  refine x_lmul dX0_joined_4 ?_
  refine x_lload_n dX0_joined_5 rfl rfl ?_
  refine x_lxor dX0_joined_6 ?_
  exact x_lret dX0_joined_7 rfl ⟨_, _, hW, hF, Or.inl ⟨_, rfl, hT⟩⟩
theorem eX0_joined {l : Launch} {E : EN} {w : CO} {d : Nat} {s : CS} {f : RH} {Q : KO → CS → RH → Prop} {x1 : Int64} {x2 : Int64}  (hst : l.stackTraces = false) (hT : Q (.inl (some (.long ((x1 * 1000003) ^^^ x2)))) s f) : EvC l E w d MX0_joined [.long x1, .long x2] s f Q :=
  EvC.of hst (by decide) (Nat.le_of_ble_eq_true rfl) (vX0_joined_0  hT)
theorem vX11_init_0 {l : Launch} {E : EN} {w : CO} {d : Nat} {s : CS} {f : RH} {Q : KO → CS → RH → Prop} {x0 : Nat}  (hT : ((12 : Int32).toNatClampNeg ≤ 60000000 ∧ rmF E f 1 (12 : Int32).toNatClampNeg ∧ ∀ (a1 : Nat) (f2 : RH), a1 = f.1 → f2 = fnewA f 7 (12 : Int32).toNatClampNeg → (oc f2 x0 11 ∧ f2.2.2.2 ≤ x0 ∧ ∀ f3 : RH, f3 = fset f2 x0 148 (.ref a1) → ((16 : Int32).toNatClampNeg ≤ 60000000 ∧ rmF E f3 1 (16 : Int32).toNatClampNeg ∧ ∀ (a4 : Nat) (f5 : RH), a4 = f3.1 → f5 = fnewA f3 8 (16 : Int32).toNatClampNeg → (oc f5 x0 11 ∧ f5.2.2.2 ≤ x0 ∧ ∀ f6 : RH, f6 = fset f5 x0 151 (.ref a4) → (oc f6 x0 11 ∧ f6.2.2.2 ≤ x0 ∧ ∀ f7 : RH, f7 = fset f6 x0 147 (.ref (w.1 2)) → Q (.inl none) s f7)))))) : ExC l E w d MX11_init 0 [some (.ref x0), some (.ref (w.1 2))] [] s f Q := by
  intro f0 h hW hF
  refine x_aload_n dX11_init_0 rfl rfl rfl ?_
  refine x_objInit dX11_init_1 q579 q219 q220 (Nat.le_of_ble_eq_true rfl) rfl ?_
  refine x_aload_n dX11_init_4 rfl rfl rfl ?_
  refine x_bipush (v := 12) dX11_init_5 rfl ?_
  have hn : ¬ ((12 : Int32) < 0) := by decide
  obtain ⟨hb, hr, hT⟩ := hT
  refine c_anewarrayG (t := 7) dX11_init_7 (by decide) (by decide) (by decide) rfl q581 (Or.inl ⟨_, rfl, q580⟩) hn hb hr hW hF ?_
  intro a1 f2 ea1 ef2 h hW hF
  replace hT := hT a1 f2 ea1 ef2
  obtain ⟨hc, hz, hT⟩ := hT
  refine c_fputG dX11_init_10 f_TallySlate_Reader_11 hc (by decide) (by decide) hz (Or.inl rfl) rfl rfl hW hF ?_
  intro f3 ef3 h hW hF
  replace hT := hT f3 ef3
  refine x_aload_n dX11_init_13 rfl rfl rfl ?_
  refine x_bipush (v := 16) dX11_init_14 rfl ?_
  have hn : ¬ ((16 : Int32) < 0) := by decide
  obtain ⟨hb, hr, hT⟩ := hT
  refine c_anewarrayG (t := 8) dX11_init_16 (by decide) (by decide) (by decide) rfl q583 (Or.inl ⟨_, rfl, q582⟩) hn hb hr hW hF ?_
  intro a4 f5 ea4 ef5 h hW hF
  replace hT := hT a4 f5 ea4 ef5
  obtain ⟨hc, hz, hT⟩ := hT
  refine c_fputG dX11_init_19 f_TallySlate_Reader_19 hc (by decide) (by decide) hz (Or.inl rfl) rfl rfl hW hF ?_
  intro f6 ef6 h hW hF
  replace hT := hT f6 ef6
  refine x_aload_n dX11_init_22 rfl rfl rfl ?_
  refine x_aload_n dX11_init_23 rfl rfl rfl ?_
  obtain ⟨hc, hz, hT⟩ := hT
  refine c_fputG dX11_init_24 f_TallySlate_Reader_23 hc (by decide) (by decide) hz (Or.inr ⟨rfl, rfl⟩) rfl rfl hW hF ?_
  intro f7 ef7 h hW hF
  replace hT := hT f7 ef7
  exact x_vret dX11_init_27 rfl ⟨_, _, hW, hF, Or.inl ⟨_, rfl, hT⟩⟩
theorem eX11_init {l : Launch} {E : EN} {w : CO} {d : Nat} {s : CS} {f : RH} {Q : KO → CS → RH → Prop} {x0 : Nat}  (hst : l.stackTraces = false) (hT : ((12 : Int32).toNatClampNeg ≤ 60000000 ∧ rmF E f 1 (12 : Int32).toNatClampNeg ∧ ∀ (a1 : Nat) (f2 : RH), a1 = f.1 → f2 = fnewA f 7 (12 : Int32).toNatClampNeg → (oc f2 x0 11 ∧ f2.2.2.2 ≤ x0 ∧ ∀ f3 : RH, f3 = fset f2 x0 148 (.ref a1) → ((16 : Int32).toNatClampNeg ≤ 60000000 ∧ rmF E f3 1 (16 : Int32).toNatClampNeg ∧ ∀ (a4 : Nat) (f5 : RH), a4 = f3.1 → f5 = fnewA f3 8 (16 : Int32).toNatClampNeg → (oc f5 x0 11 ∧ f5.2.2.2 ≤ x0 ∧ ∀ f6 : RH, f6 = fset f5 x0 151 (.ref a4) → (oc f6 x0 11 ∧ f6.2.2.2 ≤ x0 ∧ ∀ f7 : RH, f7 = fset f6 x0 147 (.ref (w.1 2)) → Q (.inl none) s f7)))))) : EvC l E w d MX11_init [.ref x0, .ref (w.1 2)] s f Q :=
  EvC.of hst (by decide) (Nat.le_of_ble_eq_true rfl) (vX11_init_0  hT)
theorem vX11_read_0 {l : Launch} {E : EN} {w : CO} {d : Nat} {s : CS} {f : RH} {Q : KO → CS → RH → Prop} {x0 : Nat}  (hT : (oc f x0 11 ∧ (∃ a1 : Nat, vl f x0 147 = .ref a1 ∧ (oc f a1 2 ∧ EvC l E w d MX2_next [.ref a1] s f (fun o s2 f3 => KP o (fun r => r = none ∧ ExC l E w (d + 1) MX11_read 7 [some (.ref x0), none] [] s2 f3 Q) (fun k => Q (.inr k) s2 f3)))))) : ExC l E w (d + 1) MX11_read 0 [some (.ref x0), none] [] s f Q := by
  intro f0 h hW hF
  refine x_aload_n dX11_read_0 rfl rfl rfl ?_
  obtain ⟨hc, hT⟩ := hT
  obtain ⟨a1, ev, hT⟩ := hT
  refine c_fgetG dX11_read_1 f_TallySlate_Reader_23 hc (by decide) (by decide) hW ev ?_
  obtain ⟨hc, hT⟩ := hT
  obtain ⟨cc, hcc⟩ := hW.ocell hc
  refine c_invV (vs := []) dX11_read_4 oX2_next q610 q609 hcc q611 (Or.inl rfl) rfl rfl (Nat.le_of_ble_eq_true rfl) rfl hW hF hT ?_ ?_
  · intro _ s2 f3 hT h hW hF
    obtain ⟨rfl, hT⟩ := hT
    exact hT f0 h hW hF
  · intro k s2 f3 hT h a hW hx hF
    exact c_out (rfl) hW hx hF hT
theorem eX11_read {l : Launch} {E : EN} {w : CO} {d : Nat} {s : CS} {f : RH} {Q : KO → CS → RH → Prop} {x0 : Nat}  (hst : l.stackTraces = false) (hT : (oc f x0 11 ∧ (∃ a1 : Nat, vl f x0 147 = .ref a1 ∧ (oc f a1 2 ∧ EvC l E w d MX2_next [.ref a1] s f (fun o s2 f3 => KP o (fun r => r = none ∧ ExC l E w (d + 1) MX11_read 7 [some (.ref x0), none] [] s2 f3 Q) (fun k => Q (.inr k) s2 f3)))))) : EvC l E w (d + 1) MX11_read [.ref x0] s f Q :=
  EvC.of hst (by decide) (Nat.le_of_ble_eq_true rfl) (vX11_read_0  hT)
theorem vX11_read_7 {l : Launch} {E : EN} {w : CO} {d : Nat} {s : CS} {f : RH} {Q : KO → CS → RH → Prop} {b0 : Nat}  (hT : (oc f b0 11 ∧ (∃ a5 : Nat, vl f b0 147 = .ref a5 ∧ (oc f a5 2 ∧ EvC l E w d MX2_isWord [.ref a5, .ref (eSC E 41)] s f (fun o s6 f7 => KP o (fun r => ∃ v8 : Int32, r = some (.int v8) ∧ ((v8 = 0 → (oc f7 b0 11 ∧ (∃ a9 : Nat, vl f7 b0 147 = .ref a9 ∧ (oc f7 a9 2 ∧ (∃ v10 : Int32, vl f7 a9 20 = .int v10 ∧ ((v10 = 0 → ExC l E w (d + 1) MX11_read 54 [some (.ref b0), some (.int 0)] [] s6 f7 Q) ∧ (¬ v10 = 0 → (oc f7 b0 11 ∧ (∃ a11 : Nat, vl f7 b0 147 = .ref a11 ∧ (oc f7 b0 11 ∧ (∃ a12 : Nat, vl f7 b0 147 = .ref a12 ∧ (oc f7 a12 2 ∧ (∃ v13 : Int32, vl f7 a12 21 = .int v13 ∧ (oc f7 a11 2 ∧ EvC l E w d MX2_wrong [.ref a11, .int 2, .int v13] s6 f7 (fun o s14 f15 => KP o (fun r => r = some (.ref (w.1 1)) ∧ Q (.inr 1) s14 f15) (fun k => Q (.inr k) s14 f15)))))))))))))))) ∧ (¬ v8 = 0 → (oc f7 b0 11 ∧ EvC l E w d MX11_function [.ref b0] s6 f7 (fun o s17 f18 => KP o (fun r => r = none ∧ ExC l E w (d + 1) MX11_read 7 [some (.ref b0), none] [] s17 f18 Q) (fun k => Q (.inr k) s17 f18)))))) (fun k => Q (.inr k) s6 f7)))))) : ExC l E w (d + 1) MX11_read 7 [some (.ref b0), none] [] s f Q := by
  intro f0 h hW hF
  refine x_aload_n dX11_read_7 rfl rfl rfl ?_
  obtain ⟨hc, hT⟩ := hT
  obtain ⟨a5, ev, hT⟩ := hT
  refine c_fgetG dX11_read_8 f_TallySlate_Reader_23 hc (by decide) (by decide) hW ev ?_
  refine x_ldcS (i := 41) dX11_read_11 rfl ?_
  obtain ⟨hc, hT⟩ := hT
  obtain ⟨cc, hcc⟩ := hW.ocell hc
  refine c_invV (vs := [.ref (eSC E 41)]) dX11_read_13 oX2_isWord q728 q727 hcc q729 (Or.inl rfl) rfl rfl (Nat.le_of_ble_eq_true rfl) rfl hW hF hT ?_ ?_
  · intro _ s6 f7 hT h hW hF
    obtain ⟨v8, rfl, hT⟩ := hT
    refine x_if_eq (tgt := 26) dX11_read_16 rfl (fun c => ?_) (fun c => ?_)
    · replace hT := hT.1 c
      refine x_aload_n dX11_read_26 rfl rfl rfl ?_
      obtain ⟨hc, hT⟩ := hT
      obtain ⟨a9, ev, hT⟩ := hT
      refine c_fgetG dX11_read_27 f_TallySlate_Reader_23 hc (by decide) (by decide) hW ev ?_
      obtain ⟨hc, hT⟩ := hT
      obtain ⟨v10, ev, hT⟩ := hT
      refine c_fgetG dX11_read_30 f_TallySlate_Reader_41 hc (by decide) (by decide) hW ev ?_
      refine x_if_eq (tgt := 52) dX11_read_33 rfl (fun c => ?_) (fun c => ?_)
      · replace hT := hT.1 c
        refine x_iconst (v := 0) dX11_read_52 rfl ?_
        refine x_istore_n (lo' := [some (.ref b0), some (.int 0)]) dX11_read_53 rfl (Nat.le_of_ble_eq_true rfl) rfl ?_
        exact hT f0 h hW hF
      · replace hT := hT.2 c
        refine x_aload_n dX11_read_36 rfl rfl rfl ?_
        obtain ⟨hc, hT⟩ := hT
        obtain ⟨a11, ev, hT⟩ := hT
        refine c_fgetG dX11_read_37 f_TallySlate_Reader_23 hc (by decide) (by decide) hW ev ?_
        refine x_iconst (v := 2) dX11_read_40 rfl ?_
        refine x_aload_n dX11_read_41 rfl rfl rfl ?_
        obtain ⟨hc, hT⟩ := hT
        obtain ⟨a12, ev, hT⟩ := hT
        refine c_fgetG dX11_read_42 f_TallySlate_Reader_23 hc (by decide) (by decide) hW ev ?_
        obtain ⟨hc, hT⟩ := hT
        obtain ⟨v13, ev, hT⟩ := hT
        refine c_fgetG dX11_read_45 f_TallySlate_Reader_45 hc (by decide) (by decide) hW ev ?_
        obtain ⟨hc, hT⟩ := hT
        obtain ⟨cc, hcc⟩ := hW.ocell hc
        refine c_invV (vs := [.int 2, .int v13]) dX11_read_48 oX2_wrong q564 q772 hcc q565 (Or.inl rfl) rfl rfl (Nat.le_of_ble_eq_true rfl) rfl hW hF hT ?_ ?_
        · intro _ s14 f15 hT h hW hF
          obtain ⟨rfl, hT⟩ := hT
          refine x_athrow dX11_read_51 ?_
          exact c_out (rfl) hW (Or.inr (Or.inl ⟨rfl, rfl⟩)) hF hT
        · intro k s14 f15 hT h a hW hx hF
          exact c_out (rfl) hW hx hF hT
    · replace hT := hT.2 c
      refine x_aload_n dX11_read_19 rfl rfl rfl ?_
      obtain ⟨hc, hT⟩ := hT
      obtain ⟨cc, hcc⟩ := hW.ocell hc
      refine c_invV (vs := []) dX11_read_20 oX11_function q754 q752 hcc qs6 (Or.inl rfl) rfl rfl (Nat.le_of_ble_eq_true rfl) rfl hW hF hT ?_ ?_
      · intro _ s17 f18 hT h hW hF
        obtain ⟨rfl, hT⟩ := hT
        refine x_goto (tgt := 7) dX11_read_23 rfl ?_
        exact hT f0 h hW hF
      · intro k s17 f18 hT h a hW hx hF
        exact c_out (rfl) hW hx hF hT
  · intro k s6 f7 hT h a hW hx hF
    exact c_out (rfl) hW hx hF hT
theorem vX11_read_54 {l : Launch} {E : EN} {w : CO} {d : Nat} {s : CS} {f : RH} {Q : KO → CS → RH → Prop} {b0 : Nat} {b1 : Int32}  (hT : (oc f b0 11 ∧ (∃ v21 : Int32, vl f b0 152 = .int v21 ∧ ((v21 ≤ b1 → Q (.inl none) s f) ∧ (¬ v21 ≤ b1 → (oc f b0 11 ∧ (∃ a22 : Nat, vl f b0 151 = .ref a22 ∧ (∃ t23 : Nat, 4 ≤ t23 ∧ (tg f a22 = some (.inr t23) ∧ inB b1 (ln f a22) ∧ (∃ a24 : Nat, vl f a22 b1.toNatClampNeg = .ref a24 ∧ (oc f b0 11 ∧ EvC l E w d MX11_resolve [.ref b0, .ref a24] s f (fun o s25 f26 => KP o (fun r => r = none ∧ ExC l E w (d + 1) MX11_read 54 [some (.ref b0), some (.int (b1 + 1))] [] s25 f26 Q) (fun k => Q (.inr k) s25 f26))))))))))))) : ExC l E w (d + 1) MX11_read 54 [some (.ref b0), some (.int b1)] [] s f Q := by
  intro f0 h hW hF
  refine x_iload_n dX11_read_54 rfl rfl ?_
  refine x_aload_n dX11_read_55 rfl rfl rfl ?_
  obtain ⟨hc, hT⟩ := hT
  obtain ⟨v21, ev, hT⟩ := hT
  refine c_fgetG dX11_read_56 f_TallySlate_Reader_52 hc (by decide) (by decide) hW ev ?_
  refine x_icmp_ge (tgt := 78) dX11_read_59 rfl (fun c => ?_) (fun c => ?_)
  · replace hT := hT.1 c
    exact x_vret dX11_read_78 rfl ⟨_, _, hW, hF, Or.inl ⟨_, rfl, hT⟩⟩
  · replace hT := hT.2 c
    refine x_aload_n dX11_read_62 rfl rfl rfl ?_
    refine x_aload_n dX11_read_63 rfl rfl rfl ?_
    obtain ⟨hc, hT⟩ := hT
    obtain ⟨a22, ev, hT⟩ := hT
    refine c_fgetG dX11_read_64 f_TallySlate_Reader_19 hc (by decide) (by decide) hW ev ?_
    refine x_iload_n dX11_read_67 rfl rfl ?_
    obtain ⟨t23, ht2, hc, hT⟩ := hT
    obtain ⟨hb, hT⟩ := hT
    obtain ⟨a24, ev, hT⟩ := hT
    refine c_faald dX11_read_68 hc ht2 hb hW ev ?_
    obtain ⟨hc, hT⟩ := hT
    obtain ⟨cc, hcc⟩ := hW.ocell hc
    refine c_invV (vs := [.ref a24]) dX11_read_69 oX11_resolve q1287 q1285 hcc qs34 (Or.inl rfl) rfl rfl (Nat.le_of_ble_eq_true rfl) rfl hW hF hT ?_ ?_
    · intro _ s25 f26 hT h hW hF
      obtain ⟨rfl, hT⟩ := hT
      refine x_iinc (lo' := [some (.ref b0), some (.int (b1 + 1))]) dX11_read_72 rfl (show _ = (b1 + 1) from rfl) rfl ?_
      refine x_goto (tgt := 54) dX11_read_75 rfl ?_
      exact hT f0 h hW hF
    · intro k s25 f26 hT h a hW hx hF
      exact c_out (rfl) hW hx hF hT
set_option maxHeartbeats 16000000 in
theorem vX11_function_0 {l : Launch} {E : EN} {w : CO} {d : Nat} {s : CS} {f : RH} {Q : KO → CS → RH → Prop} {x0 : Nat}  (hT : (oc f x0 11 ∧ (∃ a1 : Nat, vl f x0 147 = .ref a1 ∧ (oc f a1 2 ∧ EvC l E w d MX2_next [.ref a1] s f (fun o s2 f3 => KP o (fun r => r = none ∧ (oc f3 x0 11 ∧ EvC l E w d MX11_wantName [.ref x0] s2 f3 (fun o s4 f5 => KP o (fun r => r = none ∧ (oc f5 x0 11 ∧ (∃ v6 : Int32, vl f5 x0 149 = .int v6 ∧ ((¬ v6 = 12 → (rmF E f5 1 6 ∧ ∀ (a7 : Nat) (f8 : RH), a7 = f5.1 → f8 = fnew f5 12 → (EvC l E w d MX12_init [.ref a7] s4 f8 (fun o s9 f10 => KP o (fun r => r = none ∧ (oc f10 x0 11 ∧ f10.2.2.2 ≤ x0 ∧ ∀ f11 : RH, f11 = fset f10 x0 150 (.ref a7) → (oc f11 x0 11 ∧ (∃ a12 : Nat, vl f11 x0 150 = .ref a12 ∧ (oc f11 x0 11 ∧ (∃ a13 : Nat, vl f11 x0 147 = .ref a13 ∧ (oc f11 a13 2 ∧ EvC l E w d MX2_name [.ref a13] s9 f11 (fun o s14 f15 => KP o (fun r => ∃ v16 : Int64, r = some (.long v16) ∧ (oc f15 a12 12 ∧ f15.2.2.2 ≤ a12 ∧ ∀ f17 : RH, f17 = fset f15 a12 153 (.long v16) → (oc f17 x0 11 ∧ (∃ a18 : Nat, vl f17 x0 150 = .ref a18 ∧ (oc f17 x0 11 ∧ (∃ a19 : Nat, vl f17 x0 147 = .ref a19 ∧ (oc f17 a19 2 ∧ (∃ v20 : Int32, vl f17 a19 21 = .int v20 ∧ (oc f17 a18 12 ∧ f17.2.2.2 ≤ a18 ∧ ∀ f21 : RH, f21 = fset f17 a18 154 (.int v20) → (oc f21 x0 11 ∧ (∃ a22 : Nat, vl f21 x0 150 = .ref a22 ∧ (oc f21 a22 12 ∧ (∃ v23 : Int64, vl f21 a22 153 = .long v23 ∧ (EvC l E w d MX11_isShelf [.long v23] s14 f21 (fun o s24 f25 => KP o (fun r => ∃ v26 : Int32, r = some (.int v26) ∧ ExC l E w (d + 1) MX11_function 88 [some (.ref x0), some (.int v26), some (.int 0)] [] s24 f25 Q) (fun k => Q (.inr k) s24 f25)))))))))))))))) (fun k => Q (.inr k) s14 f15))))))))) (fun k => Q (.inr k) s9 f10))))) ∧ (v6 = 12 → (oc f5 x0 11 ∧ (∃ a28 : Nat, vl f5 x0 147 = .ref a28 ∧ (oc f5 x0 11 ∧ (∃ a29 : Nat, vl f5 x0 147 = .ref a29 ∧ (oc f5 a29 2 ∧ (∃ v30 : Int32, vl f5 a29 21 = .int v30 ∧ (oc f5 a28 2 ∧ EvC l E w d MX2_wrong [.ref a28, .int 3, .int v30] s4 f5 (fun o s31 f32 => KP o (fun r => r = some (.ref (w.1 1)) ∧ Q (.inr 1) s31 f32) (fun k => Q (.inr k) s31 f32)))))))))))))) (fun k => Q (.inr k) s4 f5)))) (fun k => Q (.inr k) s2 f3)))))) : ExC l E w (d + 1) MX11_function 0 [some (.ref x0), none, none] [] s f Q := by
  intro f0 h hW hF
  refine x_aload_n dX11_function_0 rfl rfl rfl ?_
  obtain ⟨hc, hT⟩ := hT
  obtain ⟨a1, ev, hT⟩ := hT
  refine c_fgetG dX11_function_1 f_TallySlate_Reader_23 hc (by decide) (by decide) hW ev ?_
  obtain ⟨hc, hT⟩ := hT
  obtain ⟨cc, hcc⟩ := hW.ocell hc
  refine c_invV (vs := []) dX11_function_4 oX2_next q610 q609 hcc q611 (Or.inl rfl) rfl rfl (Nat.le_of_ble_eq_true rfl) rfl hW hF hT ?_ ?_
  · intro _ s2 f3 hT h hW hF
    obtain ⟨rfl, hT⟩ := hT
    refine x_aload_n dX11_function_7 rfl rfl rfl ?_
    obtain ⟨hc, hT⟩ := hT
    obtain ⟨cc, hcc⟩ := hW.ocell hc
    refine c_invV (vs := []) dX11_function_8 oX11_wantName q758 q756 hcc qs7 (Or.inl rfl) rfl rfl (Nat.le_of_ble_eq_true rfl) rfl hW hF hT ?_ ?_
    · intro _ s4 f5 hT h hW hF
      obtain ⟨rfl, hT⟩ := hT
      refine x_aload_n dX11_function_11 rfl rfl rfl ?_
      obtain ⟨hc, hT⟩ := hT
      obtain ⟨v6, ev, hT⟩ := hT
      refine c_fgetG dX11_function_12 f_TallySlate_Reader_59 hc (by decide) (by decide) hW ev ?_
      refine x_bipush (v := 12) dX11_function_15 rfl ?_
      refine x_icmp_ne (tgt := 36) dX11_function_17 rfl (fun c => ?_) (fun c => ?_)
      · replace hT := hT.1 c
        refine x_aload_n dX11_function_36 rfl rfl rfl ?_
        obtain ⟨hr, hT⟩ := hT
        refine c_newG (k := 12) dX11_function_37 (by decide) q580 q185 hr hW hF ?_
        intro a7 f8 ea7 ef8 h hW hF
        replace hT := hT a7 f8 ea7 ef8
        refine x_dup dX11_function_40 rfl ?_
        refine c_invI (b := a7) (vs := []) dX11_function_41 oX12_init rfl rfl rfl q775 (Or.inr ⟨_, q774⟩) rfl rfl (Nat.le_of_ble_eq_true rfl) rfl hW hF hT ?_ ?_
        · intro _ s9 f10 hT h hW hF
          obtain ⟨rfl, hT⟩ := hT
          obtain ⟨hc, hz, hT⟩ := hT
          refine c_fputG dX11_function_44 f_TallySlate_Reader_100 hc (by decide) (by decide) hz (Or.inl rfl) rfl rfl hW hF ?_
          intro f11 ef11 h hW hF
          replace hT := hT f11 ef11
          refine x_aload_n dX11_function_47 rfl rfl rfl ?_
          obtain ⟨hc, hT⟩ := hT
          obtain ⟨a12, ev, hT⟩ := hT
          refine c_fgetG dX11_function_48 f_TallySlate_Reader_100 hc (by decide) (by decide) hW ev ?_
          refine x_aload_n dX11_function_51 rfl rfl rfl ?_
          obtain ⟨hc, hT⟩ := hT
          obtain ⟨a13, ev, hT⟩ := hT
          refine c_fgetG dX11_function_52 f_TallySlate_Reader_23 hc (by decide) (by decide) hW ev ?_
          obtain ⟨hc, hT⟩ := hT
          obtain ⟨cc, hcc⟩ := hW.ocell hc
          refine c_invV (vs := []) dX11_function_55 oX2_name q806 q805 hcc q807 (Or.inl rfl) rfl rfl (Nat.le_of_ble_eq_true rfl) rfl hW hF hT ?_ ?_
          · intro _ s14 f15 hT h hW hF
            obtain ⟨v16, rfl, hT⟩ := hT
            obtain ⟨hc, hz, hT⟩ := hT
            refine c_fputG dX11_function_58 f_TallySlate_Reader_62 hc (by decide) (by decide) hz (Or.inl rfl) rfl rfl hW hF ?_
            intro f17 ef17 h hW hF
            replace hT := hT f17 ef17
            refine x_aload_n dX11_function_61 rfl rfl rfl ?_
            obtain ⟨hc, hT⟩ := hT
            obtain ⟨a18, ev, hT⟩ := hT
            refine c_fgetG dX11_function_62 f_TallySlate_Reader_100 hc (by decide) (by decide) hW ev ?_
            refine x_aload_n dX11_function_65 rfl rfl rfl ?_
            obtain ⟨hc, hT⟩ := hT
            obtain ⟨a19, ev, hT⟩ := hT
            refine c_fgetG dX11_function_66 f_TallySlate_Reader_23 hc (by decide) (by decide) hW ev ?_
            obtain ⟨hc, hT⟩ := hT
            obtain ⟨v20, ev, hT⟩ := hT
            refine c_fgetG dX11_function_69 f_TallySlate_Reader_45 hc (by decide) (by decide) hW ev ?_
            obtain ⟨hc, hz, hT⟩ := hT
            refine c_fputG dX11_function_72 f_TallySlate_Reader_106 hc (by decide) (by decide) hz (Or.inl rfl) rfl rfl hW hF ?_
            intro f21 ef21 h hW hF
            replace hT := hT f21 ef21
            refine x_aload_n dX11_function_75 rfl rfl rfl ?_
            obtain ⟨hc, hT⟩ := hT
            obtain ⟨a22, ev, hT⟩ := hT
            refine c_fgetG dX11_function_76 f_TallySlate_Reader_100 hc (by decide) (by decide) hW ev ?_
            obtain ⟨hc, hT⟩ := hT
            obtain ⟨v23, ev, hT⟩ := hT
            refine c_fgetG dX11_function_79 f_TallySlate_Reader_62 hc (by decide) (by decide) hW ev ?_
            refine c_invS (vs := [.long v23]) dX11_function_82 oX11_isShelf q812 (Or.inl q811) rfl rfl (Nat.le_of_ble_eq_true rfl) rfl hW hF hT ?_ ?_
            · intro _ s24 f25 hT h hW hF
              obtain ⟨v26, rfl, hT⟩ := hT
              refine x_istore_n (lo' := [some (.ref x0), some (.int v26), none]) dX11_function_85 rfl (Nat.le_of_ble_eq_true rfl) rfl ?_
              refine x_iconst (v := 0) dX11_function_86 rfl ?_
              refine x_istore_n (lo' := [some (.ref x0), some (.int v26), some (.int 0)]) dX11_function_87 rfl (Nat.le_of_ble_eq_true rfl) rfl ?_
              exact hT f0 h hW hF
            · intro k s24 f25 hT h a hW hx hF
              exact c_out (rfl) hW hx hF hT
          · intro k s14 f15 hT h a hW hx hF
            exact c_out (rfl) hW hx hF hT
        · intro k s9 f10 hT h a hW hx hF
          exact c_out (rfl) hW hx hF hT
      · replace hT := hT.2 c
        refine x_aload_n dX11_function_20 rfl rfl rfl ?_
        obtain ⟨hc, hT⟩ := hT
        obtain ⟨a28, ev, hT⟩ := hT
        refine c_fgetG dX11_function_21 f_TallySlate_Reader_23 hc (by decide) (by decide) hW ev ?_
        refine x_iconst (v := 3) dX11_function_24 rfl ?_
        refine x_aload_n dX11_function_25 rfl rfl rfl ?_
        obtain ⟨hc, hT⟩ := hT
        obtain ⟨a29, ev, hT⟩ := hT
        refine c_fgetG dX11_function_26 f_TallySlate_Reader_23 hc (by decide) (by decide) hW ev ?_
        obtain ⟨hc, hT⟩ := hT
        obtain ⟨v30, ev, hT⟩ := hT
        refine c_fgetG dX11_function_29 f_TallySlate_Reader_45 hc (by decide) (by decide) hW ev ?_
        obtain ⟨hc, hT⟩ := hT
        obtain ⟨cc, hcc⟩ := hW.ocell hc
        refine c_invV (vs := [.int 3, .int v30]) dX11_function_32 oX2_wrong q564 q772 hcc q565 (Or.inl rfl) rfl rfl (Nat.le_of_ble_eq_true rfl) rfl hW hF hT ?_ ?_
        · intro _ s31 f32 hT h hW hF
          obtain ⟨rfl, hT⟩ := hT
          refine x_athrow dX11_function_35 ?_
          exact c_out (rfl) hW (Or.inr (Or.inl ⟨rfl, rfl⟩)) hF hT
        · intro k s31 f32 hT h a hW hx hF
          exact c_out (rfl) hW hx hF hT
    · intro k s4 f5 hT h a hW hx hF
      exact c_out (rfl) hW hx hF hT
  · intro k s2 f3 hT h a hW hx hF
    exact c_out (rfl) hW hx hF hT
theorem eX11_function {l : Launch} {E : EN} {w : CO} {d : Nat} {s : CS} {f : RH} {Q : KO → CS → RH → Prop} {x0 : Nat}  (hst : l.stackTraces = false) (hT : (oc f x0 11 ∧ (∃ a1 : Nat, vl f x0 147 = .ref a1 ∧ (oc f a1 2 ∧ EvC l E w d MX2_next [.ref a1] s f (fun o s2 f3 => KP o (fun r => r = none ∧ (oc f3 x0 11 ∧ EvC l E w d MX11_wantName [.ref x0] s2 f3 (fun o s4 f5 => KP o (fun r => r = none ∧ (oc f5 x0 11 ∧ (∃ v6 : Int32, vl f5 x0 149 = .int v6 ∧ ((¬ v6 = 12 → (rmF E f5 1 6 ∧ ∀ (a7 : Nat) (f8 : RH), a7 = f5.1 → f8 = fnew f5 12 → (EvC l E w d MX12_init [.ref a7] s4 f8 (fun o s9 f10 => KP o (fun r => r = none ∧ (oc f10 x0 11 ∧ f10.2.2.2 ≤ x0 ∧ ∀ f11 : RH, f11 = fset f10 x0 150 (.ref a7) → (oc f11 x0 11 ∧ (∃ a12 : Nat, vl f11 x0 150 = .ref a12 ∧ (oc f11 x0 11 ∧ (∃ a13 : Nat, vl f11 x0 147 = .ref a13 ∧ (oc f11 a13 2 ∧ EvC l E w d MX2_name [.ref a13] s9 f11 (fun o s14 f15 => KP o (fun r => ∃ v16 : Int64, r = some (.long v16) ∧ (oc f15 a12 12 ∧ f15.2.2.2 ≤ a12 ∧ ∀ f17 : RH, f17 = fset f15 a12 153 (.long v16) → (oc f17 x0 11 ∧ (∃ a18 : Nat, vl f17 x0 150 = .ref a18 ∧ (oc f17 x0 11 ∧ (∃ a19 : Nat, vl f17 x0 147 = .ref a19 ∧ (oc f17 a19 2 ∧ (∃ v20 : Int32, vl f17 a19 21 = .int v20 ∧ (oc f17 a18 12 ∧ f17.2.2.2 ≤ a18 ∧ ∀ f21 : RH, f21 = fset f17 a18 154 (.int v20) → (oc f21 x0 11 ∧ (∃ a22 : Nat, vl f21 x0 150 = .ref a22 ∧ (oc f21 a22 12 ∧ (∃ v23 : Int64, vl f21 a22 153 = .long v23 ∧ (EvC l E w d MX11_isShelf [.long v23] s14 f21 (fun o s24 f25 => KP o (fun r => ∃ v26 : Int32, r = some (.int v26) ∧ ExC l E w (d + 1) MX11_function 88 [some (.ref x0), some (.int v26), some (.int 0)] [] s24 f25 Q) (fun k => Q (.inr k) s24 f25)))))))))))))))) (fun k => Q (.inr k) s14 f15))))))))) (fun k => Q (.inr k) s9 f10))))) ∧ (v6 = 12 → (oc f5 x0 11 ∧ (∃ a28 : Nat, vl f5 x0 147 = .ref a28 ∧ (oc f5 x0 11 ∧ (∃ a29 : Nat, vl f5 x0 147 = .ref a29 ∧ (oc f5 a29 2 ∧ (∃ v30 : Int32, vl f5 a29 21 = .int v30 ∧ (oc f5 a28 2 ∧ EvC l E w d MX2_wrong [.ref a28, .int 3, .int v30] s4 f5 (fun o s31 f32 => KP o (fun r => r = some (.ref (w.1 1)) ∧ Q (.inr 1) s31 f32) (fun k => Q (.inr k) s31 f32)))))))))))))) (fun k => Q (.inr k) s4 f5)))) (fun k => Q (.inr k) s2 f3)))))) : EvC l E w (d + 1) MX11_function [.ref x0] s f Q :=
  EvC.of hst (by decide) (Nat.le_of_ble_eq_true rfl) (vX11_function_0  hT)
set_option maxHeartbeats 16000000 in
theorem vX11_function_88 {l : Launch} {E : EN} {w : CO} {d : Nat} {s : CS} {f : RH} {Q : KO → CS → RH → Prop} {b0 : Nat} {b1 : Int32} {b2 : Int32}  (hT : (oc f b0 11 ∧ (∃ v36 : Int32, vl f b0 149 = .int v36 ∧ ((v36 ≤ b2 → ((b1 = 0 → (oc f b0 11 ∧ (∃ a37 : Nat, vl f b0 148 = .ref a37 ∧ (oc f b0 11 ∧ (∃ v38 : Int32, vl f b0 149 = .int v38 ∧ (oc f b0 11 ∧ (∃ a39 : Nat, vl f b0 150 = .ref a39 ∧ (∃ k56 : Nat, (tg f a37 = some (.inr 7) ∧ tg f a39 = some (.inl k56) ∧ k56 ∈ CKs 7 ∧ inB v38 (ln f a37) ∧ f.2.2.2 ≤ a37 ∧ ∀ f40 : RH, f40 = fset f a37 v38.toNatClampNeg (.ref a39) → (oc f40 b0 11 ∧ (∃ v41 : Int32, vl f40 b0 149 = .int v41 ∧ (oc f40 b0 11 ∧ f40.2.2.2 ≤ b0 ∧ ∀ f42 : RH, f42 = fset f40 b0 149 (.int (v41 + 1)) → (oc f42 b0 11 ∧ (∃ a43 : Nat, vl f42 b0 147 = .ref a43 ∧ (oc f42 a43 2 ∧ EvC l E w d MX2_next [.ref a43] s f42 (fun o s44 f45 => KP o (fun r => r = none ∧ (oc f45 b0 11 ∧ (∃ a46 : Nat, vl f45 b0 147 = .ref a46 ∧ (oc f45 a46 2 ∧ EvC l E w d MX2_take [.ref a46, .int 40] s44 f45 (fun o s47 f48 => KP o (fun r => r = none ∧ (oc f48 b0 11 ∧ (∃ a49 : Nat, vl f48 b0 147 = .ref a49 ∧ (oc f48 a49 2 ∧ EvC l E w d MX2_is [.ref a49, .int 41] s47 f48 (fun o s50 f51 => KP o (fun r => ∃ v52 : Int32, r = some (.int v52) ∧ ((¬ v52 = 0 → ExC l E w (d + 1) MX11_function 209 [some (.ref b0), none, some (.int 0)] [] s50 f51 Q) ∧ (v52 = 0 → ExC l E w (d + 1) MX11_function 209 [some (.ref b0), none, some (.int 1)] [] s50 f51 Q))) (fun k => Q (.inr k) s50 f51)))))) (fun k => Q (.inr k) s47 f48)))))) (fun k => Q (.inr k) s44 f45))))))))))))))))) ∧ (¬ b1 = 0 → (oc f b0 11 ∧ (∃ a57 : Nat, vl f b0 147 = .ref a57 ∧ (oc f b0 11 ∧ (∃ a58 : Nat, vl f b0 147 = .ref a58 ∧ (oc f a58 2 ∧ (∃ v59 : Int32, vl f a58 21 = .int v59 ∧ (oc f a57 2 ∧ EvC l E w d MX2_wrong [.ref a57, .int 4, .int v59] s f (fun o s60 f61 => KP o (fun r => r = some (.ref (w.1 1)) ∧ Q (.inr 1) s60 f61) (fun k => Q (.inr k) s60 f61)))))))))))) ∧ (¬ v36 ≤ b2 → ((¬ b1 = 0 → ExC l E w (d + 1) MX11_function 88 [some (.ref b0), some (.int 1), some (.int (b2 + 1))] [] s f Q) ∧ (b1 = 0 → (oc f b0 11 ∧ (∃ a63 : Nat, vl f b0 148 = .ref a63 ∧ (∃ t64 : Nat, 4 ≤ t64 ∧ (tg f a63 = some (.inr t64) ∧ inB b2 (ln f a63) ∧ (∃ a65 : Nat, vl f a63 b2.toNatClampNeg = .ref a65 ∧ (oc f a65 12 ∧ (∃ v66 : Int64, vl f a65 153 = .long v66 ∧ (oc f b0 11 ∧ (∃ a67 : Nat, vl f b0 150 = .ref a67 ∧ (oc f a67 12 ∧ (∃ v68 : Int64, vl f a67 153 = .long v68 ∧ ((¬ (lg_cmp v66 v68) = 0 → ExC l E w (d + 1) MX11_function 88 [some (.ref b0), some (.int 0), some (.int (b2 + 1))] [] s f Q) ∧ ((lg_cmp v66 v68) = 0 → ExC l E w (d + 1) MX11_function 88 [some (.ref b0), some (.int 1), some (.int (b2 + 1))] [] s f Q)))))))))))))))))))) : ExC l E w (d + 1) MX11_function 88 [some (.ref b0), some (.int b1), some (.int b2)] [] s f Q := by
  intro f0 h hW hF
  refine x_iload_n dX11_function_88 rfl rfl ?_
  refine x_aload_n dX11_function_89 rfl rfl rfl ?_
  obtain ⟨hc, hT⟩ := hT
  obtain ⟨v36, ev, hT⟩ := hT
  refine c_fgetG dX11_function_90 f_TallySlate_Reader_59 hc (by decide) (by decide) hW ev ?_
  refine x_icmp_ge (tgt := 132) dX11_function_93 rfl (fun c => ?_) (fun c => ?_)
  · replace hT := hT.1 c
    refine x_iload_n dX11_function_132 rfl rfl ?_
    refine x_if_eq (tgt := 152) dX11_function_133 rfl (fun c => ?_) (fun c => ?_)
    · replace hT := hT.1 c
      refine x_aload_n dX11_function_152 rfl rfl rfl ?_
      obtain ⟨hc, hT⟩ := hT
      obtain ⟨a37, ev, hT⟩ := hT
      refine c_fgetG dX11_function_153 f_TallySlate_Reader_11 hc (by decide) (by decide) hW ev ?_
      refine x_aload_n dX11_function_156 rfl rfl rfl ?_
      obtain ⟨hc, hT⟩ := hT
      obtain ⟨v38, ev, hT⟩ := hT
      refine c_fgetG dX11_function_157 f_TallySlate_Reader_59 hc (by decide) (by decide) hW ev ?_
      refine x_aload_n dX11_function_160 rfl rfl rfl ?_
      obtain ⟨hc, hT⟩ := hT
      obtain ⟨a39, ev, hT⟩ := hT
      refine c_fgetG dX11_function_161 f_TallySlate_Reader_100 hc (by decide) (by decide) hW ev ?_
      obtain ⟨k56, hc, hv, hck, hT⟩ := hT
      obtain ⟨hb, hz, hT⟩ := hT
      refine c_faastG dX11_function_164 hc (by decide) hv hck hb hz hW hF ?_
      intro f40 ef40 h hW hF
      replace hT := hT f40 ef40
      refine x_aload_n dX11_function_165 rfl rfl rfl ?_
      refine x_dup dX11_function_166 rfl ?_
      obtain ⟨hc, hT⟩ := hT
      obtain ⟨v41, ev, hT⟩ := hT
      refine c_fgetG dX11_function_167 f_TallySlate_Reader_59 hc (by decide) (by decide) hW ev ?_
      refine x_iconst (v := 1) dX11_function_170 rfl ?_
      refine x_iadd dX11_function_171 ?_
      obtain ⟨hc, hz, hT⟩ := hT
      refine c_fputG dX11_function_172 f_TallySlate_Reader_59 hc (by decide) (by decide) hz (Or.inl rfl) rfl rfl hW hF ?_
      intro f42 ef42 h hW hF
      replace hT := hT f42 ef42
      refine x_aload_n dX11_function_175 rfl rfl rfl ?_
      obtain ⟨hc, hT⟩ := hT
      obtain ⟨a43, ev, hT⟩ := hT
      refine c_fgetG dX11_function_176 f_TallySlate_Reader_23 hc (by decide) (by decide) hW ev ?_
      obtain ⟨hc, hT⟩ := hT
      obtain ⟨cc, hcc⟩ := hW.ocell hc
      refine c_invV (vs := []) dX11_function_179 oX2_next q610 q609 hcc q611 (Or.inl rfl) rfl rfl (Nat.le_of_ble_eq_true rfl) rfl hW hF hT ?_ ?_
      · intro _ s44 f45 hT h hW hF
        obtain ⟨rfl, hT⟩ := hT
        refine x_aload_n dX11_function_182 rfl rfl rfl ?_
        obtain ⟨hc, hT⟩ := hT
        obtain ⟨a46, ev, hT⟩ := hT
        refine c_fgetG dX11_function_183 f_TallySlate_Reader_23 hc (by decide) (by decide) hW ev ?_
        refine x_bipush (v := 40) dX11_function_186 rfl ?_
        obtain ⟨hc, hT⟩ := hT
        obtain ⟨cc, hcc⟩ := hW.ocell hc
        refine c_invV (vs := [.int 40]) dX11_function_188 oX2_take q816 q815 hcc q817 (Or.inl rfl) rfl rfl (Nat.le_of_ble_eq_true rfl) rfl hW hF hT ?_ ?_
        · intro _ s47 f48 hT h hW hF
          obtain ⟨rfl, hT⟩ := hT
          refine x_aload_n dX11_function_191 rfl rfl rfl ?_
          obtain ⟨hc, hT⟩ := hT
          obtain ⟨a49, ev, hT⟩ := hT
          refine c_fgetG dX11_function_192 f_TallySlate_Reader_23 hc (by decide) (by decide) hW ev ?_
          refine x_bipush (v := 41) dX11_function_195 rfl ?_
          obtain ⟨hc, hT⟩ := hT
          obtain ⟨cc, hcc⟩ := hW.ocell hc
          refine c_invV (vs := [.int 41]) dX11_function_197 oX2_is q820 q824 hcc q821 (Or.inl rfl) rfl rfl (Nat.le_of_ble_eq_true rfl) rfl hW hF hT ?_ ?_
          · intro _ s50 f51 hT h hW hF
            obtain ⟨v52, rfl, hT⟩ := hT
            refine x_if_ne (tgt := 207) dX11_function_200 rfl (fun c => ?_) (fun c => ?_)
            · replace hT := hT.1 c
              refine x_iconst (v := 0) dX11_function_207 rfl ?_
              refine x_istore_n (lo' := [some (.ref b0), some (.int b1), some (.int 0)]) dX11_function_208 rfl (Nat.le_of_ble_eq_true rfl) rfl ?_
              refine Ex.wkl (lo' := [some (.ref b0), none, some (.int 0)]) ⟨rfl, rfl, trivial⟩ ?_
              exact hT f0 h hW hF
            · replace hT := hT.2 c
              refine x_iconst (v := 1) dX11_function_203 rfl ?_
              refine x_goto (tgt := 208) dX11_function_204 rfl ?_
              refine x_istore_n (lo' := [some (.ref b0), some (.int b1), some (.int 1)]) dX11_function_208 rfl (Nat.le_of_ble_eq_true rfl) rfl ?_
              refine Ex.wkl (lo' := [some (.ref b0), none, some (.int 1)]) ⟨rfl, rfl, trivial⟩ ?_
              exact hT f0 h hW hF
          · intro k s50 f51 hT h a hW hx hF
            exact c_out (rfl) hW hx hF hT
        · intro k s47 f48 hT h a hW hx hF
          exact c_out (rfl) hW hx hF hT
      · intro k s44 f45 hT h a hW hx hF
        exact c_out (rfl) hW hx hF hT
    · replace hT := hT.2 c
      refine x_aload_n dX11_function_136 rfl rfl rfl ?_
      obtain ⟨hc, hT⟩ := hT
      obtain ⟨a57, ev, hT⟩ := hT
      refine c_fgetG dX11_function_137 f_TallySlate_Reader_23 hc (by decide) (by decide) hW ev ?_
      refine x_iconst (v := 4) dX11_function_140 rfl ?_
      refine x_aload_n dX11_function_141 rfl rfl rfl ?_
      obtain ⟨hc, hT⟩ := hT
      obtain ⟨a58, ev, hT⟩ := hT
      refine c_fgetG dX11_function_142 f_TallySlate_Reader_23 hc (by decide) (by decide) hW ev ?_
      obtain ⟨hc, hT⟩ := hT
      obtain ⟨v59, ev, hT⟩ := hT
      refine c_fgetG dX11_function_145 f_TallySlate_Reader_45 hc (by decide) (by decide) hW ev ?_
      obtain ⟨hc, hT⟩ := hT
      obtain ⟨cc, hcc⟩ := hW.ocell hc
      refine c_invV (vs := [.int 4, .int v59]) dX11_function_148 oX2_wrong q564 q772 hcc q565 (Or.inl rfl) rfl rfl (Nat.le_of_ble_eq_true rfl) rfl hW hF hT ?_ ?_
      · intro _ s60 f61 hT h hW hF
        obtain ⟨rfl, hT⟩ := hT
        refine x_athrow dX11_function_151 ?_
        exact c_out (rfl) hW (Or.inr (Or.inl ⟨rfl, rfl⟩)) hF hT
      · intro k s60 f61 hT h a hW hx hF
        exact c_out (rfl) hW hx hF hT
  · replace hT := hT.2 c
    refine x_iload_n dX11_function_96 rfl rfl ?_
    refine x_if_ne (tgt := 120) dX11_function_97 rfl (fun c => ?_) (fun c => ?_)
    · replace hT := hT.1 c
      refine x_iconst (v := 1) dX11_function_120 rfl ?_
      refine x_goto (tgt := 125) dX11_function_121 rfl ?_
      refine x_istore_n (lo' := [some (.ref b0), some (.int 1), some (.int b2)]) dX11_function_125 rfl (Nat.le_of_ble_eq_true rfl) rfl ?_
      refine x_iinc (lo' := [some (.ref b0), some (.int 1), some (.int (b2 + 1))]) dX11_function_126 rfl (show _ = (b2 + 1) from rfl) rfl ?_
      refine x_goto (tgt := 88) dX11_function_129 rfl ?_
      exact hT f0 h hW hF
    · replace hT := hT.2 c
      refine x_aload_n dX11_function_100 rfl rfl rfl ?_
      obtain ⟨hc, hT⟩ := hT
      obtain ⟨a63, ev, hT⟩ := hT
      refine c_fgetG dX11_function_101 f_TallySlate_Reader_11 hc (by decide) (by decide) hW ev ?_
      refine x_iload_n dX11_function_104 rfl rfl ?_
      obtain ⟨t64, ht2, hc, hT⟩ := hT
      obtain ⟨hb, hT⟩ := hT
      obtain ⟨a65, ev, hT⟩ := hT
      refine c_faald dX11_function_105 hc ht2 hb hW ev ?_
      obtain ⟨hc, hT⟩ := hT
      obtain ⟨v66, ev, hT⟩ := hT
      refine c_fgetG dX11_function_106 f_TallySlate_Reader_62 hc (by decide) (by decide) hW ev ?_
      refine x_aload_n dX11_function_109 rfl rfl rfl ?_
      obtain ⟨hc, hT⟩ := hT
      obtain ⟨a67, ev, hT⟩ := hT
      refine c_fgetG dX11_function_110 f_TallySlate_Reader_100 hc (by decide) (by decide) hW ev ?_
      obtain ⟨hc, hT⟩ := hT
      obtain ⟨v68, ev, hT⟩ := hT
      refine c_fgetG dX11_function_113 f_TallySlate_Reader_62 hc (by decide) (by decide) hW ev ?_
      refine x_lcmp dX11_function_116 ?_
      refine x_if_ne (tgt := 124) dX11_function_117 rfl (fun c => ?_) (fun c => ?_)
      · replace hT := hT.1 c
        refine x_iconst (v := 0) dX11_function_124 rfl ?_
        refine x_istore_n (lo' := [some (.ref b0), some (.int 0), some (.int b2)]) dX11_function_125 rfl (Nat.le_of_ble_eq_true rfl) rfl ?_
        refine x_iinc (lo' := [some (.ref b0), some (.int 0), some (.int (b2 + 1))]) dX11_function_126 rfl (show _ = (b2 + 1) from rfl) rfl ?_
        refine x_goto (tgt := 88) dX11_function_129 rfl ?_
        exact hT f0 h hW hF
      · replace hT := hT.2 c
        refine x_iconst (v := 1) dX11_function_120 rfl ?_
        refine x_goto (tgt := 125) dX11_function_121 rfl ?_
        refine x_istore_n (lo' := [some (.ref b0), some (.int 1), some (.int b2)]) dX11_function_125 rfl (Nat.le_of_ble_eq_true rfl) rfl ?_
        refine x_iinc (lo' := [some (.ref b0), some (.int 1), some (.int (b2 + 1))]) dX11_function_126 rfl (show _ = (b2 + 1) from rfl) rfl ?_
        refine x_goto (tgt := 88) dX11_function_129 rfl ?_
        exact hT f0 h hW hF
set_option maxHeartbeats 16000000 in
theorem vX11_function_209 {l : Launch} {E : EN} {w : CO} {d : Nat} {s : CS} {f : RH} {Q : KO → CS → RH → Prop} {b0 : Nat} {b2 : Int32}  (hT : ((b2 = 0 → (oc f b0 11 ∧ (∃ a69 : Nat, vl f b0 147 = .ref a69 ∧ (oc f a69 2 ∧ EvC l E w d MX2_take [.ref a69, .int 41] s f (fun o s70 f71 => KP o (fun r => r = none ∧ (oc f71 b0 11 ∧ (∃ a72 : Nat, vl f71 b0 150 = .ref a72 ∧ (oc f71 b0 11 ∧ EvC l E w d MX11_block [.ref b0] s70 f71 (fun o s73 f74 => KP o (fun r => ∃ a75 : Nat, r = some (.ref a75) ∧ (oc f74 a72 12 ∧ f74.2.2.2 ≤ a72 ∧ ∀ f76 : RH, f76 = fset f74 a72 158 (.ref a75) → Q (.inl none) s73 f76)) (fun k => Q (.inr k) s73 f74)))))) (fun k => Q (.inr k) s70 f71)))))) ∧ (¬ b2 = 0 → (oc f b0 11 ∧ EvC l E w d MX11_parameter [.ref b0] s f (fun o s79 f80 => KP o (fun r => r = none ∧ (oc f80 b0 11 ∧ (∃ a81 : Nat, vl f80 b0 147 = .ref a81 ∧ (oc f80 a81 2 ∧ EvC l E w d MX2_is [.ref a81, .int 44] s79 f80 (fun o s82 f83 => KP o (fun r => ∃ v84 : Int32, r = some (.int v84) ∧ ((v84 = 0 → ExC l E w (d + 1) MX11_function 209 [some (.ref b0), none, some (.int v84)] [] s82 f83 Q) ∧ (¬ v84 = 0 → (oc f83 b0 11 ∧ (∃ a85 : Nat, vl f83 b0 147 = .ref a85 ∧ (oc f83 a85 2 ∧ EvC l E w d MX2_next [.ref a85] s82 f83 (fun o s86 f87 => KP o (fun r => r = none ∧ ExC l E w (d + 1) MX11_function 209 [some (.ref b0), none, some (.int v84)] [] s86 f87 Q) (fun k => Q (.inr k) s86 f87)))))))) (fun k => Q (.inr k) s82 f83)))))) (fun k => Q (.inr k) s79 f80)))))) : ExC l E w (d + 1) MX11_function 209 [some (.ref b0), none, some (.int b2)] [] s f Q := by
  intro f0 h hW hF
  refine x_iload_n dX11_function_209 rfl rfl ?_
  refine x_if_eq (tgt := 241) dX11_function_210 rfl (fun c => ?_) (fun c => ?_)
  · replace hT := hT.1 c
    refine x_aload_n dX11_function_241 rfl rfl rfl ?_
    obtain ⟨hc, hT⟩ := hT
    obtain ⟨a69, ev, hT⟩ := hT
    refine c_fgetG dX11_function_242 f_TallySlate_Reader_23 hc (by decide) (by decide) hW ev ?_
    refine x_bipush (v := 41) dX11_function_245 rfl ?_
    obtain ⟨hc, hT⟩ := hT
    obtain ⟨cc, hcc⟩ := hW.ocell hc
    refine c_invV (vs := [.int 41]) dX11_function_247 oX2_take q816 q815 hcc q817 (Or.inl rfl) rfl rfl (Nat.le_of_ble_eq_true rfl) rfl hW hF hT ?_ ?_
    · intro _ s70 f71 hT h hW hF
      obtain ⟨rfl, hT⟩ := hT
      refine x_aload_n dX11_function_250 rfl rfl rfl ?_
      obtain ⟨hc, hT⟩ := hT
      obtain ⟨a72, ev, hT⟩ := hT
      refine c_fgetG dX11_function_251 f_TallySlate_Reader_100 hc (by decide) (by decide) hW ev ?_
      refine x_aload_n dX11_function_254 rfl rfl rfl ?_
      obtain ⟨hc, hT⟩ := hT
      obtain ⟨cc, hcc⟩ := hW.ocell hc
      refine c_invV (vs := []) dX11_function_255 oX11_block q831 q829 hcc qs11 (Or.inl rfl) rfl rfl (Nat.le_of_ble_eq_true rfl) rfl hW hF hT ?_ ?_
      · intro _ s73 f74 hT h hW hF
        obtain ⟨a75, rfl, hT⟩ := hT
        obtain ⟨hc, hz, hT⟩ := hT
        refine c_fputG dX11_function_258 f_TallySlate_Reader_126 hc (by decide) (by decide) hz (Or.inl rfl) rfl rfl hW hF ?_
        intro f76 ef76 h hW hF
        replace hT := hT f76 ef76
        exact x_vret dX11_function_261 rfl ⟨_, _, hW, hF, Or.inl ⟨_, rfl, hT⟩⟩
      · intro k s73 f74 hT h a hW hx hF
        exact c_out (rfl) hW hx hF hT
    · intro k s70 f71 hT h a hW hx hF
      exact c_out (rfl) hW hx hF hT
  · replace hT := hT.2 c
    refine x_aload_n dX11_function_213 rfl rfl rfl ?_
    obtain ⟨hc, hT⟩ := hT
    obtain ⟨cc, hcc⟩ := hW.ocell hc
    refine c_invV (vs := []) dX11_function_214 oX11_parameter q827 q825 hcc qs10 (Or.inl rfl) rfl rfl (Nat.le_of_ble_eq_true rfl) rfl hW hF hT ?_ ?_
    · intro _ s79 f80 hT h hW hF
      obtain ⟨rfl, hT⟩ := hT
      refine x_aload_n dX11_function_217 rfl rfl rfl ?_
      obtain ⟨hc, hT⟩ := hT
      obtain ⟨a81, ev, hT⟩ := hT
      refine c_fgetG dX11_function_218 f_TallySlate_Reader_23 hc (by decide) (by decide) hW ev ?_
      refine x_bipush (v := 44) dX11_function_221 rfl ?_
      obtain ⟨hc, hT⟩ := hT
      obtain ⟨cc, hcc⟩ := hW.ocell hc
      refine c_invV (vs := [.int 44]) dX11_function_223 oX2_is q820 q824 hcc q821 (Or.inl rfl) rfl rfl (Nat.le_of_ble_eq_true rfl) rfl hW hF hT ?_ ?_
      · intro _ s82 f83 hT h hW hF
        obtain ⟨v84, rfl, hT⟩ := hT
        refine x_istore_n (lo' := [some (.ref b0), none, some (.int v84)]) dX11_function_226 rfl (Nat.le_of_ble_eq_true rfl) rfl ?_
        refine x_iload_n dX11_function_227 rfl rfl ?_
        refine x_if_eq (tgt := 209) dX11_function_228 rfl (fun c => ?_) (fun c => ?_)
        · replace hT := hT.1 c
          exact hT f0 h hW hF
        · replace hT := hT.2 c
          refine x_aload_n dX11_function_231 rfl rfl rfl ?_
          obtain ⟨hc, hT⟩ := hT
          obtain ⟨a85, ev, hT⟩ := hT
          refine c_fgetG dX11_function_232 f_TallySlate_Reader_23 hc (by decide) (by decide) hW ev ?_
          obtain ⟨hc, hT⟩ := hT
          obtain ⟨cc, hcc⟩ := hW.ocell hc
          refine c_invV (vs := []) dX11_function_235 oX2_next q610 q609 hcc q611 (Or.inl rfl) rfl rfl (Nat.le_of_ble_eq_true rfl) rfl hW hF hT ?_ ?_
          · intro _ s86 f87 hT h hW hF
            obtain ⟨rfl, hT⟩ := hT
            refine x_goto (tgt := 209) dX11_function_238 rfl ?_
            exact hT f0 h hW hF
          · intro k s86 f87 hT h a hW hx hF
            exact c_out (rfl) hW hx hF hT
      · intro k s82 f83 hT h a hW hx hF
        exact c_out (rfl) hW hx hF hT
    · intro k s79 f80 hT h a hW hx hF
      exact c_out (rfl) hW hx hF hT
set_option maxHeartbeats 16000000 in
theorem vX11_wantName_0 {l : Launch} {E : EN} {w : CO} {d : Nat} {s : CS} {f : RH} {Q : KO → CS → RH → Prop} {x0 : Nat}  (hT : (oc f x0 11 ∧ (∃ a1 : Nat, vl f x0 147 = .ref a1 ∧ (oc f a1 2 ∧ (∃ v2 : Int32, vl f a1 20 = .int v2 ∧ ((¬ v2 = 1 → (oc f x0 11 ∧ (∃ a3 : Nat, vl f x0 147 = .ref a3 ∧ (oc f x0 11 ∧ (∃ a4 : Nat, vl f x0 147 = .ref a4 ∧ (oc f a4 2 ∧ (∃ v5 : Int32, vl f a4 21 = .int v5 ∧ (oc f a3 2 ∧ EvC l E w d MX2_wrong [.ref a3, .int 2, .int v5] s f (fun o s6 f7 => KP o (fun r => r = some (.ref (w.1 1)) ∧ Q (.inr 1) s6 f7) (fun k => Q (.inr k) s6 f7)))))))))) ∧ (v2 = 1 → (oc f x0 11 ∧ EvC l E w d MX11_isReserved [.ref x0] s f (fun o s9 f10 => KP o (fun r => ∃ v11 : Int32, r = some (.int v11) ∧ ((v11 = 0 → Q (.inl none) s9 f10) ∧ (¬ v11 = 0 → (oc f10 x0 11 ∧ (∃ a12 : Nat, vl f10 x0 147 = .ref a12 ∧ (oc f10 x0 11 ∧ (∃ a13 : Nat, vl f10 x0 147 = .ref a13 ∧ (oc f10 a13 2 ∧ (∃ v14 : Int32, vl f10 a13 21 = .int v14 ∧ (oc f10 a12 2 ∧ EvC l E w d MX2_wrong [.ref a12, .int 2, .int v14] s9 f10 (fun o s15 f16 => KP o (fun r => r = some (.ref (w.1 1)) ∧ Q (.inr 1) s15 f16) (fun k => Q (.inr k) s15 f16)))))))))))) (fun k => Q (.inr k) s9 f10)))))))))) : ExC l E w (d + 1) MX11_wantName 0 [some (.ref x0)] [] s f Q := by
  intro f0 h hW hF
  refine x_aload_n dX11_wantName_0 rfl rfl rfl ?_
  obtain ⟨hc, hT⟩ := hT
  obtain ⟨a1, ev, hT⟩ := hT
  refine c_fgetG dX11_wantName_1 f_TallySlate_Reader_23 hc (by decide) (by decide) hW ev ?_
  obtain ⟨hc, hT⟩ := hT
  obtain ⟨v2, ev, hT⟩ := hT
  refine c_fgetG dX11_wantName_4 f_TallySlate_Reader_41 hc (by decide) (by decide) hW ev ?_
  refine x_iconst (v := 1) dX11_wantName_7 rfl ?_
  refine x_icmp_ne (tgt := 18) dX11_wantName_8 rfl (fun c => ?_) (fun c => ?_)
  · replace hT := hT.1 c
    refine x_aload_n dX11_wantName_18 rfl rfl rfl ?_
    obtain ⟨hc, hT⟩ := hT
    obtain ⟨a3, ev, hT⟩ := hT
    refine c_fgetG dX11_wantName_19 f_TallySlate_Reader_23 hc (by decide) (by decide) hW ev ?_
    refine x_iconst (v := 2) dX11_wantName_22 rfl ?_
    refine x_aload_n dX11_wantName_23 rfl rfl rfl ?_
    obtain ⟨hc, hT⟩ := hT
    obtain ⟨a4, ev, hT⟩ := hT
    refine c_fgetG dX11_wantName_24 f_TallySlate_Reader_23 hc (by decide) (by decide) hW ev ?_
    obtain ⟨hc, hT⟩ := hT
    obtain ⟨v5, ev, hT⟩ := hT
    refine c_fgetG dX11_wantName_27 f_TallySlate_Reader_45 hc (by decide) (by decide) hW ev ?_
    obtain ⟨hc, hT⟩ := hT
    obtain ⟨cc, hcc⟩ := hW.ocell hc
    refine c_invV (vs := [.int 2, .int v5]) dX11_wantName_30 oX2_wrong q564 q772 hcc q565 (Or.inl rfl) rfl rfl (Nat.le_of_ble_eq_true rfl) rfl hW hF hT ?_ ?_
    · intro _ s6 f7 hT h hW hF
      obtain ⟨rfl, hT⟩ := hT
      refine x_athrow dX11_wantName_33 ?_
      exact c_out (rfl) hW (Or.inr (Or.inl ⟨rfl, rfl⟩)) hF hT
    · intro k s6 f7 hT h a hW hx hF
      exact c_out (rfl) hW hx hF hT
  · replace hT := hT.2 c
    refine x_aload_n dX11_wantName_11 rfl rfl rfl ?_
    obtain ⟨hc, hT⟩ := hT
    obtain ⟨cc, hcc⟩ := hW.ocell hc
    refine c_invV (vs := []) dX11_wantName_12 oX11_isReserved q762 q760 hcc qs8 (Or.inl rfl) rfl rfl (Nat.le_of_ble_eq_true rfl) rfl hW hF hT ?_ ?_
    · intro _ s9 f10 hT h hW hF
      obtain ⟨v11, rfl, hT⟩ := hT
      refine x_if_eq (tgt := 34) dX11_wantName_15 rfl (fun c => ?_) (fun c => ?_)
      · replace hT := hT.1 c
        exact x_vret dX11_wantName_34 rfl ⟨_, _, hW, hF, Or.inl ⟨_, rfl, hT⟩⟩
      · replace hT := hT.2 c
        refine x_aload_n dX11_wantName_18 rfl rfl rfl ?_
        obtain ⟨hc, hT⟩ := hT
        obtain ⟨a12, ev, hT⟩ := hT
        refine c_fgetG dX11_wantName_19 f_TallySlate_Reader_23 hc (by decide) (by decide) hW ev ?_
        refine x_iconst (v := 2) dX11_wantName_22 rfl ?_
        refine x_aload_n dX11_wantName_23 rfl rfl rfl ?_
        obtain ⟨hc, hT⟩ := hT
        obtain ⟨a13, ev, hT⟩ := hT
        refine c_fgetG dX11_wantName_24 f_TallySlate_Reader_23 hc (by decide) (by decide) hW ev ?_
        obtain ⟨hc, hT⟩ := hT
        obtain ⟨v14, ev, hT⟩ := hT
        refine c_fgetG dX11_wantName_27 f_TallySlate_Reader_45 hc (by decide) (by decide) hW ev ?_
        obtain ⟨hc, hT⟩ := hT
        obtain ⟨cc, hcc⟩ := hW.ocell hc
        refine c_invV (vs := [.int 2, .int v14]) dX11_wantName_30 oX2_wrong q564 q772 hcc q565 (Or.inl rfl) rfl rfl (Nat.le_of_ble_eq_true rfl) rfl hW hF hT ?_ ?_
        · intro _ s15 f16 hT h hW hF
          obtain ⟨rfl, hT⟩ := hT
          refine x_athrow dX11_wantName_33 ?_
          exact c_out (rfl) hW (Or.inr (Or.inl ⟨rfl, rfl⟩)) hF hT
        · intro k s15 f16 hT h a hW hx hF
          exact c_out (rfl) hW hx hF hT
    · intro k s9 f10 hT h a hW hx hF
      exact c_out (rfl) hW hx hF hT
theorem eX11_wantName {l : Launch} {E : EN} {w : CO} {d : Nat} {s : CS} {f : RH} {Q : KO → CS → RH → Prop} {x0 : Nat}  (hst : l.stackTraces = false) (hT : (oc f x0 11 ∧ (∃ a1 : Nat, vl f x0 147 = .ref a1 ∧ (oc f a1 2 ∧ (∃ v2 : Int32, vl f a1 20 = .int v2 ∧ ((¬ v2 = 1 → (oc f x0 11 ∧ (∃ a3 : Nat, vl f x0 147 = .ref a3 ∧ (oc f x0 11 ∧ (∃ a4 : Nat, vl f x0 147 = .ref a4 ∧ (oc f a4 2 ∧ (∃ v5 : Int32, vl f a4 21 = .int v5 ∧ (oc f a3 2 ∧ EvC l E w d MX2_wrong [.ref a3, .int 2, .int v5] s f (fun o s6 f7 => KP o (fun r => r = some (.ref (w.1 1)) ∧ Q (.inr 1) s6 f7) (fun k => Q (.inr k) s6 f7)))))))))) ∧ (v2 = 1 → (oc f x0 11 ∧ EvC l E w d MX11_isReserved [.ref x0] s f (fun o s9 f10 => KP o (fun r => ∃ v11 : Int32, r = some (.int v11) ∧ ((v11 = 0 → Q (.inl none) s9 f10) ∧ (¬ v11 = 0 → (oc f10 x0 11 ∧ (∃ a12 : Nat, vl f10 x0 147 = .ref a12 ∧ (oc f10 x0 11 ∧ (∃ a13 : Nat, vl f10 x0 147 = .ref a13 ∧ (oc f10 a13 2 ∧ (∃ v14 : Int32, vl f10 a13 21 = .int v14 ∧ (oc f10 a12 2 ∧ EvC l E w d MX2_wrong [.ref a12, .int 2, .int v14] s9 f10 (fun o s15 f16 => KP o (fun r => r = some (.ref (w.1 1)) ∧ Q (.inr 1) s15 f16) (fun k => Q (.inr k) s15 f16)))))))))))) (fun k => Q (.inr k) s9 f10)))))))))) : EvC l E w (d + 1) MX11_wantName [.ref x0] s f Q :=
  EvC.of hst (by decide) (Nat.le_of_ble_eq_true rfl) (vX11_wantName_0  hT)
theorem vX11_isReserved_0 {l : Launch} {E : EN} {w : CO} {d : Nat} {s : CS} {f : RH} {Q : KO → CS → RH → Prop} {x0 : Nat}  (hT : ExC l E w (d + 1) MX11_isReserved 4 [some (.ref x0), some (.int 0), some (.int 0)] [] s f Q) : ExC l E w (d + 1) MX11_isReserved 0 [some (.ref x0), none, none] [] s f Q := by
  intro f0 h hW hF
  refine x_iconst (v := 0) dX11_isReserved_0 rfl ?_
  refine x_istore_n (lo' := [some (.ref x0), some (.int 0), none]) dX11_isReserved_1 rfl (Nat.le_of_ble_eq_true rfl) rfl ?_
  refine x_iconst (v := 0) dX11_isReserved_2 rfl ?_
  refine x_istore_n (lo' := [some (.ref x0), some (.int 0), some (.int 0)]) dX11_isReserved_3 rfl (Nat.le_of_ble_eq_true rfl) rfl ?_
  exact hT f0 h hW hF
theorem eX11_isReserved {l : Launch} {E : EN} {w : CO} {d : Nat} {s : CS} {f : RH} {Q : KO → CS → RH → Prop} {x0 : Nat}  (hst : l.stackTraces = false) (hT : ExC l E w (d + 1) MX11_isReserved 4 [some (.ref x0), some (.int 0), some (.int 0)] [] s f Q) : EvC l E w (d + 1) MX11_isReserved [.ref x0] s f Q :=
  EvC.of hst (by decide) (Nat.le_of_ble_eq_true rfl) (vX11_isReserved_0  hT)
set_option maxHeartbeats 16000000 in
theorem vX11_isReserved_4 {l : Launch} {E : EN} {w : CO} {d : Nat} {s : CS} {f : RH} {Q : KO → CS → RH → Prop} {b0 : Nat} {b1 : Int32} {b2 : Int32}  (hT : (∃ a1 : Nat, eSV E 2 = .ref a1 ∧ (∃ t2 : Nat, tg f a1 = some (.inr t2) ∧ (((nI (ln f a1)) ≤ b2 → ((¬ b1 = 0 → Q (.inl (some (.int 1))) s f) ∧ (b1 = 0 → (oc f b0 11 ∧ EvC l E w d MX11_builtIn [.ref b0] s f (fun o s3 f4 => KP o (fun r => ∃ v5 : Int32, r = some (.int v5) ∧ ((v5 < 0 → Q (.inl (some (.int 0))) s3 f4) ∧ (¬ v5 < 0 → Q (.inl (some (.int 1))) s3 f4))) (fun k => Q (.inr k) s3 f4)))))) ∧ (¬ (nI (ln f a1)) ≤ b2 → ((¬ b1 = 0 → ExC l E w (d + 1) MX11_isReserved 4 [some (.ref b0), some (.int 1), some (.int (b2 + 1))] [] s f Q) ∧ (b1 = 0 → (oc f b0 11 ∧ (∃ a7 : Nat, vl f b0 147 = .ref a7 ∧ (∃ a8 : Nat, eSV E 2 = .ref a8 ∧ (∃ t9 : Nat, 4 ≤ t9 ∧ (tg f a8 = some (.inr t9) ∧ inB b2 (ln f a8) ∧ (∃ a10 : Nat, vl f a8 b2.toNatClampNeg = .ref a10 ∧ (oc f a7 2 ∧ EvC l E w d MX2_isWord [.ref a7, .ref a10] s f (fun o s11 f12 => KP o (fun r => ∃ v13 : Int32, r = some (.int v13) ∧ ((v13 = 0 → ExC l E w (d + 1) MX11_isReserved 4 [some (.ref b0), some (.int 0), some (.int (b2 + 1))] [] s11 f12 Q) ∧ (¬ v13 = 0 → ExC l E w (d + 1) MX11_isReserved 4 [some (.ref b0), some (.int 1), some (.int (b2 + 1))] [] s11 f12 Q))) (fun k => Q (.inr k) s11 f12)))))))))))))))) : ExC l E w (d + 1) MX11_isReserved 4 [some (.ref b0), some (.int b1), some (.int b2)] [] s f Q := by
  intro f0 h hW hF
  refine x_iload_n dX11_isReserved_4 rfl rfl ?_
  obtain ⟨a1, es, hT⟩ := hT
  refine x_getstatic (i := 2) (ref := "") dX11_isReserved_5 rfl (Or.inr ⟨_, q764⟩) ?_
  rw [es]
  obtain ⟨t2, hc, hT⟩ := hT
  refine c_alen dX11_isReserved_8 hc hW ?_
  refine x_icmp_ge (tgt := 43) dX11_isReserved_9 rfl (fun c => ?_) (fun c => ?_)
  · replace hT := hT.1 c
    refine x_iload_n dX11_isReserved_43 rfl rfl ?_
    refine x_if_ne (tgt := 54) dX11_isReserved_44 rfl (fun c => ?_) (fun c => ?_)
    · replace hT := hT.1 c
      refine x_iconst (v := 1) dX11_isReserved_54 rfl ?_
      refine x_goto (tgt := 59) dX11_isReserved_55 rfl ?_
      exact x_iret dX11_isReserved_59 rfl rfl ⟨_, _, hW, hF, Or.inl ⟨_, rfl, hT⟩⟩
    · replace hT := hT.2 c
      refine x_aload_n dX11_isReserved_47 rfl rfl rfl ?_
      obtain ⟨hc, hT⟩ := hT
      obtain ⟨cc, hcc⟩ := hW.ocell hc
      refine c_invV (vs := []) dX11_isReserved_48 oX11_builtIn q768 q766 hcc qs9 (Or.inl rfl) rfl rfl (Nat.le_of_ble_eq_true rfl) rfl hW hF hT ?_ ?_
      · intro _ s3 f4 hT h hW hF
        obtain ⟨v5, rfl, hT⟩ := hT
        refine x_if_lt (tgt := 58) dX11_isReserved_51 rfl (fun c => ?_) (fun c => ?_)
        · replace hT := hT.1 c
          refine x_iconst (v := 0) dX11_isReserved_58 rfl ?_
          exact x_iret dX11_isReserved_59 rfl rfl ⟨_, _, hW, hF, Or.inl ⟨_, rfl, hT⟩⟩
        · replace hT := hT.2 c
          refine x_iconst (v := 1) dX11_isReserved_54 rfl ?_
          refine x_goto (tgt := 59) dX11_isReserved_55 rfl ?_
          exact x_iret dX11_isReserved_59 rfl rfl ⟨_, _, hW, hF, Or.inl ⟨_, rfl, hT⟩⟩
      · intro k s3 f4 hT h a hW hx hF
        exact c_out (rfl) hW hx hF hT
  · replace hT := hT.2 c
    refine x_iload_n dX11_isReserved_12 rfl rfl ?_
    refine x_if_ne (tgt := 31) dX11_isReserved_13 rfl (fun c => ?_) (fun c => ?_)
    · replace hT := hT.1 c
      refine x_iconst (v := 1) dX11_isReserved_31 rfl ?_
      refine x_goto (tgt := 36) dX11_isReserved_32 rfl ?_
      refine x_istore_n (lo' := [some (.ref b0), some (.int 1), some (.int b2)]) dX11_isReserved_36 rfl (Nat.le_of_ble_eq_true rfl) rfl ?_
      refine x_iinc (lo' := [some (.ref b0), some (.int 1), some (.int (b2 + 1))]) dX11_isReserved_37 rfl (show _ = (b2 + 1) from rfl) rfl ?_
      refine x_goto (tgt := 4) dX11_isReserved_40 rfl ?_
      exact hT f0 h hW hF
    · replace hT := hT.2 c
      refine x_aload_n dX11_isReserved_16 rfl rfl rfl ?_
      obtain ⟨hc, hT⟩ := hT
      obtain ⟨a7, ev, hT⟩ := hT
      refine c_fgetG dX11_isReserved_17 f_TallySlate_Reader_23 hc (by decide) (by decide) hW ev ?_
      obtain ⟨a8, es, hT⟩ := hT
      refine x_getstatic (i := 2) (ref := "") dX11_isReserved_20 rfl (Or.inr ⟨_, q764⟩) ?_
      rw [es]
      refine x_iload_n dX11_isReserved_23 rfl rfl ?_
      obtain ⟨t9, ht2, hc, hT⟩ := hT
      obtain ⟨hb, hT⟩ := hT
      obtain ⟨a10, ev, hT⟩ := hT
      refine c_faald dX11_isReserved_24 hc ht2 hb hW ev ?_
      obtain ⟨hc, hT⟩ := hT
      obtain ⟨cc, hcc⟩ := hW.ocell hc
      refine c_invV (vs := [.ref a10]) dX11_isReserved_25 oX2_isWord q728 q727 hcc q729 (Or.inl rfl) rfl rfl (Nat.le_of_ble_eq_true rfl) rfl hW hF hT ?_ ?_
      · intro _ s11 f12 hT h hW hF
        obtain ⟨v13, rfl, hT⟩ := hT
        refine x_if_eq (tgt := 35) dX11_isReserved_28 rfl (fun c => ?_) (fun c => ?_)
        · replace hT := hT.1 c
          refine x_iconst (v := 0) dX11_isReserved_35 rfl ?_
          refine x_istore_n (lo' := [some (.ref b0), some (.int 0), some (.int b2)]) dX11_isReserved_36 rfl (Nat.le_of_ble_eq_true rfl) rfl ?_
          refine x_iinc (lo' := [some (.ref b0), some (.int 0), some (.int (b2 + 1))]) dX11_isReserved_37 rfl (show _ = (b2 + 1) from rfl) rfl ?_
          refine x_goto (tgt := 4) dX11_isReserved_40 rfl ?_
          exact hT f0 h hW hF
        · replace hT := hT.2 c
          refine x_iconst (v := 1) dX11_isReserved_31 rfl ?_
          refine x_goto (tgt := 36) dX11_isReserved_32 rfl ?_
          refine x_istore_n (lo' := [some (.ref b0), some (.int 1), some (.int b2)]) dX11_isReserved_36 rfl (Nat.le_of_ble_eq_true rfl) rfl ?_
          refine x_iinc (lo' := [some (.ref b0), some (.int 1), some (.int (b2 + 1))]) dX11_isReserved_37 rfl (show _ = (b2 + 1) from rfl) rfl ?_
          refine x_goto (tgt := 4) dX11_isReserved_40 rfl ?_
          exact hT f0 h hW hF
      · intro k s11 f12 hT h a hW hx hF
        exact c_out (rfl) hW hx hF hT
theorem vX11_builtIn_0 {l : Launch} {E : EN} {w : CO} {d : Nat} {s : CS} {f : RH} {Q : KO → CS → RH → Prop} {x0 : Nat}  (hT : ExC l E w (d + 1) MX11_builtIn 4 [some (.ref x0), some (.int (-1)), some (.int 0)] [] s f Q) : ExC l E w (d + 1) MX11_builtIn 0 [some (.ref x0), none, none] [] s f Q := by
  intro f0 h hW hF
  refine x_iconst (v := (-1)) dX11_builtIn_0 rfl ?_
  refine x_istore_n (lo' := [some (.ref x0), some (.int (-1)), none]) dX11_builtIn_1 rfl (Nat.le_of_ble_eq_true rfl) rfl ?_
  refine x_iconst (v := 0) dX11_builtIn_2 rfl ?_
  refine x_istore_n (lo' := [some (.ref x0), some (.int (-1)), some (.int 0)]) dX11_builtIn_3 rfl (Nat.le_of_ble_eq_true rfl) rfl ?_
  exact hT f0 h hW hF
theorem eX11_builtIn {l : Launch} {E : EN} {w : CO} {d : Nat} {s : CS} {f : RH} {Q : KO → CS → RH → Prop} {x0 : Nat}  (hst : l.stackTraces = false) (hT : ExC l E w (d + 1) MX11_builtIn 4 [some (.ref x0), some (.int (-1)), some (.int 0)] [] s f Q) : EvC l E w (d + 1) MX11_builtIn [.ref x0] s f Q :=
  EvC.of hst (by decide) (Nat.le_of_ble_eq_true rfl) (vX11_builtIn_0  hT)
theorem vX11_builtIn_4 {l : Launch} {E : EN} {w : CO} {d : Nat} {s : CS} {f : RH} {Q : KO → CS → RH → Prop} {b0 : Nat} {b1 : Int32} {b2 : Int32}  (hT : (∃ a1 : Nat, eSV E 0 = .ref a1 ∧ (∃ t2 : Nat, tg f a1 = some (.inr t2) ∧ (((nI (ln f a1)) ≤ b2 → Q (.inl (some (.int b1))) s f) ∧ (¬ (nI (ln f a1)) ≤ b2 → (oc f b0 11 ∧ (∃ a3 : Nat, vl f b0 147 = .ref a3 ∧ (∃ a4 : Nat, eSV E 0 = .ref a4 ∧ (∃ t5 : Nat, 4 ≤ t5 ∧ (tg f a4 = some (.inr t5) ∧ inB b2 (ln f a4) ∧ (∃ a6 : Nat, vl f a4 b2.toNatClampNeg = .ref a6 ∧ (oc f a3 2 ∧ EvC l E w d MX2_isWord [.ref a3, .ref a6] s f (fun o s7 f8 => KP o (fun r => ∃ v9 : Int32, r = some (.int v9) ∧ ((v9 = 0 → ExC l E w (d + 1) MX11_builtIn 4 [some (.ref b0), some (.int b1), some (.int (b2 + 1))] [] s7 f8 Q) ∧ (¬ v9 = 0 → ExC l E w (d + 1) MX11_builtIn 4 [some (.ref b0), some (.int b2), some (.int (b2 + 1))] [] s7 f8 Q))) (fun k => Q (.inr k) s7 f8)))))))))))))) : ExC l E w (d + 1) MX11_builtIn 4 [some (.ref b0), some (.int b1), some (.int b2)] [] s f Q := by
  intro f0 h hW hF
  refine x_iload_n dX11_builtIn_4 rfl rfl ?_
  obtain ⟨a1, es, hT⟩ := hT
  refine x_getstatic (i := 0) (ref := "") dX11_builtIn_5 rfl (Or.inr ⟨_, q770⟩) ?_
  rw [es]
  obtain ⟨t2, hc, hT⟩ := hT
  refine c_alen dX11_builtIn_8 hc hW ?_
  refine x_icmp_ge (tgt := 39) dX11_builtIn_9 rfl (fun c => ?_) (fun c => ?_)
  · replace hT := hT.1 c
    refine x_iload_n dX11_builtIn_39 rfl rfl ?_
    exact x_iret dX11_builtIn_40 rfl rfl ⟨_, _, hW, hF, Or.inl ⟨_, rfl, hT⟩⟩
  · replace hT := hT.2 c
    refine x_aload_n dX11_builtIn_12 rfl rfl rfl ?_
    obtain ⟨hc, hT⟩ := hT
    obtain ⟨a3, ev, hT⟩ := hT
    refine c_fgetG dX11_builtIn_13 f_TallySlate_Reader_23 hc (by decide) (by decide) hW ev ?_
    obtain ⟨a4, es, hT⟩ := hT
    refine x_getstatic (i := 0) (ref := "") dX11_builtIn_16 rfl (Or.inr ⟨_, q770⟩) ?_
    rw [es]
    refine x_iload_n dX11_builtIn_19 rfl rfl ?_
    obtain ⟨t5, ht2, hc, hT⟩ := hT
    obtain ⟨hb, hT⟩ := hT
    obtain ⟨a6, ev, hT⟩ := hT
    refine c_faald dX11_builtIn_20 hc ht2 hb hW ev ?_
    obtain ⟨hc, hT⟩ := hT
    obtain ⟨cc, hcc⟩ := hW.ocell hc
    refine c_invV (vs := [.ref a6]) dX11_builtIn_21 oX2_isWord q728 q727 hcc q729 (Or.inl rfl) rfl rfl (Nat.le_of_ble_eq_true rfl) rfl hW hF hT ?_ ?_
    · intro _ s7 f8 hT h hW hF
      obtain ⟨v9, rfl, hT⟩ := hT
      refine x_if_eq (tgt := 31) dX11_builtIn_24 rfl (fun c => ?_) (fun c => ?_)
      · replace hT := hT.1 c
        refine x_iload_n dX11_builtIn_31 rfl rfl ?_
        refine x_istore_n (lo' := [some (.ref b0), some (.int b1), some (.int b2)]) dX11_builtIn_32 rfl (Nat.le_of_ble_eq_true rfl) rfl ?_
        refine x_iinc (lo' := [some (.ref b0), some (.int b1), some (.int (b2 + 1))]) dX11_builtIn_33 rfl (show _ = (b2 + 1) from rfl) rfl ?_
        refine x_goto (tgt := 4) dX11_builtIn_36 rfl ?_
        exact hT f0 h hW hF
      · replace hT := hT.2 c
        refine x_iload_n dX11_builtIn_27 rfl rfl ?_
        refine x_goto (tgt := 32) dX11_builtIn_28 rfl ?_
        refine x_istore_n (lo' := [some (.ref b0), some (.int b2), some (.int b2)]) dX11_builtIn_32 rfl (Nat.le_of_ble_eq_true rfl) rfl ?_
        refine x_iinc (lo' := [some (.ref b0), some (.int b2), some (.int (b2 + 1))]) dX11_builtIn_33 rfl (show _ = (b2 + 1) from rfl) rfl ?_
        refine x_goto (tgt := 4) dX11_builtIn_36 rfl ?_
        exact hT f0 h hW hF
    · intro k s7 f8 hT h a hW hx hF
      exact c_out (rfl) hW hx hF hT
theorem vX11_isShelf_0 {l : Launch} {E : EN} {w : CO} {d : Nat} {s : CS} {f : RH} {Q : KO → CS → RH → Prop} {x1 : Int64}  (hT : (((lg_cmp x1 1) < 0 → Q (.inl (some (.int 0))) s f) ∧ (¬ (lg_cmp x1 1) < 0 → ((0 < (lg_cmp x1 8) → Q (.inl (some (.int 0))) s f) ∧ (¬ 0 < (lg_cmp x1 8) → Q (.inl (some (.int 1))) s f))))) : ExC l E w d MX11_isShelf 0 [some (.long x1), none] [] s f Q := by
  intro f0 h hW hF
  refine x_lload_n dX11_isShelf_0 rfl rfl ?_
  refine x_lconst (v := 1) dX11_isShelf_1 rfl ?_
  refine x_lcmp dX11_isShelf_2 ?_
  refine x_if_lt (tgt := 18) dX11_isShelf_3 rfl (fun c => ?_) (fun c => ?_)
  · replace hT := hT.1 c
    refine x_iconst (v := 0) dX11_isShelf_18 rfl ?_
    exact x_iret dX11_isShelf_19 rfl rfl ⟨_, _, hW, hF, Or.inl ⟨_, rfl, hT⟩⟩
  · replace hT := hT.2 c
    refine x_lload_n dX11_isShelf_6 rfl rfl ?_
    refine x_ldc2 dX11_isShelf_7 q814 ?_
    refine x_lcmp dX11_isShelf_10 ?_
    refine x_if_gt (tgt := 18) dX11_isShelf_11 rfl (fun c => ?_) (fun c => ?_)
    · replace hT := hT.1 c
      refine x_iconst (v := 0) dX11_isShelf_18 rfl ?_
      exact x_iret dX11_isShelf_19 rfl rfl ⟨_, _, hW, hF, Or.inl ⟨_, rfl, hT⟩⟩
    · replace hT := hT.2 c
      refine x_iconst (v := 1) dX11_isShelf_14 rfl ?_
      refine x_goto (tgt := 19) dX11_isShelf_15 rfl ?_
      exact x_iret dX11_isShelf_19 rfl rfl ⟨_, _, hW, hF, Or.inl ⟨_, rfl, hT⟩⟩
theorem eX11_isShelf {l : Launch} {E : EN} {w : CO} {d : Nat} {s : CS} {f : RH} {Q : KO → CS → RH → Prop} {x1 : Int64}  (hst : l.stackTraces = false) (hT : (((lg_cmp x1 1) < 0 → Q (.inl (some (.int 0))) s f) ∧ (¬ (lg_cmp x1 1) < 0 → ((0 < (lg_cmp x1 8) → Q (.inl (some (.int 0))) s f) ∧ (¬ 0 < (lg_cmp x1 8) → Q (.inl (some (.int 1))) s f))))) : EvC l E w d MX11_isShelf [.long x1] s f Q :=
  EvC.of hst (by decide) (Nat.le_of_ble_eq_true rfl) (vX11_isShelf_0  hT)
theorem vX11_parameter_0 {l : Launch} {E : EN} {w : CO} {d : Nat} {s : CS} {f : RH} {Q : KO → CS → RH → Prop} {x0 : Nat}  (hT : (oc f x0 11 ∧ EvC l E w d MX11_wantName [.ref x0] s f (fun o s1 f2 => KP o (fun r => r = none ∧ (oc f2 x0 11 ∧ (∃ a3 : Nat, vl f2 x0 150 = .ref a3 ∧ (oc f2 a3 12 ∧ (∃ v4 : Int32, vl f2 a3 155 = .int v4 ∧ ((¬ v4 = 4 → (oc f2 x0 11 ∧ (∃ a5 : Nat, vl f2 x0 147 = .ref a5 ∧ (oc f2 a5 2 ∧ EvC l E w d MX2_name [.ref a5] s1 f2 (fun o s6 f7 => KP o (fun r => ∃ v8 : Int64, r = some (.long v8) ∧ (EvC l E w d MX11_isShelf [.long v8] s6 f7 (fun o s9 f10 => KP o (fun r => ∃ v11 : Int32, r = some (.int v11) ∧ ExC l E w (d + 1) MX11_parameter 44 [some (.ref x0), some (.int v11), some (.int 0)] [] s9 f10 Q) (fun k => Q (.inr k) s9 f10)))) (fun k => Q (.inr k) s6 f7)))))) ∧ (v4 = 4 → (oc f2 x0 11 ∧ (∃ a13 : Nat, vl f2 x0 147 = .ref a13 ∧ (oc f2 x0 11 ∧ (∃ a14 : Nat, vl f2 x0 147 = .ref a14 ∧ (oc f2 a14 2 ∧ (∃ v15 : Int32, vl f2 a14 21 = .int v15 ∧ (oc f2 a13 2 ∧ EvC l E w d MX2_wrong [.ref a13, .int 3, .int v15] s1 f2 (fun o s16 f17 => KP o (fun r => r = some (.ref (w.1 1)) ∧ Q (.inr 1) s16 f17) (fun k => Q (.inr k) s16 f17)))))))))))))))) (fun k => Q (.inr k) s1 f2)))) : ExC l E w (d + 1) MX11_parameter 0 [some (.ref x0), none, none] [] s f Q := by
  intro f0 h hW hF
  refine x_aload_n dX11_parameter_0 rfl rfl rfl ?_
  obtain ⟨hc, hT⟩ := hT
  obtain ⟨cc, hcc⟩ := hW.ocell hc
  refine c_invV (vs := []) dX11_parameter_1 oX11_wantName q758 q756 hcc qs7 (Or.inl rfl) rfl rfl (Nat.le_of_ble_eq_true rfl) rfl hW hF hT ?_ ?_
  · intro _ s1 f2 hT h hW hF
    obtain ⟨rfl, hT⟩ := hT
    refine x_aload_n dX11_parameter_4 rfl rfl rfl ?_
    obtain ⟨hc, hT⟩ := hT
    obtain ⟨a3, ev, hT⟩ := hT
    refine c_fgetG dX11_parameter_5 f_TallySlate_Reader_100 hc (by decide) (by decide) hW ev ?_
    obtain ⟨hc, hT⟩ := hT
    obtain ⟨v4, ev, hT⟩ := hT
    refine c_fgetG dX11_parameter_8 f_TallySlate_Reader_70 hc (by decide) (by decide) hW ev ?_
    refine x_iconst (v := 4) dX11_parameter_11 rfl ?_
    refine x_icmp_ne (tgt := 31) dX11_parameter_12 rfl (fun c => ?_) (fun c => ?_)
    · replace hT := hT.1 c
      refine x_aload_n dX11_parameter_31 rfl rfl rfl ?_
      obtain ⟨hc, hT⟩ := hT
      obtain ⟨a5, ev, hT⟩ := hT
      refine c_fgetG dX11_parameter_32 f_TallySlate_Reader_23 hc (by decide) (by decide) hW ev ?_
      obtain ⟨hc, hT⟩ := hT
      obtain ⟨cc, hcc⟩ := hW.ocell hc
      refine c_invV (vs := []) dX11_parameter_35 oX2_name q806 q805 hcc q807 (Or.inl rfl) rfl rfl (Nat.le_of_ble_eq_true rfl) rfl hW hF hT ?_ ?_
      · intro _ s6 f7 hT h hW hF
        obtain ⟨v8, rfl, hT⟩ := hT
        refine c_invS (vs := [.long v8]) dX11_parameter_38 oX11_isShelf q812 (Or.inl q811) rfl rfl (Nat.le_of_ble_eq_true rfl) rfl hW hF hT ?_ ?_
        · intro _ s9 f10 hT h hW hF
          obtain ⟨v11, rfl, hT⟩ := hT
          refine x_istore_n (lo' := [some (.ref x0), some (.int v11), none]) dX11_parameter_41 rfl (Nat.le_of_ble_eq_true rfl) rfl ?_
          refine x_iconst (v := 0) dX11_parameter_42 rfl ?_
          refine x_istore_n (lo' := [some (.ref x0), some (.int v11), some (.int 0)]) dX11_parameter_43 rfl (Nat.le_of_ble_eq_true rfl) rfl ?_
          exact hT f0 h hW hF
        · intro k s9 f10 hT h a hW hx hF
          exact c_out (rfl) hW hx hF hT
      · intro k s6 f7 hT h a hW hx hF
        exact c_out (rfl) hW hx hF hT
    · replace hT := hT.2 c
      refine x_aload_n dX11_parameter_15 rfl rfl rfl ?_
      obtain ⟨hc, hT⟩ := hT
      obtain ⟨a13, ev, hT⟩ := hT
      refine c_fgetG dX11_parameter_16 f_TallySlate_Reader_23 hc (by decide) (by decide) hW ev ?_
      refine x_iconst (v := 3) dX11_parameter_19 rfl ?_
      refine x_aload_n dX11_parameter_20 rfl rfl rfl ?_
      obtain ⟨hc, hT⟩ := hT
      obtain ⟨a14, ev, hT⟩ := hT
      refine c_fgetG dX11_parameter_21 f_TallySlate_Reader_23 hc (by decide) (by decide) hW ev ?_
      obtain ⟨hc, hT⟩ := hT
      obtain ⟨v15, ev, hT⟩ := hT
      refine c_fgetG dX11_parameter_24 f_TallySlate_Reader_45 hc (by decide) (by decide) hW ev ?_
      obtain ⟨hc, hT⟩ := hT
      obtain ⟨cc, hcc⟩ := hW.ocell hc
      refine c_invV (vs := [.int 3, .int v15]) dX11_parameter_27 oX2_wrong q564 q772 hcc q565 (Or.inl rfl) rfl rfl (Nat.le_of_ble_eq_true rfl) rfl hW hF hT ?_ ?_
      · intro _ s16 f17 hT h hW hF
        obtain ⟨rfl, hT⟩ := hT
        refine x_athrow dX11_parameter_30 ?_
        exact c_out (rfl) hW (Or.inr (Or.inl ⟨rfl, rfl⟩)) hF hT
      · intro k s16 f17 hT h a hW hx hF
        exact c_out (rfl) hW hx hF hT
  · intro k s1 f2 hT h a hW hx hF
    exact c_out (rfl) hW hx hF hT
theorem eX11_parameter {l : Launch} {E : EN} {w : CO} {d : Nat} {s : CS} {f : RH} {Q : KO → CS → RH → Prop} {x0 : Nat}  (hst : l.stackTraces = false) (hT : (oc f x0 11 ∧ EvC l E w d MX11_wantName [.ref x0] s f (fun o s1 f2 => KP o (fun r => r = none ∧ (oc f2 x0 11 ∧ (∃ a3 : Nat, vl f2 x0 150 = .ref a3 ∧ (oc f2 a3 12 ∧ (∃ v4 : Int32, vl f2 a3 155 = .int v4 ∧ ((¬ v4 = 4 → (oc f2 x0 11 ∧ (∃ a5 : Nat, vl f2 x0 147 = .ref a5 ∧ (oc f2 a5 2 ∧ EvC l E w d MX2_name [.ref a5] s1 f2 (fun o s6 f7 => KP o (fun r => ∃ v8 : Int64, r = some (.long v8) ∧ (EvC l E w d MX11_isShelf [.long v8] s6 f7 (fun o s9 f10 => KP o (fun r => ∃ v11 : Int32, r = some (.int v11) ∧ ExC l E w (d + 1) MX11_parameter 44 [some (.ref x0), some (.int v11), some (.int 0)] [] s9 f10 Q) (fun k => Q (.inr k) s9 f10)))) (fun k => Q (.inr k) s6 f7)))))) ∧ (v4 = 4 → (oc f2 x0 11 ∧ (∃ a13 : Nat, vl f2 x0 147 = .ref a13 ∧ (oc f2 x0 11 ∧ (∃ a14 : Nat, vl f2 x0 147 = .ref a14 ∧ (oc f2 a14 2 ∧ (∃ v15 : Int32, vl f2 a14 21 = .int v15 ∧ (oc f2 a13 2 ∧ EvC l E w d MX2_wrong [.ref a13, .int 3, .int v15] s1 f2 (fun o s16 f17 => KP o (fun r => r = some (.ref (w.1 1)) ∧ Q (.inr 1) s16 f17) (fun k => Q (.inr k) s16 f17)))))))))))))))) (fun k => Q (.inr k) s1 f2)))) : EvC l E w (d + 1) MX11_parameter [.ref x0] s f Q :=
  EvC.of hst (by decide) (Nat.le_of_ble_eq_true rfl) (vX11_parameter_0  hT)
set_option maxHeartbeats 16000000 in
theorem vX11_parameter_44 {l : Launch} {E : EN} {w : CO} {d : Nat} {s : CS} {f : RH} {Q : KO → CS → RH → Prop} {b0 : Nat} {b1 : Int32} {b2 : Int32}  (hT : (oc f b0 11 ∧ (∃ a20 : Nat, vl f b0 150 = .ref a20 ∧ (oc f a20 12 ∧ (∃ v21 : Int32, vl f a20 155 = .int v21 ∧ ((v21 ≤ b2 → ((b1 = 0 → (oc f b0 11 ∧ (∃ a22 : Nat, vl f b0 150 = .ref a22 ∧ (oc f a22 12 ∧ (∃ a23 : Nat, vl f a22 157 = .ref a23 ∧ (oc f b0 11 ∧ (∃ a24 : Nat, vl f b0 150 = .ref a24 ∧ (oc f a24 12 ∧ (∃ v25 : Int32, vl f a24 155 = .int v25 ∧ (oc f b0 11 ∧ (∃ a26 : Nat, vl f b0 147 = .ref a26 ∧ (oc f a26 2 ∧ EvC l E w d MX2_name [.ref a26] s f (fun o s27 f28 => KP o (fun r => ∃ v29 : Int64, r = some (.long v29) ∧ (tg f28 a23 = some (.inr 1) ∧ inB v25 (ln f28 a23) ∧ f28.2.2.2 ≤ a23 ∧ ∀ f30 : RH, f30 = fset f28 a23 v25.toNatClampNeg (.long v29) → (oc f30 b0 11 ∧ (∃ a31 : Nat, vl f30 b0 150 = .ref a31 ∧ (oc f30 a31 12 ∧ (∃ v32 : Int32, vl f30 a31 155 = .int v32 ∧ (oc f30 a31 12 ∧ f30.2.2.2 ≤ a31 ∧ ∀ f33 : RH, f33 = fset f30 a31 155 (.int (v32 + 1)) → (oc f33 b0 11 ∧ (∃ a34 : Nat, vl f33 b0 150 = .ref a34 ∧ (oc f33 a34 12 ∧ (∃ v35 : Int32, vl f33 a34 156 = .int v35 ∧ (oc f33 a34 12 ∧ f33.2.2.2 ≤ a34 ∧ ∀ f36 : RH, f36 = fset f33 a34 156 (.int (v35 + 1)) → (oc f36 b0 11 ∧ (∃ a37 : Nat, vl f36 b0 147 = .ref a37 ∧ (oc f36 a37 2 ∧ EvC l E w d MX2_next [.ref a37] s27 f36 (fun o s38 f39 => KP o (fun r => r = none ∧ Q (.inl none) s38 f39) (fun k => Q (.inr k) s38 f39))))))))))))))))) (fun k => Q (.inr k) s27 f28)))))))))))))) ∧ (¬ b1 = 0 → (oc f b0 11 ∧ (∃ a42 : Nat, vl f b0 147 = .ref a42 ∧ (oc f b0 11 ∧ (∃ a43 : Nat, vl f b0 147 = .ref a43 ∧ (oc f a43 2 ∧ (∃ v44 : Int32, vl f a43 21 = .int v44 ∧ (oc f a42 2 ∧ EvC l E w d MX2_wrong [.ref a42, .int 4, .int v44] s f (fun o s45 f46 => KP o (fun r => r = some (.ref (w.1 1)) ∧ Q (.inr 1) s45 f46) (fun k => Q (.inr k) s45 f46)))))))))))) ∧ (¬ v21 ≤ b2 → ((¬ b1 = 0 → ExC l E w (d + 1) MX11_parameter 44 [some (.ref b0), some (.int 1), some (.int (b2 + 1))] [] s f Q) ∧ (b1 = 0 → (oc f b0 11 ∧ (∃ a48 : Nat, vl f b0 150 = .ref a48 ∧ (oc f a48 12 ∧ (∃ a49 : Nat, vl f a48 157 = .ref a49 ∧ (tg f a49 = some (.inr 1) ∧ inB b2 (ln f a49) ∧ (∃ v50 : Int64, vl f a49 b2.toNatClampNeg = .long v50 ∧ (oc f b0 11 ∧ (∃ a51 : Nat, vl f b0 147 = .ref a51 ∧ (oc f a51 2 ∧ EvC l E w d MX2_name [.ref a51] s f (fun o s52 f53 => KP o (fun r => ∃ v54 : Int64, r = some (.long v54) ∧ ((¬ (lg_cmp v50 v54) = 0 → ExC l E w (d + 1) MX11_parameter 44 [some (.ref b0), some (.int 0), some (.int (b2 + 1))] [] s52 f53 Q) ∧ ((lg_cmp v50 v54) = 0 → ExC l E w (d + 1) MX11_parameter 44 [some (.ref b0), some (.int 1), some (.int (b2 + 1))] [] s52 f53 Q))) (fun k => Q (.inr k) s52 f53)))))))))))))))))))) : ExC l E w (d + 1) MX11_parameter 44 [some (.ref b0), some (.int b1), some (.int b2)] [] s f Q := by
  intro f0 h hW hF
  refine x_iload_n dX11_parameter_44 rfl rfl ?_
  refine x_aload_n dX11_parameter_45 rfl rfl rfl ?_
  obtain ⟨hc, hT⟩ := hT
  obtain ⟨a20, ev, hT⟩ := hT
  refine c_fgetG dX11_parameter_46 f_TallySlate_Reader_100 hc (by decide) (by decide) hW ev ?_
  obtain ⟨hc, hT⟩ := hT
  obtain ⟨v21, ev, hT⟩ := hT
  refine c_fgetG dX11_parameter_49 f_TallySlate_Reader_70 hc (by decide) (by decide) hW ev ?_
  refine x_icmp_ge (tgt := 91) dX11_parameter_52 rfl (fun c => ?_) (fun c => ?_)
  · replace hT := hT.1 c
    refine x_iload_n dX11_parameter_91 rfl rfl ?_
    refine x_if_eq (tgt := 111) dX11_parameter_92 rfl (fun c => ?_) (fun c => ?_)
    · replace hT := hT.1 c
      refine x_aload_n dX11_parameter_111 rfl rfl rfl ?_
      obtain ⟨hc, hT⟩ := hT
      obtain ⟨a22, ev, hT⟩ := hT
      refine c_fgetG dX11_parameter_112 f_TallySlate_Reader_100 hc (by decide) (by decide) hW ev ?_
      obtain ⟨hc, hT⟩ := hT
      obtain ⟨a23, ev, hT⟩ := hT
      refine c_fgetG dX11_parameter_115 f_TallySlate_Reader_130 hc (by decide) (by decide) hW ev ?_
      refine x_aload_n dX11_parameter_118 rfl rfl rfl ?_
      obtain ⟨hc, hT⟩ := hT
      obtain ⟨a24, ev, hT⟩ := hT
      refine c_fgetG dX11_parameter_119 f_TallySlate_Reader_100 hc (by decide) (by decide) hW ev ?_
      obtain ⟨hc, hT⟩ := hT
      obtain ⟨v25, ev, hT⟩ := hT
      refine c_fgetG dX11_parameter_122 f_TallySlate_Reader_70 hc (by decide) (by decide) hW ev ?_
      refine x_aload_n dX11_parameter_125 rfl rfl rfl ?_
      obtain ⟨hc, hT⟩ := hT
      obtain ⟨a26, ev, hT⟩ := hT
      refine c_fgetG dX11_parameter_126 f_TallySlate_Reader_23 hc (by decide) (by decide) hW ev ?_
      obtain ⟨hc, hT⟩ := hT
      obtain ⟨cc, hcc⟩ := hW.ocell hc
      refine c_invV (vs := []) dX11_parameter_129 oX2_name q806 q805 hcc q807 (Or.inl rfl) rfl rfl (Nat.le_of_ble_eq_true rfl) rfl hW hF hT ?_ ?_
      · intro _ s27 f28 hT h hW hF
        obtain ⟨v29, rfl, hT⟩ := hT
        obtain ⟨hc, hT⟩ := hT
        obtain ⟨hb, hz, hT⟩ := hT
        refine c_flastG dX11_parameter_132 hc hb hz hW hF ?_
        intro f30 ef30 h hW hF
        replace hT := hT f30 ef30
        refine x_aload_n dX11_parameter_133 rfl rfl rfl ?_
        obtain ⟨hc, hT⟩ := hT
        obtain ⟨a31, ev, hT⟩ := hT
        refine c_fgetG dX11_parameter_134 f_TallySlate_Reader_100 hc (by decide) (by decide) hW ev ?_
        refine x_dup dX11_parameter_137 rfl ?_
        obtain ⟨hc, hT⟩ := hT
        obtain ⟨v32, ev, hT⟩ := hT
        refine c_fgetG dX11_parameter_138 f_TallySlate_Reader_70 hc (by decide) (by decide) hW ev ?_
        refine x_iconst (v := 1) dX11_parameter_141 rfl ?_
        refine x_iadd dX11_parameter_142 ?_
        obtain ⟨hc, hz, hT⟩ := hT
        refine c_fputG dX11_parameter_143 f_TallySlate_Reader_70 hc (by decide) (by decide) hz (Or.inl rfl) rfl rfl hW hF ?_
        intro f33 ef33 h hW hF
        replace hT := hT f33 ef33
        refine x_aload_n dX11_parameter_146 rfl rfl rfl ?_
        obtain ⟨hc, hT⟩ := hT
        obtain ⟨a34, ev, hT⟩ := hT
        refine c_fgetG dX11_parameter_147 f_TallySlate_Reader_100 hc (by decide) (by decide) hW ev ?_
        refine x_dup dX11_parameter_150 rfl ?_
        obtain ⟨hc, hT⟩ := hT
        obtain ⟨v35, ev, hT⟩ := hT
        refine c_fgetG dX11_parameter_151 f_TallySlate_Reader_134 hc (by decide) (by decide) hW ev ?_
        refine x_iconst (v := 1) dX11_parameter_154 rfl ?_
        refine x_iadd dX11_parameter_155 ?_
        obtain ⟨hc, hz, hT⟩ := hT
        refine c_fputG dX11_parameter_156 f_TallySlate_Reader_134 hc (by decide) (by decide) hz (Or.inl rfl) rfl rfl hW hF ?_
        intro f36 ef36 h hW hF
        replace hT := hT f36 ef36
        refine x_aload_n dX11_parameter_159 rfl rfl rfl ?_
        obtain ⟨hc, hT⟩ := hT
        obtain ⟨a37, ev, hT⟩ := hT
        refine c_fgetG dX11_parameter_160 f_TallySlate_Reader_23 hc (by decide) (by decide) hW ev ?_
        obtain ⟨hc, hT⟩ := hT
        obtain ⟨cc, hcc⟩ := hW.ocell hc
        refine c_invV (vs := []) dX11_parameter_163 oX2_next q610 q609 hcc q611 (Or.inl rfl) rfl rfl (Nat.le_of_ble_eq_true rfl) rfl hW hF hT ?_ ?_
        · intro _ s38 f39 hT h hW hF
          obtain ⟨rfl, hT⟩ := hT
          exact x_vret dX11_parameter_166 rfl ⟨_, _, hW, hF, Or.inl ⟨_, rfl, hT⟩⟩
        · intro k s38 f39 hT h a hW hx hF
          exact c_out (rfl) hW hx hF hT
      · intro k s27 f28 hT h a hW hx hF
        exact c_out (rfl) hW hx hF hT
    · replace hT := hT.2 c
      refine x_aload_n dX11_parameter_95 rfl rfl rfl ?_
      obtain ⟨hc, hT⟩ := hT
      obtain ⟨a42, ev, hT⟩ := hT
      refine c_fgetG dX11_parameter_96 f_TallySlate_Reader_23 hc (by decide) (by decide) hW ev ?_
      refine x_iconst (v := 4) dX11_parameter_99 rfl ?_
      refine x_aload_n dX11_parameter_100 rfl rfl rfl ?_
      obtain ⟨hc, hT⟩ := hT
      obtain ⟨a43, ev, hT⟩ := hT
      refine c_fgetG dX11_parameter_101 f_TallySlate_Reader_23 hc (by decide) (by decide) hW ev ?_
      obtain ⟨hc, hT⟩ := hT
      obtain ⟨v44, ev, hT⟩ := hT
      refine c_fgetG dX11_parameter_104 f_TallySlate_Reader_45 hc (by decide) (by decide) hW ev ?_
      obtain ⟨hc, hT⟩ := hT
      obtain ⟨cc, hcc⟩ := hW.ocell hc
      refine c_invV (vs := [.int 4, .int v44]) dX11_parameter_107 oX2_wrong q564 q772 hcc q565 (Or.inl rfl) rfl rfl (Nat.le_of_ble_eq_true rfl) rfl hW hF hT ?_ ?_
      · intro _ s45 f46 hT h hW hF
        obtain ⟨rfl, hT⟩ := hT
        refine x_athrow dX11_parameter_110 ?_
        exact c_out (rfl) hW (Or.inr (Or.inl ⟨rfl, rfl⟩)) hF hT
      · intro k s45 f46 hT h a hW hx hF
        exact c_out (rfl) hW hx hF hT
  · replace hT := hT.2 c
    refine x_iload_n dX11_parameter_55 rfl rfl ?_
    refine x_if_ne (tgt := 79) dX11_parameter_56 rfl (fun c => ?_) (fun c => ?_)
    · replace hT := hT.1 c
      refine x_iconst (v := 1) dX11_parameter_79 rfl ?_
      refine x_goto (tgt := 84) dX11_parameter_80 rfl ?_
      refine x_istore_n (lo' := [some (.ref b0), some (.int 1), some (.int b2)]) dX11_parameter_84 rfl (Nat.le_of_ble_eq_true rfl) rfl ?_
      refine x_iinc (lo' := [some (.ref b0), some (.int 1), some (.int (b2 + 1))]) dX11_parameter_85 rfl (show _ = (b2 + 1) from rfl) rfl ?_
      refine x_goto (tgt := 44) dX11_parameter_88 rfl ?_
      exact hT f0 h hW hF
    · replace hT := hT.2 c
      refine x_aload_n dX11_parameter_59 rfl rfl rfl ?_
      obtain ⟨hc, hT⟩ := hT
      obtain ⟨a48, ev, hT⟩ := hT
      refine c_fgetG dX11_parameter_60 f_TallySlate_Reader_100 hc (by decide) (by decide) hW ev ?_
      obtain ⟨hc, hT⟩ := hT
      obtain ⟨a49, ev, hT⟩ := hT
      refine c_fgetG dX11_parameter_63 f_TallySlate_Reader_130 hc (by decide) (by decide) hW ev ?_
      refine x_iload_n dX11_parameter_66 rfl rfl ?_
      obtain ⟨hc, hT⟩ := hT
      obtain ⟨hb, hT⟩ := hT
      obtain ⟨v50, ev, hT⟩ := hT
      refine c_flald dX11_parameter_67 hc hb hW ev ?_
      refine x_aload_n dX11_parameter_68 rfl rfl rfl ?_
      obtain ⟨hc, hT⟩ := hT
      obtain ⟨a51, ev, hT⟩ := hT
      refine c_fgetG dX11_parameter_69 f_TallySlate_Reader_23 hc (by decide) (by decide) hW ev ?_
      obtain ⟨hc, hT⟩ := hT
      obtain ⟨cc, hcc⟩ := hW.ocell hc
      refine c_invV (vs := []) dX11_parameter_72 oX2_name q806 q805 hcc q807 (Or.inl rfl) rfl rfl (Nat.le_of_ble_eq_true rfl) rfl hW hF hT ?_ ?_
      · intro _ s52 f53 hT h hW hF
        obtain ⟨v54, rfl, hT⟩ := hT
        refine x_lcmp dX11_parameter_75 ?_
        refine x_if_ne (tgt := 83) dX11_parameter_76 rfl (fun c => ?_) (fun c => ?_)
        · replace hT := hT.1 c
          refine x_iconst (v := 0) dX11_parameter_83 rfl ?_
          refine x_istore_n (lo' := [some (.ref b0), some (.int 0), some (.int b2)]) dX11_parameter_84 rfl (Nat.le_of_ble_eq_true rfl) rfl ?_
          refine x_iinc (lo' := [some (.ref b0), some (.int 0), some (.int (b2 + 1))]) dX11_parameter_85 rfl (show _ = (b2 + 1) from rfl) rfl ?_
          refine x_goto (tgt := 44) dX11_parameter_88 rfl ?_
          exact hT f0 h hW hF
        · replace hT := hT.2 c
          refine x_iconst (v := 1) dX11_parameter_79 rfl ?_
          refine x_goto (tgt := 84) dX11_parameter_80 rfl ?_
          refine x_istore_n (lo' := [some (.ref b0), some (.int 1), some (.int b2)]) dX11_parameter_84 rfl (Nat.le_of_ble_eq_true rfl) rfl ?_
          refine x_iinc (lo' := [some (.ref b0), some (.int 1), some (.int (b2 + 1))]) dX11_parameter_85 rfl (show _ = (b2 + 1) from rfl) rfl ?_
          refine x_goto (tgt := 44) dX11_parameter_88 rfl ?_
          exact hT f0 h hW hF
      · intro k s52 f53 hT h a hW hx hF
        exact c_out (rfl) hW hx hF hT
