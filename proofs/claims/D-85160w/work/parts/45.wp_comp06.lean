/-! weakest preconditions of methods of the component: printed by wpc.py -/
set_option maxRecDepth 100000
set_option maxHeartbeats 16000000 in
theorem vX3_rounds_0 {l : Launch} {E : EN} {w : CO} {d : Nat} {s : CS} {f : RH} {Q : KO → CS → RH → Prop} {x1 : Int32}  (hT : (inB ((s.1 26) - 1) 8400 ∧ ∃ v1 : Value, (s.2.2.2 25 ((s.1 26) - 1).toNatClampNeg) = v1 ∧ isR v1 = true ∧ ((v1 = .null → (inB ((s.1 26) - 1) 8400 ∧ ((0 ≤ (s.2.2.1 24 ((s.1 26) - 1).toNatClampNeg) → (inB ((s.1 26) - 1) 8400 ∧ Q (.inl (some (.int (s.2.2.1 24 ((s.1 26) - 1).toNatClampNeg)))) s f)) ∧ (¬ 0 ≤ (s.2.2.1 24 ((s.1 26) - 1).toNatClampNeg) → (EvC l E w d MX3_wrong [.ref (w.1 3), .int 1, .int x1] s f (fun o s3 f4 => KP o (fun r => r = some (.ref (w.1 9)) ∧ Q (.inr 9) s3 f4) (fun k => Q (.inr k) s3 f4))))))) ∧ (∀ a2 : Nat, v1 = .ref a2 → (inB ((s.1 26) - 1) 8400 ∧ ∃ v5 : Value, (s.2.2.2 25 ((s.1 26) - 1).toNatClampNeg) = v5 ∧ isR v5 = true ∧ (∃ a8 : Nat, v5 = .ref a8 ∧ (∃ P11 : KO → CS → RH → Prop, (∀ o s6 f7, P11 o s6 f7 → KP o (fun r => ∃ v9 : Int32, r = some (.int v9) ∧ Q (.inl (some (.int v9))) s6 f7) (fun k => Q (.inr k) s6 f7)) ∧ ∃ k10 : Nat, oc f a8 k10 ∧ ((k10 = 29 ∧ EvC l E w d MX32_size [.ref a8] s f P11) ∨ (k10 = 30 ∧ EvC l E w d MX33_size [.ref a8] s f P11) ∨ (k10 = 31 ∧ EvC l E w d MX34_size [.ref a8] s f P11) ∨ (k10 = 32 ∧ EvC l E w d MX35_size [.ref a8] s f P11))))))))) : ExC l E w (d + 1) MX3_rounds 0 [some (.ref (w.1 3)), some (.int x1)] [] s f Q := by
  intro f0 h hW hF
  refine x_aload_n dX3_rounds_0 rfl rfl rfl ?_
  refine c_getA dX3_rounds_1 f_TallySlate_Machine_17 (by decide) (by decide) rfl hW ?_
  refine x_aload_n dX3_rounds_4 rfl rfl rfl ?_
  refine c_getI (v := (s.1 26)) dX3_rounds_5 f_TallySlate_Machine_75 (by decide) (by decide) rfl hW rfl ?_
  refine x_iconst (v := 1) dX3_rounds_8 rfl ?_
  refine x_isub dX3_rounds_9 ?_
  obtain ⟨hb, v1, ev, iv1, hT⟩ := hT
  refine c_aald (v := v1) dX3_rounds_10 rfl hb hW ev ?_
  refine x_ifnull (tgt := 29) dX3_rounds_11 rfl iv1 (fun e => ?_) (fun a2 e => ?_)
  · subst e
    replace hT := hT.1 rfl
    refine x_aload_n dX3_rounds_29 rfl rfl rfl ?_
    refine c_getA dX3_rounds_30 f_TallySlate_Machine_9 (by decide) (by decide) rfl hW ?_
    refine x_aload_n dX3_rounds_33 rfl rfl rfl ?_
    refine c_getI (v := (s.1 26)) dX3_rounds_34 f_TallySlate_Machine_75 (by decide) (by decide) rfl hW rfl ?_
    refine x_iconst (v := 1) dX3_rounds_37 rfl ?_
    refine x_isub dX3_rounds_38 ?_
    obtain ⟨hb, hT⟩ := hT
    refine c_iald (v := (s.2.2.1 24 ((s.1 26) - 1).toNatClampNeg)) dX3_rounds_39 rfl hb hW rfl ?_
    refine x_if_ge (tgt := 50) dX3_rounds_40 rfl (fun c => ?_) (fun c => ?_)
    · replace hT := hT.1 c
      refine x_aload_n dX3_rounds_50 rfl rfl rfl ?_
      refine c_getA dX3_rounds_51 f_TallySlate_Machine_9 (by decide) (by decide) rfl hW ?_
      refine x_aload_n dX3_rounds_54 rfl rfl rfl ?_
      refine c_getI (v := (s.1 26)) dX3_rounds_55 f_TallySlate_Machine_75 (by decide) (by decide) rfl hW rfl ?_
      refine x_iconst (v := 1) dX3_rounds_58 rfl ?_
      refine x_isub dX3_rounds_59 ?_
      obtain ⟨hb, hT⟩ := hT
      refine c_iald (v := (s.2.2.1 24 ((s.1 26) - 1).toNatClampNeg)) dX3_rounds_60 rfl hb hW rfl ?_
      exact x_iret dX3_rounds_61 rfl rfl ⟨_, _, hW, hF, Or.inl ⟨_, rfl, hT⟩⟩
    · replace hT := hT.2 c
      refine x_aload_n dX3_rounds_43 rfl rfl rfl ?_
      refine x_iconst (v := 1) dX3_rounds_44 rfl ?_
      refine x_iload_n dX3_rounds_45 rfl rfl ?_
      obtain ⟨-, -, cc, hcc, -⟩ := hW.ob 3 (by decide)
      refine c_invV (vs := [.int 1, .int x1]) dX3_rounds_46 oX3_wrong q1323 q1322 hcc q1324 (Or.inl rfl) rfl rfl (Nat.le_of_ble_eq_true rfl) rfl hW hF hT ?_ ?_
      · intro _ s3 f4 hT h hW hF
        obtain ⟨rfl, hT⟩ := hT
        refine x_athrow dX3_rounds_49 ?_
        exact c_out (rfl) hW (Or.inl ⟨rfl, rfl⟩) hF hT
      · intro k s3 f4 hT h a hW hx hF
        exact c_out (rfl) hW hx hF hT
  · subst e
    replace hT := hT.2 a2 rfl
    refine x_aload_n dX3_rounds_14 rfl rfl rfl ?_
    refine c_getA dX3_rounds_15 f_TallySlate_Machine_17 (by decide) (by decide) rfl hW ?_
    refine x_aload_n dX3_rounds_18 rfl rfl rfl ?_
    refine c_getI (v := (s.1 26)) dX3_rounds_19 f_TallySlate_Machine_75 (by decide) (by decide) rfl hW rfl ?_
    refine x_iconst (v := 1) dX3_rounds_22 rfl ?_
    refine x_isub dX3_rounds_23 ?_
    obtain ⟨hb, v5, ev, iv5, hT⟩ := hT
    refine c_aald (v := v5) dX3_rounds_24 rfl hb hW ev ?_
    obtain ⟨a8, rfl, hT⟩ := hT
    obtain ⟨P11, hP, k10, hc, hT⟩ := hT
    have kr : ∀ r s6 f7, P11 (.inl r) s6 f7 → ∀ h, CW E w s6 f7 h → Frz f0 f7 → Ex l E (d + 1) MX3_rounds (25 + 3) [some (.ref (w.1 3)), some (.int x1)] (r.toList ++ []) h (PoC E w f0 Q) := by
      intro r s6 f7 h0 h hW hF
      have hT := hP _ _ _ h0
      clear h0
      obtain ⟨v9, rfl, hT⟩ := hT
      exact x_iret dX3_rounds_28 rfl rfl ⟨_, _, hW, hF, Or.inl ⟨_, rfl, hT⟩⟩
    have kt : ∀ k s6 f7, P11 (.inr k) s6 f7 → ∀ h a, CW E w s6 f7 h → xA w h k a → Frz f0 f7 → ExT l E (d + 1) MX3_rounds 25 [some (.ref (w.1 3)), some (.int x1)] [] a h (PoC E w f0 Q) := by
      intro k s6 f7 h0 h a hW hx hF
      have hT := hP _ _ _ h0
      clear h0
      exact c_out (rfl) hW hx hF hT
    obtain ⟨cc, hcc⟩ := hW.ocell hc
    rcases hT with ⟨rfl, hT⟩ | ⟨rfl, hT⟩ | ⟨rfl, hT⟩ | ⟨rfl, hT⟩
    · exact c_invV (vs := []) dX3_rounds_25 oX32_size q1454 q1649 hcc q1453 (Or.inr hy_Thing_size) rfl rfl (Nat.le_of_ble_eq_true rfl) rfl hW hF hT kr kt
    · exact c_invV (vs := []) dX3_rounds_25 oX33_size q1457 q1649 hcc q1456 (Or.inr hy_Thing_size) rfl rfl (Nat.le_of_ble_eq_true rfl) rfl hW hF hT kr kt
    · exact c_invV (vs := []) dX3_rounds_25 oX34_size q1451 q1649 hcc q1450 (Or.inr hy_Thing_size) rfl rfl (Nat.le_of_ble_eq_true rfl) rfl hW hF hT kr kt
    · exact c_invV (vs := []) dX3_rounds_25 oX35_size q1460 q1649 hcc q1459 (Or.inr hy_Thing_size) rfl rfl (Nat.le_of_ble_eq_true rfl) rfl hW hF hT kr kt
theorem eX3_rounds {l : Launch} {E : EN} {w : CO} {d : Nat} {s : CS} {f : RH} {Q : KO → CS → RH → Prop} {x1 : Int32}  (hst : l.stackTraces = false) (hT : (inB ((s.1 26) - 1) 8400 ∧ ∃ v1 : Value, (s.2.2.2 25 ((s.1 26) - 1).toNatClampNeg) = v1 ∧ isR v1 = true ∧ ((v1 = .null → (inB ((s.1 26) - 1) 8400 ∧ ((0 ≤ (s.2.2.1 24 ((s.1 26) - 1).toNatClampNeg) → (inB ((s.1 26) - 1) 8400 ∧ Q (.inl (some (.int (s.2.2.1 24 ((s.1 26) - 1).toNatClampNeg)))) s f)) ∧ (¬ 0 ≤ (s.2.2.1 24 ((s.1 26) - 1).toNatClampNeg) → (EvC l E w d MX3_wrong [.ref (w.1 3), .int 1, .int x1] s f (fun o s3 f4 => KP o (fun r => r = some (.ref (w.1 9)) ∧ Q (.inr 9) s3 f4) (fun k => Q (.inr k) s3 f4))))))) ∧ (∀ a2 : Nat, v1 = .ref a2 → (inB ((s.1 26) - 1) 8400 ∧ ∃ v5 : Value, (s.2.2.2 25 ((s.1 26) - 1).toNatClampNeg) = v5 ∧ isR v5 = true ∧ (∃ a8 : Nat, v5 = .ref a8 ∧ (∃ P11 : KO → CS → RH → Prop, (∀ o s6 f7, P11 o s6 f7 → KP o (fun r => ∃ v9 : Int32, r = some (.int v9) ∧ Q (.inl (some (.int v9))) s6 f7) (fun k => Q (.inr k) s6 f7)) ∧ ∃ k10 : Nat, oc f a8 k10 ∧ ((k10 = 29 ∧ EvC l E w d MX32_size [.ref a8] s f P11) ∨ (k10 = 30 ∧ EvC l E w d MX33_size [.ref a8] s f P11) ∨ (k10 = 31 ∧ EvC l E w d MX34_size [.ref a8] s f P11) ∨ (k10 = 32 ∧ EvC l E w d MX35_size [.ref a8] s f P11))))))))) : EvC l E w (d + 1) MX3_rounds [.ref (w.1 3), .int x1] s f Q :=
  EvC.of hst (by decide) (Nat.le_of_ble_eq_true rfl) (vX3_rounds_0  hT)
theorem vX3_drop_0 {l : Launch} {E : EN} {w : CO} {d : Nat} {s : CS} {f : RH} {Q : KO → CS → RH → Prop}   (hT : Q (.inl none) (uI s 26 ((s.1 26) - 1)) f) : ExC l E w d MX3_drop 0 [some (.ref (w.1 3))] [] s f Q := by
  intro f0 h hW hF
  refine x_aload_n dX3_drop_0 rfl rfl rfl ?_
  refine x_dup dX3_drop_1 rfl ?_
  refine c_getI (v := (s.1 26)) dX3_drop_2 f_TallySlate_Machine_75 (by decide) (by decide) rfl hW rfl ?_
  refine x_iconst (v := 1) dX3_drop_5 rfl ?_
  refine x_isub dX3_drop_6 ?_
  refine c_putI dX3_drop_7 f_TallySlate_Machine_75 (by decide) (by decide) rfl rfl rfl rfl hW ?_
  intro h hW
  exact x_vret dX3_drop_10 rfl ⟨_, _, hW, hF, Or.inl ⟨_, rfl, hT⟩⟩
theorem eX3_drop {l : Launch} {E : EN} {w : CO} {d : Nat} {s : CS} {f : RH} {Q : KO → CS → RH → Prop}   (hst : l.stackTraces = false) (hT : Q (.inl none) (uI s 26 ((s.1 26) - 1)) f) : EvC l E w d MX3_drop [.ref (w.1 3)] s f Q :=
  EvC.of hst (by decide) (Nat.le_of_ble_eq_true rfl) (vX3_drop_0  hT)
theorem vX3_isTrue_0 {l : Launch} {E : EN} {w : CO} {d : Nat} {s : CS} {f : RH} {Q : KO → CS → RH → Prop} {x1 : Int32}  (hT : (EvC l E w d MX3_asInt [.ref (w.1 3), .int ((s.1 26) - 1), .int x1] s f (fun o s1 f2 => KP o (fun r => ∃ v3 : Int32, r = some (.int v3) ∧ ((v3 = 0 → Q (.inl (some (.int 0))) (uI s1 26 ((s1.1 26) - 1)) f2) ∧ (¬ v3 = 0 → Q (.inl (some (.int 1))) (uI s1 26 ((s1.1 26) - 1)) f2))) (fun k => Q (.inr k) s1 f2)))) : ExC l E w (d + 1) MX3_isTrue 0 [some (.ref (w.1 3)), some (.int x1), none] [] s f Q := by
  intro f0 h hW hF
  refine x_aload_n dX3_isTrue_0 rfl rfl rfl ?_
  refine x_aload_n dX3_isTrue_1 rfl rfl rfl ?_
  refine c_getI (v := (s.1 26)) dX3_isTrue_2 f_TallySlate_Machine_75 (by decide) (by decide) rfl hW rfl ?_
  refine x_iconst (v := 1) dX3_isTrue_5 rfl ?_
  refine x_isub dX3_isTrue_6 ?_
  refine x_iload_n dX3_isTrue_7 rfl rfl ?_
  obtain ⟨-, -, cc, hcc, -⟩ := hW.ob 3 (by decide)
  refine c_invV (vs := [.int ((s.1 26) - 1), .int x1]) dX3_isTrue_8 oX3_asInt q1697 q1984 hcc q1698 (Or.inl rfl) rfl rfl (Nat.le_of_ble_eq_true rfl) rfl hW hF hT ?_ ?_
  · intro _ s1 f2 hT h hW hF
    obtain ⟨v3, rfl, hT⟩ := hT
    refine x_istore_n (lo' := [some (.ref (w.1 3)), some (.int x1), some (.int v3)]) dX3_isTrue_11 rfl (Nat.le_of_ble_eq_true rfl) rfl ?_
    refine x_aload_n dX3_isTrue_12 rfl rfl rfl ?_
    refine x_dup dX3_isTrue_13 rfl ?_
    refine c_getI (v := (s1.1 26)) dX3_isTrue_14 f_TallySlate_Machine_75 (by decide) (by decide) rfl hW rfl ?_
    refine x_iconst (v := 1) dX3_isTrue_17 rfl ?_
    refine x_isub dX3_isTrue_18 ?_
    refine c_putI dX3_isTrue_19 f_TallySlate_Machine_75 (by decide) (by decide) rfl rfl rfl rfl hW ?_
    intro h hW
    refine x_iload_n dX3_isTrue_22 rfl rfl ?_
    refine x_if_eq (tgt := 30) dX3_isTrue_23 rfl (fun c => ?_) (fun c => ?_)
    · replace hT := hT.1 c
      refine x_iconst (v := 0) dX3_isTrue_30 rfl ?_
      exact x_iret dX3_isTrue_31 rfl rfl ⟨_, _, hW, hF, Or.inl ⟨_, rfl, hT⟩⟩
    · replace hT := hT.2 c
      refine x_iconst (v := 1) dX3_isTrue_26 rfl ?_
      refine x_goto (tgt := 31) dX3_isTrue_27 rfl ?_
      exact x_iret dX3_isTrue_31 rfl rfl ⟨_, _, hW, hF, Or.inl ⟨_, rfl, hT⟩⟩
  · intro k s1 f2 hT h a hW hx hF
    exact c_out (rfl) hW hx hF hT
theorem eX3_isTrue {l : Launch} {E : EN} {w : CO} {d : Nat} {s : CS} {f : RH} {Q : KO → CS → RH → Prop} {x1 : Int32}  (hst : l.stackTraces = false) (hT : (EvC l E w d MX3_asInt [.ref (w.1 3), .int ((s.1 26) - 1), .int x1] s f (fun o s1 f2 => KP o (fun r => ∃ v3 : Int32, r = some (.int v3) ∧ ((v3 = 0 → Q (.inl (some (.int 0))) (uI s1 26 ((s1.1 26) - 1)) f2) ∧ (¬ v3 = 0 → Q (.inl (some (.int 1))) (uI s1 26 ((s1.1 26) - 1)) f2))) (fun k => Q (.inr k) s1 f2)))) : EvC l E w (d + 1) MX3_isTrue [.ref (w.1 3), .int x1] s f Q :=
  EvC.of hst (by decide) (Nat.le_of_ble_eq_true rfl) (vX3_isTrue_0  hT)
set_option maxHeartbeats 16000000 in
theorem vX3_say_0 {l : Launch} {E : EN} {w : CO} {d : Nat} {s : CS} {f : RH} {Q : KO → CS → RH → Prop}   (hT : (inB ((s.1 26) - 1) 8400 ∧ ∃ v1 : Value, (s.2.2.2 25 ((s.1 26) - 1).toNatClampNeg) = v1 ∧ isR v1 = true ∧ ((v1 = .null → (inB ((s.1 26) - 1) 8400 ∧ (EvC l E w d MX8_number [.ref (w.1 8), .int (s.2.2.1 24 ((s.1 26) - 1).toNatClampNeg)] (uI s 26 ((s.1 26) - 1)) f (fun o s3 f4 => KP o (fun r => r = none ∧ (EvC l E w d MX8_sign [.ref (w.1 8), .int 10] s3 f4 (fun o s5 f6 => KP o (fun r => r = none ∧ Q (.inl none) s5 f6) (fun k => Q (.inr k) s5 f6)))) (fun k => Q (.inr k) s3 f4))))) ∧ (∀ a2 : Nat, v1 = .ref a2 → (inB ((s.1 26) - 1) 8400 ∧ ∃ v7 : Value, (s.2.2.2 25 ((s.1 26) - 1).toNatClampNeg) = v7 ∧ isR v7 = true ∧ (∃ a10 : Nat, v7 = .ref a10 ∧ (∃ P14 : KO → CS → RH → Prop, (∀ o s8 f9, P14 o s8 f9 → KP o (fun r => r = none ∧ (EvC l E w d MX8_sign [.ref (w.1 8), .int 10] s8 f9 (fun o s11 f12 => KP o (fun r => r = none ∧ Q (.inl none) s11 f12) (fun k => Q (.inr k) s11 f12)))) (fun k => Q (.inr k) s8 f9)) ∧ ∃ k13 : Nat, oc f a10 k13 ∧ ((k13 = 29 ∧ EvC l E w d MX32_form [.ref a10, .ref (w.1 8)] (uI s 26 ((s.1 26) - 1)) f P14) ∨ (k13 = 30 ∧ EvC l E w d MX33_form [.ref a10, .ref (w.1 8)] (uI s 26 ((s.1 26) - 1)) f P14) ∨ (k13 = 31 ∧ EvC l E w d MX34_form [.ref a10, .ref (w.1 8)] (uI s 26 ((s.1 26) - 1)) f P14) ∨ (k13 = 32 ∧ EvC l E w d MX35_form [.ref a10, .ref (w.1 8)] (uI s 26 ((s.1 26) - 1)) f P14))))))))) : ExC l E w (d + 1) MX3_say 0 [some (.ref (w.1 3))] [] s f Q := by
  intro f0 h hW hF
  refine x_aload_n dX3_say_0 rfl rfl rfl ?_
  refine x_dup dX3_say_1 rfl ?_
  refine c_getI (v := (s.1 26)) dX3_say_2 f_TallySlate_Machine_75 (by decide) (by decide) rfl hW rfl ?_
  refine x_iconst (v := 1) dX3_say_5 rfl ?_
  refine x_isub dX3_say_6 ?_
  refine c_putI dX3_say_7 f_TallySlate_Machine_75 (by decide) (by decide) rfl rfl rfl rfl hW ?_
  intro h hW
  refine x_aload_n dX3_say_10 rfl rfl rfl ?_
  refine c_getA dX3_say_11 f_TallySlate_Machine_17 (by decide) (by decide) rfl hW ?_
  refine x_aload_n dX3_say_14 rfl rfl rfl ?_
  refine c_getI (v := ((s.1 26) - 1)) dX3_say_15 f_TallySlate_Machine_75 (by decide) (by decide) rfl hW rfl ?_
  obtain ⟨hb, v1, ev, iv1, hT⟩ := hT
  refine c_aald (v := v1) dX3_say_18 rfl hb hW ev ?_
  refine x_ifnonnull (tgt := 41) dX3_say_19 rfl iv1 (fun a2 e => ?_) (fun e => ?_)
  · subst e
    replace hT := hT.2 a2 rfl
    refine x_aload_n dX3_say_41 rfl rfl rfl ?_
    refine c_getA dX3_say_42 f_TallySlate_Machine_17 (by decide) (by decide) rfl hW ?_
    refine x_aload_n dX3_say_45 rfl rfl rfl ?_
    refine c_getI (v := ((s.1 26) - 1)) dX3_say_46 f_TallySlate_Machine_75 (by decide) (by decide) rfl hW rfl ?_
    obtain ⟨hb, v7, ev, iv7, hT⟩ := hT
    refine c_aald (v := v7) dX3_say_49 rfl hb hW ev ?_
    refine x_aload_n dX3_say_50 rfl rfl rfl ?_
    refine c_getO dX3_say_51 f_TallySlate_Machine_64 (by decide) (by decide) rfl hW ?_
    obtain ⟨a10, rfl, hT⟩ := hT
    obtain ⟨P14, hP, k13, hc, hT⟩ := hT
    have kr : ∀ r s8 f9, P14 (.inl r) s8 f9 → ∀ h, CW E w s8 f9 h → Frz f0 f9 → Ex l E (d + 1) MX3_say (54 + 3) [some (.ref (w.1 3))] (r.toList ++ []) h (PoC E w f0 Q) := by
      intro r s8 f9 h0 h hW hF
      have hT := hP _ _ _ h0
      clear h0
      obtain ⟨rfl, hT⟩ := hT
      refine x_aload_n dX3_say_57 rfl rfl rfl ?_
      refine c_getO dX3_say_58 f_TallySlate_Machine_64 (by decide) (by decide) rfl hW ?_
      refine x_bipush (v := 10) dX3_say_61 rfl ?_
      obtain ⟨-, -, cc, hcc, -⟩ := hW.ob 8 (by decide)
      refine c_invV (vs := [.int 10]) dX3_say_63 oX8_sign q1999 q2030 hcc q2000 (Or.inl rfl) rfl rfl (Nat.le_of_ble_eq_true rfl) rfl hW hF hT ?_ ?_
      · intro _ s11 f12 hT h hW hF
        obtain ⟨rfl, hT⟩ := hT
        exact x_vret dX3_say_66 rfl ⟨_, _, hW, hF, Or.inl ⟨_, rfl, hT⟩⟩
      · intro k s11 f12 hT h a hW hx hF
        exact c_out (rfl) hW hx hF hT
    have kt : ∀ k s8 f9, P14 (.inr k) s8 f9 → ∀ h a, CW E w s8 f9 h → xA w h k a → Frz f0 f9 → ExT l E (d + 1) MX3_say 54 [some (.ref (w.1 3))] [] a h (PoC E w f0 Q) := by
      intro k s8 f9 h0 h a hW hx hF
      have hT := hP _ _ _ h0
      clear h0
      exact c_out (rfl) hW hx hF hT
    obtain ⟨cc, hcc⟩ := hW.ocell hc
    rcases hT with ⟨rfl, hT⟩ | ⟨rfl, hT⟩ | ⟨rfl, hT⟩ | ⟨rfl, hT⟩
    · exact c_invV (vs := [.ref (w.1 8)]) dX3_say_54 oX32_form q2013 q2005 hcc q2027 (Or.inr hy_Thing_form) rfl rfl (Nat.le_of_ble_eq_true rfl) rfl hW hF hT kr kt
    · exact c_invV (vs := [.ref (w.1 8)]) dX3_say_54 oX33_form q2020 q2005 hcc q2028 (Or.inr hy_Thing_form) rfl rfl (Nat.le_of_ble_eq_true rfl) rfl hW hF hT kr kt
    · exact c_invV (vs := [.ref (w.1 8)]) dX3_say_54 oX34_form q2009 q2005 hcc q2008 (Or.inr hy_Thing_form) rfl rfl (Nat.le_of_ble_eq_true rfl) rfl hW hF hT kr kt
    · exact c_invV (vs := [.ref (w.1 8)]) dX3_say_54 oX35_form q2024 q2005 hcc q2029 (Or.inr hy_Thing_form) rfl rfl (Nat.le_of_ble_eq_true rfl) rfl hW hF hT kr kt
  · subst e
    replace hT := hT.1 rfl
    refine x_aload_n dX3_say_22 rfl rfl rfl ?_
    refine c_getO dX3_say_23 f_TallySlate_Machine_64 (by decide) (by decide) rfl hW ?_
    refine x_aload_n dX3_say_26 rfl rfl rfl ?_
    refine c_getA dX3_say_27 f_TallySlate_Machine_9 (by decide) (by decide) rfl hW ?_
    refine x_aload_n dX3_say_30 rfl rfl rfl ?_
    refine c_getI (v := ((s.1 26) - 1)) dX3_say_31 f_TallySlate_Machine_75 (by decide) (by decide) rfl hW rfl ?_
    obtain ⟨hb, hT⟩ := hT
    refine c_iald (v := (s.2.2.1 24 ((s.1 26) - 1).toNatClampNeg)) dX3_say_34 rfl hb hW rfl ?_
    obtain ⟨-, -, cc, hcc, -⟩ := hW.ob 8 (by decide)
    refine c_invV (vs := [.int (s.2.2.1 24 ((s.1 26) - 1).toNatClampNeg)]) dX3_say_35 oX8_number q1995 q1994 hcc q1996 (Or.inl rfl) rfl rfl (Nat.le_of_ble_eq_true rfl) rfl hW hF hT ?_ ?_
    · intro _ s3 f4 hT h hW hF
      obtain ⟨rfl, hT⟩ := hT
      refine x_goto (tgt := 57) dX3_say_38 rfl ?_
      refine x_aload_n dX3_say_57 rfl rfl rfl ?_
      refine c_getO dX3_say_58 f_TallySlate_Machine_64 (by decide) (by decide) rfl hW ?_
      refine x_bipush (v := 10) dX3_say_61 rfl ?_
      obtain ⟨-, -, cc, hcc, -⟩ := hW.ob 8 (by decide)
      refine c_invV (vs := [.int 10]) dX3_say_63 oX8_sign q1999 q2030 hcc q2000 (Or.inl rfl) rfl rfl (Nat.le_of_ble_eq_true rfl) rfl hW hF hT ?_ ?_
      · intro _ s5 f6 hT h hW hF
        obtain ⟨rfl, hT⟩ := hT
        exact x_vret dX3_say_66 rfl ⟨_, _, hW, hF, Or.inl ⟨_, rfl, hT⟩⟩
      · intro k s5 f6 hT h a hW hx hF
        exact c_out (rfl) hW hx hF hT
    · intro k s3 f4 hT h a hW hx hF
      exact c_out (rfl) hW hx hF hT
theorem eX3_say {l : Launch} {E : EN} {w : CO} {d : Nat} {s : CS} {f : RH} {Q : KO → CS → RH → Prop}   (hst : l.stackTraces = false) (hT : (inB ((s.1 26) - 1) 8400 ∧ ∃ v1 : Value, (s.2.2.2 25 ((s.1 26) - 1).toNatClampNeg) = v1 ∧ isR v1 = true ∧ ((v1 = .null → (inB ((s.1 26) - 1) 8400 ∧ (EvC l E w d MX8_number [.ref (w.1 8), .int (s.2.2.1 24 ((s.1 26) - 1).toNatClampNeg)] (uI s 26 ((s.1 26) - 1)) f (fun o s3 f4 => KP o (fun r => r = none ∧ (EvC l E w d MX8_sign [.ref (w.1 8), .int 10] s3 f4 (fun o s5 f6 => KP o (fun r => r = none ∧ Q (.inl none) s5 f6) (fun k => Q (.inr k) s5 f6)))) (fun k => Q (.inr k) s3 f4))))) ∧ (∀ a2 : Nat, v1 = .ref a2 → (inB ((s.1 26) - 1) 8400 ∧ ∃ v7 : Value, (s.2.2.2 25 ((s.1 26) - 1).toNatClampNeg) = v7 ∧ isR v7 = true ∧ (∃ a10 : Nat, v7 = .ref a10 ∧ (∃ P14 : KO → CS → RH → Prop, (∀ o s8 f9, P14 o s8 f9 → KP o (fun r => r = none ∧ (EvC l E w d MX8_sign [.ref (w.1 8), .int 10] s8 f9 (fun o s11 f12 => KP o (fun r => r = none ∧ Q (.inl none) s11 f12) (fun k => Q (.inr k) s11 f12)))) (fun k => Q (.inr k) s8 f9)) ∧ ∃ k13 : Nat, oc f a10 k13 ∧ ((k13 = 29 ∧ EvC l E w d MX32_form [.ref a10, .ref (w.1 8)] (uI s 26 ((s.1 26) - 1)) f P14) ∨ (k13 = 30 ∧ EvC l E w d MX33_form [.ref a10, .ref (w.1 8)] (uI s 26 ((s.1 26) - 1)) f P14) ∨ (k13 = 31 ∧ EvC l E w d MX34_form [.ref a10, .ref (w.1 8)] (uI s 26 ((s.1 26) - 1)) f P14) ∨ (k13 = 32 ∧ EvC l E w d MX35_form [.ref a10, .ref (w.1 8)] (uI s 26 ((s.1 26) - 1)) f P14))))))))) : EvC l E w (d + 1) MX3_say [.ref (w.1 3)] s f Q :=
  EvC.of hst (by decide) (Nat.le_of_ble_eq_true rfl) (vX3_say_0  hT)
theorem vX3_raise_0 {l : Launch} {E : EN} {w : CO} {d : Nat} {s : CS} {f : RH} {Q : KO → CS → RH → Prop} {x1 : Int32}  (hT : (EvC l E w d MX3_asInt [.ref (w.1 3), .int ((s.1 26) - 1), .int x1] s f (fun o s1 f2 => KP o (fun r => ∃ v3 : Int32, r = some (.int v3) ∧ (EvC l E w d MX3_wrong [.ref (w.1 3), .int 9, .int x1] s1 f2 (fun o s4 f5 => KP o (fun r => r = some (.ref (w.1 9)) ∧ Q (.inr 9) (uI s4 56 v3) f5) (fun k => Q (.inr k) s4 f5)))) (fun k => Q (.inr k) s1 f2)))) : ExC l E w (d + 1) MX3_raise 0 [some (.ref (w.1 3)), some (.int x1), none] [] s f Q := by
  intro f0 h hW hF
  refine x_aload_n dX3_raise_0 rfl rfl rfl ?_
  refine x_aload_n dX3_raise_1 rfl rfl rfl ?_
  refine c_getI (v := (s.1 26)) dX3_raise_2 f_TallySlate_Machine_75 (by decide) (by decide) rfl hW rfl ?_
  refine x_iconst (v := 1) dX3_raise_5 rfl ?_
  refine x_isub dX3_raise_6 ?_
  refine x_iload_n dX3_raise_7 rfl rfl ?_
  obtain ⟨-, -, cc, hcc, -⟩ := hW.ob 3 (by decide)
  refine c_invV (vs := [.int ((s.1 26) - 1), .int x1]) dX3_raise_8 oX3_asInt q1697 q1984 hcc q1698 (Or.inl rfl) rfl rfl (Nat.le_of_ble_eq_true rfl) rfl hW hF hT ?_ ?_
  · intro _ s1 f2 hT h hW hF
    obtain ⟨v3, rfl, hT⟩ := hT
    refine x_istore_n (lo' := [some (.ref (w.1 3)), some (.int x1), some (.int v3)]) dX3_raise_11 rfl (Nat.le_of_ble_eq_true rfl) rfl ?_
    refine x_aload_n dX3_raise_12 rfl rfl rfl ?_
    refine x_bipush (v := 9) dX3_raise_13 rfl ?_
    refine x_iload_n dX3_raise_15 rfl rfl ?_
    obtain ⟨-, -, cc, hcc, -⟩ := hW.ob 3 (by decide)
    refine c_invV (vs := [.int 9, .int x1]) dX3_raise_16 oX3_wrong q1323 q1322 hcc q1324 (Or.inl rfl) rfl rfl (Nat.le_of_ble_eq_true rfl) rfl hW hF hT ?_ ?_
    · intro _ s4 f5 hT h hW hF
      obtain ⟨rfl, hT⟩ := hT
      refine x_pop dX3_raise_19 rfl ?_
      refine x_aload_n dX3_raise_20 rfl rfl rfl ?_
      refine c_getO dX3_raise_21 f_TallySlate_Machine_71 (by decide) (by decide) rfl hW ?_
      refine x_iload_n dX3_raise_24 rfl rfl ?_
      refine c_putI dX3_raise_25 f_TallySlate_Machine_106 (by decide) (by decide) rfl rfl rfl rfl hW ?_
      intro h hW
      refine x_aload_n dX3_raise_28 rfl rfl rfl ?_
      refine c_getO dX3_raise_29 f_TallySlate_Machine_71 (by decide) (by decide) rfl hW ?_
      refine x_athrow dX3_raise_32 ?_
      exact c_out (rfl) hW (Or.inl ⟨rfl, rfl⟩) hF hT
    · intro k s4 f5 hT h a hW hx hF
      exact c_out (rfl) hW hx hF hT
  · intro k s1 f2 hT h a hW hx hF
    exact c_out (rfl) hW hx hF hT
theorem eX3_raise {l : Launch} {E : EN} {w : CO} {d : Nat} {s : CS} {f : RH} {Q : KO → CS → RH → Prop} {x1 : Int32}  (hst : l.stackTraces = false) (hT : (EvC l E w d MX3_asInt [.ref (w.1 3), .int ((s.1 26) - 1), .int x1] s f (fun o s1 f2 => KP o (fun r => ∃ v3 : Int32, r = some (.int v3) ∧ (EvC l E w d MX3_wrong [.ref (w.1 3), .int 9, .int x1] s1 f2 (fun o s4 f5 => KP o (fun r => r = some (.ref (w.1 9)) ∧ Q (.inr 9) (uI s4 56 v3) f5) (fun k => Q (.inr k) s4 f5)))) (fun k => Q (.inr k) s1 f2)))) : EvC l E w (d + 1) MX3_raise [.ref (w.1 3), .int x1] s f Q :=
  EvC.of hst (by decide) (Nat.le_of_ble_eq_true rfl) (vX3_raise_0  hT)
set_option maxHeartbeats 16000000 in
theorem vX3_taken_0 {l : Launch} {E : EN} {w : CO} {d : Nat} {s : CS} {f : RH} {Q : KO → CS → RH → Prop} {x2 : Int32} {x3 : Int32} {x4 : Int32}  (hT : (((s.1 54) < 10 → ((¬ (s.1 54) = 9 → (∀ y1 : Int32, y1 = (s.1 54) → (EvC l E w d MX3_makes [.ref (w.1 3), .int 300, .int x4] (uI (uI (uI s 26 x2) 36 x3) 41 ((s.1 41) + 1)) f (fun o s2 f3 => KP o (fun r => r = none ∧ (EvC l E w d MX3_push [.ref (w.1 3), .int y1] s2 f3 (fun o s4 f5 => KP o (fun r => r = none ∧ Q (.inl none) s4 f5) (fun k => Q (.inr k) s4 f5)))) (fun k => Q (.inr k) s2 f3))))) ∧ ((s.1 54) = 9 → (∀ y6 : Int32, y6 = (s.1 56) → (EvC l E w d MX3_makes [.ref (w.1 3), .int 300, .int x4] (uI (uI (uI s 26 x2) 36 x3) 41 ((s.1 41) + 1)) f (fun o s7 f8 => KP o (fun r => r = none ∧ (EvC l E w d MX3_push [.ref (w.1 3), .int y6] s7 f8 (fun o s9 f10 => KP o (fun r => r = none ∧ Q (.inl none) s9 f10) (fun k => Q (.inr k) s9 f10)))) (fun k => Q (.inr k) s7 f8))))))) ∧ (¬ (s.1 54) < 10 → Q (.inr 9) s f))) : ExC l E w (d + 1) MX3_taken 0 [some (.ref (w.1 3)), some (.ref (w.1 9)), some (.int x2), some (.int x3), some (.int x4), none] [] s f Q := by
  intro f0 h hW hF
  refine x_aload_n dX3_taken_0 rfl rfl rfl ?_
  refine c_getI (v := (s.1 54)) dX3_taken_1 f_TallySlate_Machine_100 (by decide) (by decide) rfl hW rfl ?_
  refine x_bipush (v := 10) dX3_taken_4 rfl ?_
  refine x_icmp_lt (tgt := 11) dX3_taken_6 rfl (fun c => ?_) (fun c => ?_)
  · replace hT := hT.1 c
    refine x_aload_n dX3_taken_11 rfl rfl rfl ?_
    refine c_getI (v := (s.1 54)) dX3_taken_12 f_TallySlate_Machine_100 (by decide) (by decide) rfl hW rfl ?_
    refine x_bipush (v := 9) dX3_taken_15 rfl ?_
    refine x_icmp_ne (tgt := 27) dX3_taken_17 rfl (fun c => ?_) (fun c => ?_)
    · replace hT := hT.1 c
      refine x_aload_n dX3_taken_27 rfl rfl rfl ?_
      refine c_getI (v := (s.1 54)) dX3_taken_28 f_TallySlate_Machine_100 (by decide) (by decide) rfl hW rfl ?_
      obtain ⟨y1, ey1⟩ : ∃ z : Int32, z = (s.1 54) := ⟨_, rfl⟩
      replace hT := hT y1 ey1
      refine x_istore (lo' := [some (.ref (w.1 3)), some (.ref (w.1 9)), some (.int x2), some (.int x3), some (.int x4), some (.int y1)]) dX3_taken_31 (Nat.le_of_ble_eq_true rfl) (by rw [ey1]; exact rfl) ?_
      refine x_aload_n dX3_taken_33 rfl rfl rfl ?_
      refine x_iload_n dX3_taken_34 rfl rfl ?_
      refine c_putI dX3_taken_35 f_TallySlate_Machine_75 (by decide) (by decide) rfl rfl rfl rfl hW ?_
      intro h hW
      refine x_aload_n dX3_taken_38 rfl rfl rfl ?_
      refine x_iload_n dX3_taken_39 rfl rfl ?_
      refine c_putI dX3_taken_40 f_TallySlate_Machine_79 (by decide) (by decide) rfl rfl rfl rfl hW ?_
      intro h hW
      refine x_aload_n dX3_taken_43 rfl rfl rfl ?_
      refine x_dup dX3_taken_44 rfl ?_
      refine c_getI (v := (s.1 41)) dX3_taken_45 f_TallySlate_Machine_94 (by decide) (by decide) rfl hW rfl ?_
      refine x_iconst (v := 1) dX3_taken_48 rfl ?_
      refine x_iadd dX3_taken_49 ?_
      refine c_putI dX3_taken_50 f_TallySlate_Machine_94 (by decide) (by decide) rfl rfl rfl rfl hW ?_
      intro h hW
      refine x_aload_n dX3_taken_53 rfl rfl rfl ?_
      refine x_sipush (v := 300) dX3_taken_54 rfl ?_
      refine x_iload dX3_taken_57 rfl ?_
      obtain ⟨-, -, cc, hcc, -⟩ := hW.ob 3 (by decide)
      refine c_invV (vs := [.int 300, .int x4]) dX3_taken_59 oX3_makes q1435 q1434 hcc q1436 (Or.inl rfl) rfl rfl (Nat.le_of_ble_eq_true rfl) rfl hW hF hT ?_ ?_
      · intro _ s2 f3 hT h hW hF
        obtain ⟨rfl, hT⟩ := hT
        refine x_aload_n dX3_taken_62 rfl rfl rfl ?_
        refine x_iload dX3_taken_63 rfl ?_
        obtain ⟨-, -, cc, hcc, -⟩ := hW.ob 3 (by decide)
        refine c_invV (vs := [.int y1]) dX3_taken_65 oX3_push q1364 q1363 hcc q1365 (Or.inl rfl) rfl rfl (Nat.le_of_ble_eq_true rfl) rfl hW hF hT ?_ ?_
        · intro _ s4 f5 hT h hW hF
          obtain ⟨rfl, hT⟩ := hT
          exact x_vret dX3_taken_68 rfl ⟨_, _, hW, hF, Or.inl ⟨_, rfl, hT⟩⟩
        · intro k s4 f5 hT h a hW hx hF
          exact c_out (rfl) hW hx hF hT
      · intro k s2 f3 hT h a hW hx hF
        exact c_out (rfl) hW hx hF hT
    · replace hT := hT.2 c
      refine x_aload_n dX3_taken_20 rfl rfl rfl ?_
      refine c_getI (v := (s.1 56)) dX3_taken_21 f_TallySlate_Machine_106 (by decide) (by decide) rfl hW rfl ?_
      refine x_goto (tgt := 31) dX3_taken_24 rfl ?_
      obtain ⟨y6, ey6⟩ : ∃ z : Int32, z = (s.1 56) := ⟨_, rfl⟩
      replace hT := hT y6 ey6
      refine x_istore (lo' := [some (.ref (w.1 3)), some (.ref (w.1 9)), some (.int x2), some (.int x3), some (.int x4), some (.int y6)]) dX3_taken_31 (Nat.le_of_ble_eq_true rfl) (by rw [ey6]; exact rfl) ?_
      refine x_aload_n dX3_taken_33 rfl rfl rfl ?_
      refine x_iload_n dX3_taken_34 rfl rfl ?_
      refine c_putI dX3_taken_35 f_TallySlate_Machine_75 (by decide) (by decide) rfl rfl rfl rfl hW ?_
      intro h hW
      refine x_aload_n dX3_taken_38 rfl rfl rfl ?_
      refine x_iload_n dX3_taken_39 rfl rfl ?_
      refine c_putI dX3_taken_40 f_TallySlate_Machine_79 (by decide) (by decide) rfl rfl rfl rfl hW ?_
      intro h hW
      refine x_aload_n dX3_taken_43 rfl rfl rfl ?_
      refine x_dup dX3_taken_44 rfl ?_
      refine c_getI (v := (s.1 41)) dX3_taken_45 f_TallySlate_Machine_94 (by decide) (by decide) rfl hW rfl ?_
      refine x_iconst (v := 1) dX3_taken_48 rfl ?_
      refine x_iadd dX3_taken_49 ?_
      refine c_putI dX3_taken_50 f_TallySlate_Machine_94 (by decide) (by decide) rfl rfl rfl rfl hW ?_
      intro h hW
      refine x_aload_n dX3_taken_53 rfl rfl rfl ?_
      refine x_sipush (v := 300) dX3_taken_54 rfl ?_
      refine x_iload dX3_taken_57 rfl ?_
      obtain ⟨-, -, cc, hcc, -⟩ := hW.ob 3 (by decide)
      refine c_invV (vs := [.int 300, .int x4]) dX3_taken_59 oX3_makes q1435 q1434 hcc q1436 (Or.inl rfl) rfl rfl (Nat.le_of_ble_eq_true rfl) rfl hW hF hT ?_ ?_
      · intro _ s7 f8 hT h hW hF
        obtain ⟨rfl, hT⟩ := hT
        refine x_aload_n dX3_taken_62 rfl rfl rfl ?_
        refine x_iload dX3_taken_63 rfl ?_
        obtain ⟨-, -, cc, hcc, -⟩ := hW.ob 3 (by decide)
        refine c_invV (vs := [.int y6]) dX3_taken_65 oX3_push q1364 q1363 hcc q1365 (Or.inl rfl) rfl rfl (Nat.le_of_ble_eq_true rfl) rfl hW hF hT ?_ ?_
        · intro _ s9 f10 hT h hW hF
          obtain ⟨rfl, hT⟩ := hT
          exact x_vret dX3_taken_68 rfl ⟨_, _, hW, hF, Or.inl ⟨_, rfl, hT⟩⟩
        · intro k s9 f10 hT h a hW hx hF
          exact c_out (rfl) hW hx hF hT
      · intro k s7 f8 hT h a hW hx hF
        exact c_out (rfl) hW hx hF hT
  · replace hT := hT.2 c
    refine x_aload_n dX3_taken_9 rfl rfl rfl ?_
    refine x_athrow dX3_taken_10 ?_
    exact c_out (rfl) hW (Or.inl ⟨rfl, rfl⟩) hF hT
theorem eX3_taken {l : Launch} {E : EN} {w : CO} {d : Nat} {s : CS} {f : RH} {Q : KO → CS → RH → Prop} {x2 : Int32} {x3 : Int32} {x4 : Int32}  (hst : l.stackTraces = false) (hT : (((s.1 54) < 10 → ((¬ (s.1 54) = 9 → (∀ y1 : Int32, y1 = (s.1 54) → (EvC l E w d MX3_makes [.ref (w.1 3), .int 300, .int x4] (uI (uI (uI s 26 x2) 36 x3) 41 ((s.1 41) + 1)) f (fun o s2 f3 => KP o (fun r => r = none ∧ (EvC l E w d MX3_push [.ref (w.1 3), .int y1] s2 f3 (fun o s4 f5 => KP o (fun r => r = none ∧ Q (.inl none) s4 f5) (fun k => Q (.inr k) s4 f5)))) (fun k => Q (.inr k) s2 f3))))) ∧ ((s.1 54) = 9 → (∀ y6 : Int32, y6 = (s.1 56) → (EvC l E w d MX3_makes [.ref (w.1 3), .int 300, .int x4] (uI (uI (uI s 26 x2) 36 x3) 41 ((s.1 41) + 1)) f (fun o s7 f8 => KP o (fun r => r = none ∧ (EvC l E w d MX3_push [.ref (w.1 3), .int y6] s7 f8 (fun o s9 f10 => KP o (fun r => r = none ∧ Q (.inl none) s9 f10) (fun k => Q (.inr k) s9 f10)))) (fun k => Q (.inr k) s7 f8))))))) ∧ (¬ (s.1 54) < 10 → Q (.inr 9) s f))) : EvC l E w (d + 1) MX3_taken [.ref (w.1 3), .ref (w.1 9), .int x2, .int x3, .int x4] s f Q :=
  EvC.of hst (by decide) (Nat.le_of_ble_eq_true rfl) (vX3_taken_0  hT)
theorem vX30_init_0 {l : Launch} {E : EN} {w : CO} {d : Nat} {s : CS} {f : RH} {Q : KO → CS → RH → Prop} {x0 : Nat}  (hT : (EvC l E w d MX14_init [.ref x0] s f (fun o s1 f2 => KP o (fun r => r = none ∧ Q (.inl none) s1 f2) (fun k => Q (.inr k) s1 f2)))) : ExC l E w (d + 1) MX30_init 0 [some (.ref x0)] [] s f Q := by
  intro f0 h hW hF
  refine x_aload_n dX30_init_0 rfl rfl rfl ?_
  refine c_invI (b := x0) (vs := []) dX30_init_1 oX14_init rfl rfl rfl q863 (Or.inr ⟨_, q1246⟩) rfl rfl (Nat.le_of_ble_eq_true rfl) rfl hW hF hT ?_ ?_
  · intro _ s1 f2 hT h hW hF
    obtain ⟨rfl, hT⟩ := hT
    exact x_vret dX30_init_4 rfl ⟨_, _, hW, hF, Or.inl ⟨_, rfl, hT⟩⟩
  · intro k s1 f2 hT h a hW hx hF
    exact c_out (rfl) hW hx hF hT
theorem eX30_init {l : Launch} {E : EN} {w : CO} {d : Nat} {s : CS} {f : RH} {Q : KO → CS → RH → Prop} {x0 : Nat}  (hst : l.stackTraces = false) (hT : (EvC l E w d MX14_init [.ref x0] s f (fun o s1 f2 => KP o (fun r => r = none ∧ Q (.inl none) s1 f2) (fun k => Q (.inr k) s1 f2)))) : EvC l E w (d + 1) MX30_init [.ref x0] s f Q :=
  EvC.of hst (by decide) (Nat.le_of_ble_eq_true rfl) (vX30_init_0  hT)
set_option maxHeartbeats 16000000 in
theorem vX30_act_0 {l : Launch} {E : EN} {w : CO} {d : Nat} {s : CS} {f : RH} {Q : KO → CS → RH → Prop} {x0 : Nat}  (hT : (oc f x0 28 ∧ (∃ v1 : Value, vl f x0 200 = v1 ∧ isR v1 = true ∧ ((v1 = .null → (oc f x0 28 ∧ (∃ v3 : Value, vl f x0 201 = v3 ∧ isR v3 = true ∧ ((v3 = .null → (oc f x0 28 ∧ (∃ a5 : Nat, vl f x0 202 = .ref a5 ∧ (∃ P16 : KO → CS → RH → Prop, (∀ o s6 f7, P16 o s6 f7 → KP o (fun r => r = none ∧ (oc f7 x0 28 ∧ (∃ v8 : Value, vl f7 x0 200 = v8 ∧ isR v8 = true ∧ ((v8 = .null → (oc f7 x0 28 ∧ (∃ v10 : Int32, vl f7 x0 196 = .int v10 ∧ (EvC l E w d MX3_put [.ref (w.1 3), .int v10] s6 f7 (fun o s11 f12 => KP o (fun r => r = none ∧ Q (.inl (some (.int 0))) s11 f12) (fun k => Q (.inr k) s11 f12)))))) ∧ (∀ a9 : Nat, v8 = .ref a9 → (EvC l E w d MX3_change [.ref (w.1 3), .ref x0] s6 f7 (fun o s13 f14 => KP o (fun r => r = none ∧ Q (.inl (some (.int 0))) s13 f14) (fun k => Q (.inr k) s13 f14)))))))) (fun k => Q (.inr k) s6 f7)) ∧ ∃ k15 : Nat, oc f a5 k15 ∧ ((k15 = 15 ∧ EvC l E w d MX17_work [.ref a5, .ref (w.1 3)] s f P16) ∨ (k15 = 16 ∧ EvC l E w d MX18_work [.ref a5, .ref (w.1 3)] s f P16) ∨ (k15 = 18 ∧ EvC l E w d MX20_work [.ref a5, .ref (w.1 3)] s f P16) ∨ (k15 = 19 ∧ EvC l E w d MX21_work [.ref a5, .ref (w.1 3)] s f P16) ∨ (k15 = 20 ∧ EvC l E w d MX22_work [.ref a5, .ref (w.1 3)] s f P16) ∨ (k15 = 21 ∧ EvC l E w d MX23_work [.ref a5, .ref (w.1 3)] s f P16) ∨ (k15 = 22 ∧ EvC l E w d MX24_work [.ref a5, .ref (w.1 3)] s f P16) ∨ (k15 = 23 ∧ EvC l E w d MX25_work [.ref a5, .ref (w.1 3)] s f P16)))))) ∧ (∀ a4 : Nat, v3 = .ref a4 → (oc f x0 28 ∧ (∃ v17 : Value, vl f x0 201 = v17 ∧ isR v17 = true ∧ (∃ a20 : Nat, v17 = .ref a20 ∧ (∃ P34 : KO → CS → RH → Prop, (∀ o s18 f19, P34 o s18 f19 → KP o (fun r => r = none ∧ (oc f19 x0 28 ∧ (∃ a21 : Nat, vl f19 x0 202 = .ref a21 ∧ (∃ P32 : KO → CS → RH → Prop, (∀ o s22 f23, P32 o s22 f23 → KP o (fun r => r = none ∧ (oc f23 x0 28 ∧ (∃ v24 : Value, vl f23 x0 200 = v24 ∧ isR v24 = true ∧ ((v24 = .null → (oc f23 x0 28 ∧ (∃ v26 : Int32, vl f23 x0 196 = .int v26 ∧ (EvC l E w d MX3_put [.ref (w.1 3), .int v26] s22 f23 (fun o s27 f28 => KP o (fun r => r = none ∧ Q (.inl (some (.int 0))) s27 f28) (fun k => Q (.inr k) s27 f28)))))) ∧ (∀ a25 : Nat, v24 = .ref a25 → (EvC l E w d MX3_change [.ref (w.1 3), .ref x0] s22 f23 (fun o s29 f30 => KP o (fun r => r = none ∧ Q (.inl (some (.int 0))) s29 f30) (fun k => Q (.inr k) s29 f30)))))))) (fun k => Q (.inr k) s22 f23)) ∧ ∃ k31 : Nat, oc f19 a21 k31 ∧ ((k31 = 15 ∧ EvC l E w d MX17_work [.ref a21, .ref (w.1 3)] s18 f19 P32) ∨ (k31 = 16 ∧ EvC l E w d MX18_work [.ref a21, .ref (w.1 3)] s18 f19 P32) ∨ (k31 = 18 ∧ EvC l E w d MX20_work [.ref a21, .ref (w.1 3)] s18 f19 P32) ∨ (k31 = 19 ∧ EvC l E w d MX21_work [.ref a21, .ref (w.1 3)] s18 f19 P32) ∨ (k31 = 20 ∧ EvC l E w d MX22_work [.ref a21, .ref (w.1 3)] s18 f19 P32) ∨ (k31 = 21 ∧ EvC l E w d MX23_work [.ref a21, .ref (w.1 3)] s18 f19 P32) ∨ (k31 = 22 ∧ EvC l E w d MX24_work [.ref a21, .ref (w.1 3)] s18 f19 P32) ∨ (k31 = 23 ∧ EvC l E w d MX25_work [.ref a21, .ref (w.1 3)] s18 f19 P32)))))) (fun k => Q (.inr k) s18 f19)) ∧ ∃ k33 : Nat, oc f a20 k33 ∧ ((k33 = 15 ∧ EvC l E w d MX17_work [.ref a20, .ref (w.1 3)] s f P34) ∨ (k33 = 16 ∧ EvC l E w d MX18_work [.ref a20, .ref (w.1 3)] s f P34) ∨ (k33 = 18 ∧ EvC l E w d MX20_work [.ref a20, .ref (w.1 3)] s f P34) ∨ (k33 = 19 ∧ EvC l E w d MX21_work [.ref a20, .ref (w.1 3)] s f P34) ∨ (k33 = 20 ∧ EvC l E w d MX22_work [.ref a20, .ref (w.1 3)] s f P34) ∨ (k33 = 21 ∧ EvC l E w d MX23_work [.ref a20, .ref (w.1 3)] s f P34) ∨ (k33 = 22 ∧ EvC l E w d MX24_work [.ref a20, .ref (w.1 3)] s f P34) ∨ (k33 = 23 ∧ EvC l E w d MX25_work [.ref a20, .ref (w.1 3)] s f P34))))))))))) ∧ (∀ a2 : Nat, v1 = .ref a2 → (oc f x0 28 ∧ (∃ v35 : Value, vl f x0 200 = v35 ∧ isR v35 = true ∧ (∃ a38 : Nat, v35 = .ref a38 ∧ (∃ P72 : KO → CS → RH → Prop, (∀ o s36 f37, P72 o s36 f37 → KP o (fun r => r = none ∧ (oc f37 x0 28 ∧ (∃ v39 : Value, vl f37 x0 201 = v39 ∧ isR v39 = true ∧ ((v39 = .null → (oc f37 x0 28 ∧ (∃ a41 : Nat, vl f37 x0 202 = .ref a41 ∧ (∃ P52 : KO → CS → RH → Prop, (∀ o s42 f43, P52 o s42 f43 → KP o (fun r => r = none ∧ (oc f43 x0 28 ∧ (∃ v44 : Value, vl f43 x0 200 = v44 ∧ isR v44 = true ∧ ((v44 = .null → (oc f43 x0 28 ∧ (∃ v46 : Int32, vl f43 x0 196 = .int v46 ∧ (EvC l E w d MX3_put [.ref (w.1 3), .int v46] s42 f43 (fun o s47 f48 => KP o (fun r => r = none ∧ Q (.inl (some (.int 0))) s47 f48) (fun k => Q (.inr k) s47 f48)))))) ∧ (∀ a45 : Nat, v44 = .ref a45 → (EvC l E w d MX3_change [.ref (w.1 3), .ref x0] s42 f43 (fun o s49 f50 => KP o (fun r => r = none ∧ Q (.inl (some (.int 0))) s49 f50) (fun k => Q (.inr k) s49 f50)))))))) (fun k => Q (.inr k) s42 f43)) ∧ ∃ k51 : Nat, oc f37 a41 k51 ∧ ((k51 = 15 ∧ EvC l E w d MX17_work [.ref a41, .ref (w.1 3)] s36 f37 P52) ∨ (k51 = 16 ∧ EvC l E w d MX18_work [.ref a41, .ref (w.1 3)] s36 f37 P52) ∨ (k51 = 18 ∧ EvC l E w d MX20_work [.ref a41, .ref (w.1 3)] s36 f37 P52) ∨ (k51 = 19 ∧ EvC l E w d MX21_work [.ref a41, .ref (w.1 3)] s36 f37 P52) ∨ (k51 = 20 ∧ EvC l E w d MX22_work [.ref a41, .ref (w.1 3)] s36 f37 P52) ∨ (k51 = 21 ∧ EvC l E w d MX23_work [.ref a41, .ref (w.1 3)] s36 f37 P52) ∨ (k51 = 22 ∧ EvC l E w d MX24_work [.ref a41, .ref (w.1 3)] s36 f37 P52) ∨ (k51 = 23 ∧ EvC l E w d MX25_work [.ref a41, .ref (w.1 3)] s36 f37 P52)))))) ∧ (∀ a40 : Nat, v39 = .ref a40 → (oc f37 x0 28 ∧ (∃ v53 : Value, vl f37 x0 201 = v53 ∧ isR v53 = true ∧ (∃ a56 : Nat, v53 = .ref a56 ∧ (∃ P70 : KO → CS → RH → Prop, (∀ o s54 f55, P70 o s54 f55 → KP o (fun r => r = none ∧ (oc f55 x0 28 ∧ (∃ a57 : Nat, vl f55 x0 202 = .ref a57 ∧ (∃ P68 : KO → CS → RH → Prop, (∀ o s58 f59, P68 o s58 f59 → KP o (fun r => r = none ∧ (oc f59 x0 28 ∧ (∃ v60 : Value, vl f59 x0 200 = v60 ∧ isR v60 = true ∧ ((v60 = .null → (oc f59 x0 28 ∧ (∃ v62 : Int32, vl f59 x0 196 = .int v62 ∧ (EvC l E w d MX3_put [.ref (w.1 3), .int v62] s58 f59 (fun o s63 f64 => KP o (fun r => r = none ∧ Q (.inl (some (.int 0))) s63 f64) (fun k => Q (.inr k) s63 f64)))))) ∧ (∀ a61 : Nat, v60 = .ref a61 → (EvC l E w d MX3_change [.ref (w.1 3), .ref x0] s58 f59 (fun o s65 f66 => KP o (fun r => r = none ∧ Q (.inl (some (.int 0))) s65 f66) (fun k => Q (.inr k) s65 f66)))))))) (fun k => Q (.inr k) s58 f59)) ∧ ∃ k67 : Nat, oc f55 a57 k67 ∧ ((k67 = 15 ∧ EvC l E w d MX17_work [.ref a57, .ref (w.1 3)] s54 f55 P68) ∨ (k67 = 16 ∧ EvC l E w d MX18_work [.ref a57, .ref (w.1 3)] s54 f55 P68) ∨ (k67 = 18 ∧ EvC l E w d MX20_work [.ref a57, .ref (w.1 3)] s54 f55 P68) ∨ (k67 = 19 ∧ EvC l E w d MX21_work [.ref a57, .ref (w.1 3)] s54 f55 P68) ∨ (k67 = 20 ∧ EvC l E w d MX22_work [.ref a57, .ref (w.1 3)] s54 f55 P68) ∨ (k67 = 21 ∧ EvC l E w d MX23_work [.ref a57, .ref (w.1 3)] s54 f55 P68) ∨ (k67 = 22 ∧ EvC l E w d MX24_work [.ref a57, .ref (w.1 3)] s54 f55 P68) ∨ (k67 = 23 ∧ EvC l E w d MX25_work [.ref a57, .ref (w.1 3)] s54 f55 P68)))))) (fun k => Q (.inr k) s54 f55)) ∧ ∃ k69 : Nat, oc f37 a56 k69 ∧ ((k69 = 15 ∧ EvC l E w d MX17_work [.ref a56, .ref (w.1 3)] s36 f37 P70) ∨ (k69 = 16 ∧ EvC l E w d MX18_work [.ref a56, .ref (w.1 3)] s36 f37 P70) ∨ (k69 = 18 ∧ EvC l E w d MX20_work [.ref a56, .ref (w.1 3)] s36 f37 P70) ∨ (k69 = 19 ∧ EvC l E w d MX21_work [.ref a56, .ref (w.1 3)] s36 f37 P70) ∨ (k69 = 20 ∧ EvC l E w d MX22_work [.ref a56, .ref (w.1 3)] s36 f37 P70) ∨ (k69 = 21 ∧ EvC l E w d MX23_work [.ref a56, .ref (w.1 3)] s36 f37 P70) ∨ (k69 = 22 ∧ EvC l E w d MX24_work [.ref a56, .ref (w.1 3)] s36 f37 P70) ∨ (k69 = 23 ∧ EvC l E w d MX25_work [.ref a56, .ref (w.1 3)] s36 f37 P70))))))))))) (fun k => Q (.inr k) s36 f37)) ∧ ∃ k71 : Nat, oc f a38 k71 ∧ ((k71 = 15 ∧ EvC l E w d MX17_work [.ref a38, .ref (w.1 3)] s f P72) ∨ (k71 = 16 ∧ EvC l E w d MX18_work [.ref a38, .ref (w.1 3)] s f P72) ∨ (k71 = 18 ∧ EvC l E w d MX20_work [.ref a38, .ref (w.1 3)] s f P72) ∨ (k71 = 19 ∧ EvC l E w d MX21_work [.ref a38, .ref (w.1 3)] s f P72) ∨ (k71 = 20 ∧ EvC l E w d MX22_work [.ref a38, .ref (w.1 3)] s f P72) ∨ (k71 = 21 ∧ EvC l E w d MX23_work [.ref a38, .ref (w.1 3)] s f P72) ∨ (k71 = 22 ∧ EvC l E w d MX24_work [.ref a38, .ref (w.1 3)] s f P72) ∨ (k71 = 23 ∧ EvC l E w d MX25_work [.ref a38, .ref (w.1 3)] s f P72))))))))))) : ExC l E w (d + 1) MX30_act 0 [some (.ref x0), some (.ref (w.1 3))] [] s f Q := by
  intro f0 h hW hF
  refine x_aload_n dX30_act_0 rfl rfl rfl ?_
  obtain ⟨hc, hT⟩ := hT
  obtain ⟨v1, ev, iv1, hT⟩ := hT
  refine c_fgetG dX30_act_1 f_TallySlate_Assign_7 hc (by decide) (by decide) hW ev ?_
  refine x_ifnull (tgt := 15) dX30_act_4 rfl iv1 (fun e => ?_) (fun a2 e => ?_)
  · subst e
    replace hT := hT.1 rfl
    refine x_aload_n dX30_act_15 rfl rfl rfl ?_
    obtain ⟨hc, hT⟩ := hT
    obtain ⟨v3, ev, iv3, hT⟩ := hT
    refine c_fgetG dX30_act_16 f_TallySlate_Assign_19 hc (by decide) (by decide) hW ev ?_
    refine x_ifnull (tgt := 30) dX30_act_19 rfl iv3 (fun e => ?_) (fun a4 e => ?_)
    · subst e
      replace hT := hT.1 rfl
      refine x_aload_n dX30_act_30 rfl rfl rfl ?_
      obtain ⟨hc, hT⟩ := hT
      obtain ⟨a5, ev, hT⟩ := hT
      refine c_fgetG dX30_act_31 f_TallySlate_Assign_22 hc (by decide) (by decide) hW ev ?_
      refine x_aload_n dX30_act_34 rfl rfl rfl ?_
      obtain ⟨P16, hP, k15, hc, hT⟩ := hT
      have kr : ∀ r s6 f7, P16 (.inl r) s6 f7 → ∀ h, CW E w s6 f7 h → Frz f0 f7 → Ex l E (d + 1) MX30_act (35 + 3) [some (.ref x0), some (.ref (w.1 3))] (r.toList ++ []) h (PoC E w f0 Q) := by
        intro r s6 f7 h0 h hW hF
        have hT := hP _ _ _ h0
        clear h0
        obtain ⟨rfl, hT⟩ := hT
        refine x_aload_n dX30_act_38 rfl rfl rfl ?_
        obtain ⟨hc, hT⟩ := hT
        obtain ⟨v8, ev, iv8, hT⟩ := hT
        refine c_fgetG dX30_act_39 f_TallySlate_Assign_7 hc (by decide) (by decide) hW ev ?_
        refine x_ifnonnull (tgt := 56) dX30_act_42 rfl iv8 (fun a9 e => ?_) (fun e => ?_)
        · subst e
          replace hT := hT.2 a9 rfl
          refine x_aload_n dX30_act_56 rfl rfl rfl ?_
          refine x_aload_n dX30_act_57 rfl rfl rfl ?_
          obtain ⟨-, -, cc, hcc, -⟩ := hW.ob 3 (by decide)
          refine c_invV (vs := [.ref x0]) dX30_act_58 oX3_change q1943 q1942 hcc q1944 (Or.inl rfl) rfl rfl (Nat.le_of_ble_eq_true rfl) rfl hW hF hT ?_ ?_
          · intro _ s13 f14 hT h hW hF
            obtain ⟨rfl, hT⟩ := hT
            refine x_iconst (v := 0) dX30_act_61 rfl ?_
            exact x_iret dX30_act_62 rfl rfl ⟨_, _, hW, hF, Or.inl ⟨_, rfl, hT⟩⟩
          · intro k s13 f14 hT h a hW hx hF
            exact c_out (rfl) hW hx hF hT
        · subst e
          replace hT := hT.1 rfl
          refine x_aload_n dX30_act_45 rfl rfl rfl ?_
          refine x_aload_n dX30_act_46 rfl rfl rfl ?_
          obtain ⟨hc, hT⟩ := hT
          obtain ⟨v10, ev, hT⟩ := hT
          refine c_fgetG dX30_act_47 f_TallySlate_Assign_25 hc (by decide) (by decide) hW ev ?_
          obtain ⟨-, -, cc, hcc, -⟩ := hW.ob 3 (by decide)
          refine c_invV (vs := [.int v10]) dX30_act_50 oX3_put q1935 q1934 hcc q1936 (Or.inl rfl) rfl rfl (Nat.le_of_ble_eq_true rfl) rfl hW hF hT ?_ ?_
          · intro _ s11 f12 hT h hW hF
            obtain ⟨rfl, hT⟩ := hT
            refine x_goto (tgt := 61) dX30_act_53 rfl ?_
            refine x_iconst (v := 0) dX30_act_61 rfl ?_
            exact x_iret dX30_act_62 rfl rfl ⟨_, _, hW, hF, Or.inl ⟨_, rfl, hT⟩⟩
          · intro k s11 f12 hT h a hW hx hF
            exact c_out (rfl) hW hx hF hT
      have kt : ∀ k s6 f7, P16 (.inr k) s6 f7 → ∀ h a, CW E w s6 f7 h → xA w h k a → Frz f0 f7 → ExT l E (d + 1) MX30_act 35 [some (.ref x0), some (.ref (w.1 3))] [] a h (PoC E w f0 Q) := by
        intro k s6 f7 h0 h a hW hx hF
        have hT := hP _ _ _ h0
        clear h0
        exact c_out (rfl) hW hx hF hT
      obtain ⟨cc, hcc⟩ := hW.ocell hc
      rcases hT with ⟨rfl, hT⟩ | ⟨rfl, hT⟩ | ⟨rfl, hT⟩ | ⟨rfl, hT⟩ | ⟨rfl, hT⟩ | ⟨rfl, hT⟩ | ⟨rfl, hT⟩ | ⟨rfl, hT⟩
      · exact c_invV (vs := [.ref (w.1 3)]) dX30_act_35 oX17_work q1367 q1341 hcc q1931 (Or.inr hy_Node_work) rfl rfl (Nat.le_of_ble_eq_true rfl) rfl hW hF hT kr kt
      · exact c_invV (vs := [.ref (w.1 3)]) dX30_act_35 oX18_work q1354 q1341 hcc q1929 (Or.inr hy_Node_work) rfl rfl (Nat.le_of_ble_eq_true rfl) rfl hW hF hT kr kt
      · exact c_invV (vs := [.ref (w.1 3)]) dX30_act_35 oX20_work q1345 q1341 hcc q1344 (Or.inr hy_Node_work) rfl rfl (Nat.le_of_ble_eq_true rfl) rfl hW hF hT kr kt
      · exact c_invV (vs := [.ref (w.1 3)]) dX30_act_35 oX21_work q1348 q1341 hcc q1927 (Or.inr hy_Node_work) rfl rfl (Nat.le_of_ble_eq_true rfl) rfl hW hF hT kr kt
      · exact c_invV (vs := [.ref (w.1 3)]) dX30_act_35 oX22_work q1357 q1341 hcc q1930 (Or.inr hy_Node_work) rfl rfl (Nat.le_of_ble_eq_true rfl) rfl hW hF hT kr kt
      · exact c_invV (vs := [.ref (w.1 3)]) dX30_act_35 oX23_work q1370 q1341 hcc q1932 (Or.inr hy_Node_work) rfl rfl (Nat.le_of_ble_eq_true rfl) rfl hW hF hT kr kt
      · exact c_invV (vs := [.ref (w.1 3)]) dX30_act_35 oX24_work q1373 q1341 hcc q1933 (Or.inr hy_Node_work) rfl rfl (Nat.le_of_ble_eq_true rfl) rfl hW hF hT kr kt
      · exact c_invV (vs := [.ref (w.1 3)]) dX30_act_35 oX25_work q1351 q1341 hcc q1928 (Or.inr hy_Node_work) rfl rfl (Nat.le_of_ble_eq_true rfl) rfl hW hF hT kr kt
    · subst e
      replace hT := hT.2 a4 rfl
      refine x_aload_n dX30_act_22 rfl rfl rfl ?_
      obtain ⟨hc, hT⟩ := hT
      obtain ⟨v17, ev, iv17, hT⟩ := hT
      refine c_fgetG dX30_act_23 f_TallySlate_Assign_19 hc (by decide) (by decide) hW ev ?_
      refine x_aload_n dX30_act_26 rfl rfl rfl ?_
      obtain ⟨a20, rfl, hT⟩ := hT
      obtain ⟨P34, hP, k33, hc, hT⟩ := hT
      have kr : ∀ r s18 f19, P34 (.inl r) s18 f19 → ∀ h, CW E w s18 f19 h → Frz f0 f19 → Ex l E (d + 1) MX30_act (27 + 3) [some (.ref x0), some (.ref (w.1 3))] (r.toList ++ []) h (PoC E w f0 Q) := by
        intro r s18 f19 h0 h hW hF
        have hT := hP _ _ _ h0
        clear h0
        obtain ⟨rfl, hT⟩ := hT
        refine x_aload_n dX30_act_30 rfl rfl rfl ?_
        obtain ⟨hc, hT⟩ := hT
        obtain ⟨a21, ev, hT⟩ := hT
        refine c_fgetG dX30_act_31 f_TallySlate_Assign_22 hc (by decide) (by decide) hW ev ?_
        refine x_aload_n dX30_act_34 rfl rfl rfl ?_
        obtain ⟨P32, hP, k31, hc, hT⟩ := hT
        have kr : ∀ r s22 f23, P32 (.inl r) s22 f23 → ∀ h, CW E w s22 f23 h → Frz f0 f23 → Ex l E (d + 1) MX30_act (35 + 3) [some (.ref x0), some (.ref (w.1 3))] (r.toList ++ []) h (PoC E w f0 Q) := by
          intro r s22 f23 h0 h hW hF
          have hT := hP _ _ _ h0
          clear h0
          obtain ⟨rfl, hT⟩ := hT
          refine x_aload_n dX30_act_38 rfl rfl rfl ?_
          obtain ⟨hc, hT⟩ := hT
          obtain ⟨v24, ev, iv24, hT⟩ := hT
          refine c_fgetG dX30_act_39 f_TallySlate_Assign_7 hc (by decide) (by decide) hW ev ?_
          refine x_ifnonnull (tgt := 56) dX30_act_42 rfl iv24 (fun a25 e => ?_) (fun e => ?_)
          · subst e
            replace hT := hT.2 a25 rfl
            refine x_aload_n dX30_act_56 rfl rfl rfl ?_
            refine x_aload_n dX30_act_57 rfl rfl rfl ?_
            obtain ⟨-, -, cc, hcc, -⟩ := hW.ob 3 (by decide)
            refine c_invV (vs := [.ref x0]) dX30_act_58 oX3_change q1943 q1942 hcc q1944 (Or.inl rfl) rfl rfl (Nat.le_of_ble_eq_true rfl) rfl hW hF hT ?_ ?_
            · intro _ s29 f30 hT h hW hF
              obtain ⟨rfl, hT⟩ := hT
              refine x_iconst (v := 0) dX30_act_61 rfl ?_
              exact x_iret dX30_act_62 rfl rfl ⟨_, _, hW, hF, Or.inl ⟨_, rfl, hT⟩⟩
            · intro k s29 f30 hT h a hW hx hF
              exact c_out (rfl) hW hx hF hT
          · subst e
            replace hT := hT.1 rfl
            refine x_aload_n dX30_act_45 rfl rfl rfl ?_
            refine x_aload_n dX30_act_46 rfl rfl rfl ?_
            obtain ⟨hc, hT⟩ := hT
            obtain ⟨v26, ev, hT⟩ := hT
            refine c_fgetG dX30_act_47 f_TallySlate_Assign_25 hc (by decide) (by decide) hW ev ?_
            obtain ⟨-, -, cc, hcc, -⟩ := hW.ob 3 (by decide)
            refine c_invV (vs := [.int v26]) dX30_act_50 oX3_put q1935 q1934 hcc q1936 (Or.inl rfl) rfl rfl (Nat.le_of_ble_eq_true rfl) rfl hW hF hT ?_ ?_
            · intro _ s27 f28 hT h hW hF
              obtain ⟨rfl, hT⟩ := hT
              refine x_goto (tgt := 61) dX30_act_53 rfl ?_
              refine x_iconst (v := 0) dX30_act_61 rfl ?_
              exact x_iret dX30_act_62 rfl rfl ⟨_, _, hW, hF, Or.inl ⟨_, rfl, hT⟩⟩
            · intro k s27 f28 hT h a hW hx hF
              exact c_out (rfl) hW hx hF hT
        have kt : ∀ k s22 f23, P32 (.inr k) s22 f23 → ∀ h a, CW E w s22 f23 h → xA w h k a → Frz f0 f23 → ExT l E (d + 1) MX30_act 35 [some (.ref x0), some (.ref (w.1 3))] [] a h (PoC E w f0 Q) := by
          intro k s22 f23 h0 h a hW hx hF
          have hT := hP _ _ _ h0
          clear h0
          exact c_out (rfl) hW hx hF hT
        obtain ⟨cc, hcc⟩ := hW.ocell hc
        rcases hT with ⟨rfl, hT⟩ | ⟨rfl, hT⟩ | ⟨rfl, hT⟩ | ⟨rfl, hT⟩ | ⟨rfl, hT⟩ | ⟨rfl, hT⟩ | ⟨rfl, hT⟩ | ⟨rfl, hT⟩
        · exact c_invV (vs := [.ref (w.1 3)]) dX30_act_35 oX17_work q1367 q1341 hcc q1931 (Or.inr hy_Node_work) rfl rfl (Nat.le_of_ble_eq_true rfl) rfl hW hF hT kr kt
        · exact c_invV (vs := [.ref (w.1 3)]) dX30_act_35 oX18_work q1354 q1341 hcc q1929 (Or.inr hy_Node_work) rfl rfl (Nat.le_of_ble_eq_true rfl) rfl hW hF hT kr kt
        · exact c_invV (vs := [.ref (w.1 3)]) dX30_act_35 oX20_work q1345 q1341 hcc q1344 (Or.inr hy_Node_work) rfl rfl (Nat.le_of_ble_eq_true rfl) rfl hW hF hT kr kt
        · exact c_invV (vs := [.ref (w.1 3)]) dX30_act_35 oX21_work q1348 q1341 hcc q1927 (Or.inr hy_Node_work) rfl rfl (Nat.le_of_ble_eq_true rfl) rfl hW hF hT kr kt
        · exact c_invV (vs := [.ref (w.1 3)]) dX30_act_35 oX22_work q1357 q1341 hcc q1930 (Or.inr hy_Node_work) rfl rfl (Nat.le_of_ble_eq_true rfl) rfl hW hF hT kr kt
        · exact c_invV (vs := [.ref (w.1 3)]) dX30_act_35 oX23_work q1370 q1341 hcc q1932 (Or.inr hy_Node_work) rfl rfl (Nat.le_of_ble_eq_true rfl) rfl hW hF hT kr kt
        · exact c_invV (vs := [.ref (w.1 3)]) dX30_act_35 oX24_work q1373 q1341 hcc q1933 (Or.inr hy_Node_work) rfl rfl (Nat.le_of_ble_eq_true rfl) rfl hW hF hT kr kt
        · exact c_invV (vs := [.ref (w.1 3)]) dX30_act_35 oX25_work q1351 q1341 hcc q1928 (Or.inr hy_Node_work) rfl rfl (Nat.le_of_ble_eq_true rfl) rfl hW hF hT kr kt
      have kt : ∀ k s18 f19, P34 (.inr k) s18 f19 → ∀ h a, CW E w s18 f19 h → xA w h k a → Frz f0 f19 → ExT l E (d + 1) MX30_act 27 [some (.ref x0), some (.ref (w.1 3))] [] a h (PoC E w f0 Q) := by
        intro k s18 f19 h0 h a hW hx hF
        have hT := hP _ _ _ h0
        clear h0
        exact c_out (rfl) hW hx hF hT
      obtain ⟨cc, hcc⟩ := hW.ocell hc
      rcases hT with ⟨rfl, hT⟩ | ⟨rfl, hT⟩ | ⟨rfl, hT⟩ | ⟨rfl, hT⟩ | ⟨rfl, hT⟩ | ⟨rfl, hT⟩ | ⟨rfl, hT⟩ | ⟨rfl, hT⟩
      · exact c_invV (vs := [.ref (w.1 3)]) dX30_act_27 oX17_work q1367 q1341 hcc q1931 (Or.inr hy_Node_work) rfl rfl (Nat.le_of_ble_eq_true rfl) rfl hW hF hT kr kt
      · exact c_invV (vs := [.ref (w.1 3)]) dX30_act_27 oX18_work q1354 q1341 hcc q1929 (Or.inr hy_Node_work) rfl rfl (Nat.le_of_ble_eq_true rfl) rfl hW hF hT kr kt
      · exact c_invV (vs := [.ref (w.1 3)]) dX30_act_27 oX20_work q1345 q1341 hcc q1344 (Or.inr hy_Node_work) rfl rfl (Nat.le_of_ble_eq_true rfl) rfl hW hF hT kr kt
      · exact c_invV (vs := [.ref (w.1 3)]) dX30_act_27 oX21_work q1348 q1341 hcc q1927 (Or.inr hy_Node_work) rfl rfl (Nat.le_of_ble_eq_true rfl) rfl hW hF hT kr kt
      · exact c_invV (vs := [.ref (w.1 3)]) dX30_act_27 oX22_work q1357 q1341 hcc q1930 (Or.inr hy_Node_work) rfl rfl (Nat.le_of_ble_eq_true rfl) rfl hW hF hT kr kt
      · exact c_invV (vs := [.ref (w.1 3)]) dX30_act_27 oX23_work q1370 q1341 hcc q1932 (Or.inr hy_Node_work) rfl rfl (Nat.le_of_ble_eq_true rfl) rfl hW hF hT kr kt
      · exact c_invV (vs := [.ref (w.1 3)]) dX30_act_27 oX24_work q1373 q1341 hcc q1933 (Or.inr hy_Node_work) rfl rfl (Nat.le_of_ble_eq_true rfl) rfl hW hF hT kr kt
      · exact c_invV (vs := [.ref (w.1 3)]) dX30_act_27 oX25_work q1351 q1341 hcc q1928 (Or.inr hy_Node_work) rfl rfl (Nat.le_of_ble_eq_true rfl) rfl hW hF hT kr kt
  · subst e
    replace hT := hT.2 a2 rfl
    refine x_aload_n dX30_act_7 rfl rfl rfl ?_
    obtain ⟨hc, hT⟩ := hT
    obtain ⟨v35, ev, iv35, hT⟩ := hT
    refine c_fgetG dX30_act_8 f_TallySlate_Assign_7 hc (by decide) (by decide) hW ev ?_
    refine x_aload_n dX30_act_11 rfl rfl rfl ?_
    obtain ⟨a38, rfl, hT⟩ := hT
    obtain ⟨P72, hP, k71, hc, hT⟩ := hT
    have kr : ∀ r s36 f37, P72 (.inl r) s36 f37 → ∀ h, CW E w s36 f37 h → Frz f0 f37 → Ex l E (d + 1) MX30_act (12 + 3) [some (.ref x0), some (.ref (w.1 3))] (r.toList ++ []) h (PoC E w f0 Q) := by
      intro r s36 f37 h0 h hW hF
      have hT := hP _ _ _ h0
      clear h0
      obtain ⟨rfl, hT⟩ := hT
      refine x_aload_n dX30_act_15 rfl rfl rfl ?_
      obtain ⟨hc, hT⟩ := hT
      obtain ⟨v39, ev, iv39, hT⟩ := hT
      refine c_fgetG dX30_act_16 f_TallySlate_Assign_19 hc (by decide) (by decide) hW ev ?_
      refine x_ifnull (tgt := 30) dX30_act_19 rfl iv39 (fun e => ?_) (fun a40 e => ?_)
      · subst e
        replace hT := hT.1 rfl
        refine x_aload_n dX30_act_30 rfl rfl rfl ?_
        obtain ⟨hc, hT⟩ := hT
        obtain ⟨a41, ev, hT⟩ := hT
        refine c_fgetG dX30_act_31 f_TallySlate_Assign_22 hc (by decide) (by decide) hW ev ?_
        refine x_aload_n dX30_act_34 rfl rfl rfl ?_
        obtain ⟨P52, hP, k51, hc, hT⟩ := hT
        have kr : ∀ r s42 f43, P52 (.inl r) s42 f43 → ∀ h, CW E w s42 f43 h → Frz f0 f43 → Ex l E (d + 1) MX30_act (35 + 3) [some (.ref x0), some (.ref (w.1 3))] (r.toList ++ []) h (PoC E w f0 Q) := by
          intro r s42 f43 h0 h hW hF
          have hT := hP _ _ _ h0
          clear h0
          obtain ⟨rfl, hT⟩ := hT
          refine x_aload_n dX30_act_38 rfl rfl rfl ?_
          obtain ⟨hc, hT⟩ := hT
          obtain ⟨v44, ev, iv44, hT⟩ := hT
          refine c_fgetG dX30_act_39 f_TallySlate_Assign_7 hc (by decide) (by decide) hW ev ?_
          refine x_ifnonnull (tgt := 56) dX30_act_42 rfl iv44 (fun a45 e => ?_) (fun e => ?_)
          · subst e
            replace hT := hT.2 a45 rfl
            refine x_aload_n dX30_act_56 rfl rfl rfl ?_
            refine x_aload_n dX30_act_57 rfl rfl rfl ?_
            obtain ⟨-, -, cc, hcc, -⟩ := hW.ob 3 (by decide)
            refine c_invV (vs := [.ref x0]) dX30_act_58 oX3_change q1943 q1942 hcc q1944 (Or.inl rfl) rfl rfl (Nat.le_of_ble_eq_true rfl) rfl hW hF hT ?_ ?_
            · intro _ s49 f50 hT h hW hF
              obtain ⟨rfl, hT⟩ := hT
              refine x_iconst (v := 0) dX30_act_61 rfl ?_
              exact x_iret dX30_act_62 rfl rfl ⟨_, _, hW, hF, Or.inl ⟨_, rfl, hT⟩⟩
            · intro k s49 f50 hT h a hW hx hF
              exact c_out (rfl) hW hx hF hT
          · subst e
            replace hT := hT.1 rfl
            refine x_aload_n dX30_act_45 rfl rfl rfl ?_
            refine x_aload_n dX30_act_46 rfl rfl rfl ?_
            obtain ⟨hc, hT⟩ := hT
            obtain ⟨v46, ev, hT⟩ := hT
            refine c_fgetG dX30_act_47 f_TallySlate_Assign_25 hc (by decide) (by decide) hW ev ?_
            obtain ⟨-, -, cc, hcc, -⟩ := hW.ob 3 (by decide)
            refine c_invV (vs := [.int v46]) dX30_act_50 oX3_put q1935 q1934 hcc q1936 (Or.inl rfl) rfl rfl (Nat.le_of_ble_eq_true rfl) rfl hW hF hT ?_ ?_
            · intro _ s47 f48 hT h hW hF
              obtain ⟨rfl, hT⟩ := hT
              refine x_goto (tgt := 61) dX30_act_53 rfl ?_
              refine x_iconst (v := 0) dX30_act_61 rfl ?_
              exact x_iret dX30_act_62 rfl rfl ⟨_, _, hW, hF, Or.inl ⟨_, rfl, hT⟩⟩
            · intro k s47 f48 hT h a hW hx hF
              exact c_out (rfl) hW hx hF hT
        have kt : ∀ k s42 f43, P52 (.inr k) s42 f43 → ∀ h a, CW E w s42 f43 h → xA w h k a → Frz f0 f43 → ExT l E (d + 1) MX30_act 35 [some (.ref x0), some (.ref (w.1 3))] [] a h (PoC E w f0 Q) := by
          intro k s42 f43 h0 h a hW hx hF
          have hT := hP _ _ _ h0
          clear h0
          exact c_out (rfl) hW hx hF hT
        obtain ⟨cc, hcc⟩ := hW.ocell hc
        rcases hT with ⟨rfl, hT⟩ | ⟨rfl, hT⟩ | ⟨rfl, hT⟩ | ⟨rfl, hT⟩ | ⟨rfl, hT⟩ | ⟨rfl, hT⟩ | ⟨rfl, hT⟩ | ⟨rfl, hT⟩
        · exact c_invV (vs := [.ref (w.1 3)]) dX30_act_35 oX17_work q1367 q1341 hcc q1931 (Or.inr hy_Node_work) rfl rfl (Nat.le_of_ble_eq_true rfl) rfl hW hF hT kr kt
        · exact c_invV (vs := [.ref (w.1 3)]) dX30_act_35 oX18_work q1354 q1341 hcc q1929 (Or.inr hy_Node_work) rfl rfl (Nat.le_of_ble_eq_true rfl) rfl hW hF hT kr kt
        · exact c_invV (vs := [.ref (w.1 3)]) dX30_act_35 oX20_work q1345 q1341 hcc q1344 (Or.inr hy_Node_work) rfl rfl (Nat.le_of_ble_eq_true rfl) rfl hW hF hT kr kt
        · exact c_invV (vs := [.ref (w.1 3)]) dX30_act_35 oX21_work q1348 q1341 hcc q1927 (Or.inr hy_Node_work) rfl rfl (Nat.le_of_ble_eq_true rfl) rfl hW hF hT kr kt
        · exact c_invV (vs := [.ref (w.1 3)]) dX30_act_35 oX22_work q1357 q1341 hcc q1930 (Or.inr hy_Node_work) rfl rfl (Nat.le_of_ble_eq_true rfl) rfl hW hF hT kr kt
        · exact c_invV (vs := [.ref (w.1 3)]) dX30_act_35 oX23_work q1370 q1341 hcc q1932 (Or.inr hy_Node_work) rfl rfl (Nat.le_of_ble_eq_true rfl) rfl hW hF hT kr kt
        · exact c_invV (vs := [.ref (w.1 3)]) dX30_act_35 oX24_work q1373 q1341 hcc q1933 (Or.inr hy_Node_work) rfl rfl (Nat.le_of_ble_eq_true rfl) rfl hW hF hT kr kt
        · exact c_invV (vs := [.ref (w.1 3)]) dX30_act_35 oX25_work q1351 q1341 hcc q1928 (Or.inr hy_Node_work) rfl rfl (Nat.le_of_ble_eq_true rfl) rfl hW hF hT kr kt
      · subst e
        replace hT := hT.2 a40 rfl
        refine x_aload_n dX30_act_22 rfl rfl rfl ?_
        obtain ⟨hc, hT⟩ := hT
        obtain ⟨v53, ev, iv53, hT⟩ := hT
        refine c_fgetG dX30_act_23 f_TallySlate_Assign_19 hc (by decide) (by decide) hW ev ?_
        refine x_aload_n dX30_act_26 rfl rfl rfl ?_
        obtain ⟨a56, rfl, hT⟩ := hT
        obtain ⟨P70, hP, k69, hc, hT⟩ := hT
        have kr : ∀ r s54 f55, P70 (.inl r) s54 f55 → ∀ h, CW E w s54 f55 h → Frz f0 f55 → Ex l E (d + 1) MX30_act (27 + 3) [some (.ref x0), some (.ref (w.1 3))] (r.toList ++ []) h (PoC E w f0 Q) := by
          intro r s54 f55 h0 h hW hF
          have hT := hP _ _ _ h0
          clear h0
          obtain ⟨rfl, hT⟩ := hT
          refine x_aload_n dX30_act_30 rfl rfl rfl ?_
          obtain ⟨hc, hT⟩ := hT
          obtain ⟨a57, ev, hT⟩ := hT
          refine c_fgetG dX30_act_31 f_TallySlate_Assign_22 hc (by decide) (by decide) hW ev ?_
          refine x_aload_n dX30_act_34 rfl rfl rfl ?_
          obtain ⟨P68, hP, k67, hc, hT⟩ := hT
          have kr : ∀ r s58 f59, P68 (.inl r) s58 f59 → ∀ h, CW E w s58 f59 h → Frz f0 f59 → Ex l E (d + 1) MX30_act (35 + 3) [some (.ref x0), some (.ref (w.1 3))] (r.toList ++ []) h (PoC E w f0 Q) := by
            intro r s58 f59 h0 h hW hF
            have hT := hP _ _ _ h0
            clear h0
            obtain ⟨rfl, hT⟩ := hT
            refine x_aload_n dX30_act_38 rfl rfl rfl ?_
            obtain ⟨hc, hT⟩ := hT
            obtain ⟨v60, ev, iv60, hT⟩ := hT
            refine c_fgetG dX30_act_39 f_TallySlate_Assign_7 hc (by decide) (by decide) hW ev ?_
            refine x_ifnonnull (tgt := 56) dX30_act_42 rfl iv60 (fun a61 e => ?_) (fun e => ?_)
            · subst e
              replace hT := hT.2 a61 rfl
              refine x_aload_n dX30_act_56 rfl rfl rfl ?_
              refine x_aload_n dX30_act_57 rfl rfl rfl ?_
              obtain ⟨-, -, cc, hcc, -⟩ := hW.ob 3 (by decide)
              refine c_invV (vs := [.ref x0]) dX30_act_58 oX3_change q1943 q1942 hcc q1944 (Or.inl rfl) rfl rfl (Nat.le_of_ble_eq_true rfl) rfl hW hF hT ?_ ?_
              · intro _ s65 f66 hT h hW hF
                obtain ⟨rfl, hT⟩ := hT
                refine x_iconst (v := 0) dX30_act_61 rfl ?_
                exact x_iret dX30_act_62 rfl rfl ⟨_, _, hW, hF, Or.inl ⟨_, rfl, hT⟩⟩
              · intro k s65 f66 hT h a hW hx hF
                exact c_out (rfl) hW hx hF hT
            · subst e
              replace hT := hT.1 rfl
              refine x_aload_n dX30_act_45 rfl rfl rfl ?_
              refine x_aload_n dX30_act_46 rfl rfl rfl ?_
              obtain ⟨hc, hT⟩ := hT
              obtain ⟨v62, ev, hT⟩ := hT
              refine c_fgetG dX30_act_47 f_TallySlate_Assign_25 hc (by decide) (by decide) hW ev ?_
              obtain ⟨-, -, cc, hcc, -⟩ := hW.ob 3 (by decide)
              refine c_invV (vs := [.int v62]) dX30_act_50 oX3_put q1935 q1934 hcc q1936 (Or.inl rfl) rfl rfl (Nat.le_of_ble_eq_true rfl) rfl hW hF hT ?_ ?_
              · intro _ s63 f64 hT h hW hF
                obtain ⟨rfl, hT⟩ := hT
                refine x_goto (tgt := 61) dX30_act_53 rfl ?_
                refine x_iconst (v := 0) dX30_act_61 rfl ?_
                exact x_iret dX30_act_62 rfl rfl ⟨_, _, hW, hF, Or.inl ⟨_, rfl, hT⟩⟩
              · intro k s63 f64 hT h a hW hx hF
                exact c_out (rfl) hW hx hF hT
          have kt : ∀ k s58 f59, P68 (.inr k) s58 f59 → ∀ h a, CW E w s58 f59 h → xA w h k a → Frz f0 f59 → ExT l E (d + 1) MX30_act 35 [some (.ref x0), some (.ref (w.1 3))] [] a h (PoC E w f0 Q) := by
            intro k s58 f59 h0 h a hW hx hF
            have hT := hP _ _ _ h0
            clear h0
            exact c_out (rfl) hW hx hF hT
          obtain ⟨cc, hcc⟩ := hW.ocell hc
          rcases hT with ⟨rfl, hT⟩ | ⟨rfl, hT⟩ | ⟨rfl, hT⟩ | ⟨rfl, hT⟩ | ⟨rfl, hT⟩ | ⟨rfl, hT⟩ | ⟨rfl, hT⟩ | ⟨rfl, hT⟩
          · exact c_invV (vs := [.ref (w.1 3)]) dX30_act_35 oX17_work q1367 q1341 hcc q1931 (Or.inr hy_Node_work) rfl rfl (Nat.le_of_ble_eq_true rfl) rfl hW hF hT kr kt
          · exact c_invV (vs := [.ref (w.1 3)]) dX30_act_35 oX18_work q1354 q1341 hcc q1929 (Or.inr hy_Node_work) rfl rfl (Nat.le_of_ble_eq_true rfl) rfl hW hF hT kr kt
          · exact c_invV (vs := [.ref (w.1 3)]) dX30_act_35 oX20_work q1345 q1341 hcc q1344 (Or.inr hy_Node_work) rfl rfl (Nat.le_of_ble_eq_true rfl) rfl hW hF hT kr kt
          · exact c_invV (vs := [.ref (w.1 3)]) dX30_act_35 oX21_work q1348 q1341 hcc q1927 (Or.inr hy_Node_work) rfl rfl (Nat.le_of_ble_eq_true rfl) rfl hW hF hT kr kt
          · exact c_invV (vs := [.ref (w.1 3)]) dX30_act_35 oX22_work q1357 q1341 hcc q1930 (Or.inr hy_Node_work) rfl rfl (Nat.le_of_ble_eq_true rfl) rfl hW hF hT kr kt
          · exact c_invV (vs := [.ref (w.1 3)]) dX30_act_35 oX23_work q1370 q1341 hcc q1932 (Or.inr hy_Node_work) rfl rfl (Nat.le_of_ble_eq_true rfl) rfl hW hF hT kr kt
          · exact c_invV (vs := [.ref (w.1 3)]) dX30_act_35 oX24_work q1373 q1341 hcc q1933 (Or.inr hy_Node_work) rfl rfl (Nat.le_of_ble_eq_true rfl) rfl hW hF hT kr kt
          · exact c_invV (vs := [.ref (w.1 3)]) dX30_act_35 oX25_work q1351 q1341 hcc q1928 (Or.inr hy_Node_work) rfl rfl (Nat.le_of_ble_eq_true rfl) rfl hW hF hT kr kt
        have kt : ∀ k s54 f55, P70 (.inr k) s54 f55 → ∀ h a, CW E w s54 f55 h → xA w h k a → Frz f0 f55 → ExT l E (d + 1) MX30_act 27 [some (.ref x0), some (.ref (w.1 3))] [] a h (PoC E w f0 Q) := by
          intro k s54 f55 h0 h a hW hx hF
          have hT := hP _ _ _ h0
          clear h0
          exact c_out (rfl) hW hx hF hT
        obtain ⟨cc, hcc⟩ := hW.ocell hc
        rcases hT with ⟨rfl, hT⟩ | ⟨rfl, hT⟩ | ⟨rfl, hT⟩ | ⟨rfl, hT⟩ | ⟨rfl, hT⟩ | ⟨rfl, hT⟩ | ⟨rfl, hT⟩ | ⟨rfl, hT⟩
        · exact c_invV (vs := [.ref (w.1 3)]) dX30_act_27 oX17_work q1367 q1341 hcc q1931 (Or.inr hy_Node_work) rfl rfl (Nat.le_of_ble_eq_true rfl) rfl hW hF hT kr kt
        · exact c_invV (vs := [.ref (w.1 3)]) dX30_act_27 oX18_work q1354 q1341 hcc q1929 (Or.inr hy_Node_work) rfl rfl (Nat.le_of_ble_eq_true rfl) rfl hW hF hT kr kt
        · exact c_invV (vs := [.ref (w.1 3)]) dX30_act_27 oX20_work q1345 q1341 hcc q1344 (Or.inr hy_Node_work) rfl rfl (Nat.le_of_ble_eq_true rfl) rfl hW hF hT kr kt
        · exact c_invV (vs := [.ref (w.1 3)]) dX30_act_27 oX21_work q1348 q1341 hcc q1927 (Or.inr hy_Node_work) rfl rfl (Nat.le_of_ble_eq_true rfl) rfl hW hF hT kr kt
        · exact c_invV (vs := [.ref (w.1 3)]) dX30_act_27 oX22_work q1357 q1341 hcc q1930 (Or.inr hy_Node_work) rfl rfl (Nat.le_of_ble_eq_true rfl) rfl hW hF hT kr kt
        · exact c_invV (vs := [.ref (w.1 3)]) dX30_act_27 oX23_work q1370 q1341 hcc q1932 (Or.inr hy_Node_work) rfl rfl (Nat.le_of_ble_eq_true rfl) rfl hW hF hT kr kt
        · exact c_invV (vs := [.ref (w.1 3)]) dX30_act_27 oX24_work q1373 q1341 hcc q1933 (Or.inr hy_Node_work) rfl rfl (Nat.le_of_ble_eq_true rfl) rfl hW hF hT kr kt
        · exact c_invV (vs := [.ref (w.1 3)]) dX30_act_27 oX25_work q1351 q1341 hcc q1928 (Or.inr hy_Node_work) rfl rfl (Nat.le_of_ble_eq_true rfl) rfl hW hF hT kr kt
    have kt : ∀ k s36 f37, P72 (.inr k) s36 f37 → ∀ h a, CW E w s36 f37 h → xA w h k a → Frz f0 f37 → ExT l E (d + 1) MX30_act 12 [some (.ref x0), some (.ref (w.1 3))] [] a h (PoC E w f0 Q) := by
      intro k s36 f37 h0 h a hW hx hF
      have hT := hP _ _ _ h0
      clear h0
      exact c_out (rfl) hW hx hF hT
    obtain ⟨cc, hcc⟩ := hW.ocell hc
    rcases hT with ⟨rfl, hT⟩ | ⟨rfl, hT⟩ | ⟨rfl, hT⟩ | ⟨rfl, hT⟩ | ⟨rfl, hT⟩ | ⟨rfl, hT⟩ | ⟨rfl, hT⟩ | ⟨rfl, hT⟩
    · exact c_invV (vs := [.ref (w.1 3)]) dX30_act_12 oX17_work q1367 q1341 hcc q1931 (Or.inr hy_Node_work) rfl rfl (Nat.le_of_ble_eq_true rfl) rfl hW hF hT kr kt
    · exact c_invV (vs := [.ref (w.1 3)]) dX30_act_12 oX18_work q1354 q1341 hcc q1929 (Or.inr hy_Node_work) rfl rfl (Nat.le_of_ble_eq_true rfl) rfl hW hF hT kr kt
    · exact c_invV (vs := [.ref (w.1 3)]) dX30_act_12 oX20_work q1345 q1341 hcc q1344 (Or.inr hy_Node_work) rfl rfl (Nat.le_of_ble_eq_true rfl) rfl hW hF hT kr kt
    · exact c_invV (vs := [.ref (w.1 3)]) dX30_act_12 oX21_work q1348 q1341 hcc q1927 (Or.inr hy_Node_work) rfl rfl (Nat.le_of_ble_eq_true rfl) rfl hW hF hT kr kt
    · exact c_invV (vs := [.ref (w.1 3)]) dX30_act_12 oX22_work q1357 q1341 hcc q1930 (Or.inr hy_Node_work) rfl rfl (Nat.le_of_ble_eq_true rfl) rfl hW hF hT kr kt
    · exact c_invV (vs := [.ref (w.1 3)]) dX30_act_12 oX23_work q1370 q1341 hcc q1932 (Or.inr hy_Node_work) rfl rfl (Nat.le_of_ble_eq_true rfl) rfl hW hF hT kr kt
    · exact c_invV (vs := [.ref (w.1 3)]) dX30_act_12 oX24_work q1373 q1341 hcc q1933 (Or.inr hy_Node_work) rfl rfl (Nat.le_of_ble_eq_true rfl) rfl hW hF hT kr kt
    · exact c_invV (vs := [.ref (w.1 3)]) dX30_act_12 oX25_work q1351 q1341 hcc q1928 (Or.inr hy_Node_work) rfl rfl (Nat.le_of_ble_eq_true rfl) rfl hW hF hT kr kt
theorem eX30_act {l : Launch} {E : EN} {w : CO} {d : Nat} {s : CS} {f : RH} {Q : KO → CS → RH → Prop} {x0 : Nat}  (hst : l.stackTraces = false) (hT : (oc f x0 28 ∧ (∃ v1 : Value, vl f x0 200 = v1 ∧ isR v1 = true ∧ ((v1 = .null → (oc f x0 28 ∧ (∃ v3 : Value, vl f x0 201 = v3 ∧ isR v3 = true ∧ ((v3 = .null → (oc f x0 28 ∧ (∃ a5 : Nat, vl f x0 202 = .ref a5 ∧ (∃ P16 : KO → CS → RH → Prop, (∀ o s6 f7, P16 o s6 f7 → KP o (fun r => r = none ∧ (oc f7 x0 28 ∧ (∃ v8 : Value, vl f7 x0 200 = v8 ∧ isR v8 = true ∧ ((v8 = .null → (oc f7 x0 28 ∧ (∃ v10 : Int32, vl f7 x0 196 = .int v10 ∧ (EvC l E w d MX3_put [.ref (w.1 3), .int v10] s6 f7 (fun o s11 f12 => KP o (fun r => r = none ∧ Q (.inl (some (.int 0))) s11 f12) (fun k => Q (.inr k) s11 f12)))))) ∧ (∀ a9 : Nat, v8 = .ref a9 → (EvC l E w d MX3_change [.ref (w.1 3), .ref x0] s6 f7 (fun o s13 f14 => KP o (fun r => r = none ∧ Q (.inl (some (.int 0))) s13 f14) (fun k => Q (.inr k) s13 f14)))))))) (fun k => Q (.inr k) s6 f7)) ∧ ∃ k15 : Nat, oc f a5 k15 ∧ ((k15 = 15 ∧ EvC l E w d MX17_work [.ref a5, .ref (w.1 3)] s f P16) ∨ (k15 = 16 ∧ EvC l E w d MX18_work [.ref a5, .ref (w.1 3)] s f P16) ∨ (k15 = 18 ∧ EvC l E w d MX20_work [.ref a5, .ref (w.1 3)] s f P16) ∨ (k15 = 19 ∧ EvC l E w d MX21_work [.ref a5, .ref (w.1 3)] s f P16) ∨ (k15 = 20 ∧ EvC l E w d MX22_work [.ref a5, .ref (w.1 3)] s f P16) ∨ (k15 = 21 ∧ EvC l E w d MX23_work [.ref a5, .ref (w.1 3)] s f P16) ∨ (k15 = 22 ∧ EvC l E w d MX24_work [.ref a5, .ref (w.1 3)] s f P16) ∨ (k15 = 23 ∧ EvC l E w d MX25_work [.ref a5, .ref (w.1 3)] s f P16)))))) ∧ (∀ a4 : Nat, v3 = .ref a4 → (oc f x0 28 ∧ (∃ v17 : Value, vl f x0 201 = v17 ∧ isR v17 = true ∧ (∃ a20 : Nat, v17 = .ref a20 ∧ (∃ P34 : KO → CS → RH → Prop, (∀ o s18 f19, P34 o s18 f19 → KP o (fun r => r = none ∧ (oc f19 x0 28 ∧ (∃ a21 : Nat, vl f19 x0 202 = .ref a21 ∧ (∃ P32 : KO → CS → RH → Prop, (∀ o s22 f23, P32 o s22 f23 → KP o (fun r => r = none ∧ (oc f23 x0 28 ∧ (∃ v24 : Value, vl f23 x0 200 = v24 ∧ isR v24 = true ∧ ((v24 = .null → (oc f23 x0 28 ∧ (∃ v26 : Int32, vl f23 x0 196 = .int v26 ∧ (EvC l E w d MX3_put [.ref (w.1 3), .int v26] s22 f23 (fun o s27 f28 => KP o (fun r => r = none ∧ Q (.inl (some (.int 0))) s27 f28) (fun k => Q (.inr k) s27 f28)))))) ∧ (∀ a25 : Nat, v24 = .ref a25 → (EvC l E w d MX3_change [.ref (w.1 3), .ref x0] s22 f23 (fun o s29 f30 => KP o (fun r => r = none ∧ Q (.inl (some (.int 0))) s29 f30) (fun k => Q (.inr k) s29 f30)))))))) (fun k => Q (.inr k) s22 f23)) ∧ ∃ k31 : Nat, oc f19 a21 k31 ∧ ((k31 = 15 ∧ EvC l E w d MX17_work [.ref a21, .ref (w.1 3)] s18 f19 P32) ∨ (k31 = 16 ∧ EvC l E w d MX18_work [.ref a21, .ref (w.1 3)] s18 f19 P32) ∨ (k31 = 18 ∧ EvC l E w d MX20_work [.ref a21, .ref (w.1 3)] s18 f19 P32) ∨ (k31 = 19 ∧ EvC l E w d MX21_work [.ref a21, .ref (w.1 3)] s18 f19 P32) ∨ (k31 = 20 ∧ EvC l E w d MX22_work [.ref a21, .ref (w.1 3)] s18 f19 P32) ∨ (k31 = 21 ∧ EvC l E w d MX23_work [.ref a21, .ref (w.1 3)] s18 f19 P32) ∨ (k31 = 22 ∧ EvC l E w d MX24_work [.ref a21, .ref (w.1 3)] s18 f19 P32) ∨ (k31 = 23 ∧ EvC l E w d MX25_work [.ref a21, .ref (w.1 3)] s18 f19 P32)))))) (fun k => Q (.inr k) s18 f19)) ∧ ∃ k33 : Nat, oc f a20 k33 ∧ ((k33 = 15 ∧ EvC l E w d MX17_work [.ref a20, .ref (w.1 3)] s f P34) ∨ (k33 = 16 ∧ EvC l E w d MX18_work [.ref a20, .ref (w.1 3)] s f P34) ∨ (k33 = 18 ∧ EvC l E w d MX20_work [.ref a20, .ref (w.1 3)] s f P34) ∨ (k33 = 19 ∧ EvC l E w d MX21_work [.ref a20, .ref (w.1 3)] s f P34) ∨ (k33 = 20 ∧ EvC l E w d MX22_work [.ref a20, .ref (w.1 3)] s f P34) ∨ (k33 = 21 ∧ EvC l E w d MX23_work [.ref a20, .ref (w.1 3)] s f P34) ∨ (k33 = 22 ∧ EvC l E w d MX24_work [.ref a20, .ref (w.1 3)] s f P34) ∨ (k33 = 23 ∧ EvC l E w d MX25_work [.ref a20, .ref (w.1 3)] s f P34))))))))))) ∧ (∀ a2 : Nat, v1 = .ref a2 → (oc f x0 28 ∧ (∃ v35 : Value, vl f x0 200 = v35 ∧ isR v35 = true ∧ (∃ a38 : Nat, v35 = .ref a38 ∧ (∃ P72 : KO → CS → RH → Prop, (∀ o s36 f37, P72 o s36 f37 → KP o (fun r => r = none ∧ (oc f37 x0 28 ∧ (∃ v39 : Value, vl f37 x0 201 = v39 ∧ isR v39 = true ∧ ((v39 = .null → (oc f37 x0 28 ∧ (∃ a41 : Nat, vl f37 x0 202 = .ref a41 ∧ (∃ P52 : KO → CS → RH → Prop, (∀ o s42 f43, P52 o s42 f43 → KP o (fun r => r = none ∧ (oc f43 x0 28 ∧ (∃ v44 : Value, vl f43 x0 200 = v44 ∧ isR v44 = true ∧ ((v44 = .null → (oc f43 x0 28 ∧ (∃ v46 : Int32, vl f43 x0 196 = .int v46 ∧ (EvC l E w d MX3_put [.ref (w.1 3), .int v46] s42 f43 (fun o s47 f48 => KP o (fun r => r = none ∧ Q (.inl (some (.int 0))) s47 f48) (fun k => Q (.inr k) s47 f48)))))) ∧ (∀ a45 : Nat, v44 = .ref a45 → (EvC l E w d MX3_change [.ref (w.1 3), .ref x0] s42 f43 (fun o s49 f50 => KP o (fun r => r = none ∧ Q (.inl (some (.int 0))) s49 f50) (fun k => Q (.inr k) s49 f50)))))))) (fun k => Q (.inr k) s42 f43)) ∧ ∃ k51 : Nat, oc f37 a41 k51 ∧ ((k51 = 15 ∧ EvC l E w d MX17_work [.ref a41, .ref (w.1 3)] s36 f37 P52) ∨ (k51 = 16 ∧ EvC l E w d MX18_work [.ref a41, .ref (w.1 3)] s36 f37 P52) ∨ (k51 = 18 ∧ EvC l E w d MX20_work [.ref a41, .ref (w.1 3)] s36 f37 P52) ∨ (k51 = 19 ∧ EvC l E w d MX21_work [.ref a41, .ref (w.1 3)] s36 f37 P52) ∨ (k51 = 20 ∧ EvC l E w d MX22_work [.ref a41, .ref (w.1 3)] s36 f37 P52) ∨ (k51 = 21 ∧ EvC l E w d MX23_work [.ref a41, .ref (w.1 3)] s36 f37 P52) ∨ (k51 = 22 ∧ EvC l E w d MX24_work [.ref a41, .ref (w.1 3)] s36 f37 P52) ∨ (k51 = 23 ∧ EvC l E w d MX25_work [.ref a41, .ref (w.1 3)] s36 f37 P52)))))) ∧ (∀ a40 : Nat, v39 = .ref a40 → (oc f37 x0 28 ∧ (∃ v53 : Value, vl f37 x0 201 = v53 ∧ isR v53 = true ∧ (∃ a56 : Nat, v53 = .ref a56 ∧ (∃ P70 : KO → CS → RH → Prop, (∀ o s54 f55, P70 o s54 f55 → KP o (fun r => r = none ∧ (oc f55 x0 28 ∧ (∃ a57 : Nat, vl f55 x0 202 = .ref a57 ∧ (∃ P68 : KO → CS → RH → Prop, (∀ o s58 f59, P68 o s58 f59 → KP o (fun r => r = none ∧ (oc f59 x0 28 ∧ (∃ v60 : Value, vl f59 x0 200 = v60 ∧ isR v60 = true ∧ ((v60 = .null → (oc f59 x0 28 ∧ (∃ v62 : Int32, vl f59 x0 196 = .int v62 ∧ (EvC l E w d MX3_put [.ref (w.1 3), .int v62] s58 f59 (fun o s63 f64 => KP o (fun r => r = none ∧ Q (.inl (some (.int 0))) s63 f64) (fun k => Q (.inr k) s63 f64)))))) ∧ (∀ a61 : Nat, v60 = .ref a61 → (EvC l E w d MX3_change [.ref (w.1 3), .ref x0] s58 f59 (fun o s65 f66 => KP o (fun r => r = none ∧ Q (.inl (some (.int 0))) s65 f66) (fun k => Q (.inr k) s65 f66)))))))) (fun k => Q (.inr k) s58 f59)) ∧ ∃ k67 : Nat, oc f55 a57 k67 ∧ ((k67 = 15 ∧ EvC l E w d MX17_work [.ref a57, .ref (w.1 3)] s54 f55 P68) ∨ (k67 = 16 ∧ EvC l E w d MX18_work [.ref a57, .ref (w.1 3)] s54 f55 P68) ∨ (k67 = 18 ∧ EvC l E w d MX20_work [.ref a57, .ref (w.1 3)] s54 f55 P68) ∨ (k67 = 19 ∧ EvC l E w d MX21_work [.ref a57, .ref (w.1 3)] s54 f55 P68) ∨ (k67 = 20 ∧ EvC l E w d MX22_work [.ref a57, .ref (w.1 3)] s54 f55 P68) ∨ (k67 = 21 ∧ EvC l E w d MX23_work [.ref a57, .ref (w.1 3)] s54 f55 P68) ∨ (k67 = 22 ∧ EvC l E w d MX24_work [.ref a57, .ref (w.1 3)] s54 f55 P68) ∨ (k67 = 23 ∧ EvC l E w d MX25_work [.ref a57, .ref (w.1 3)] s54 f55 P68)))))) (fun k => Q (.inr k) s54 f55)) ∧ ∃ k69 : Nat, oc f37 a56 k69 ∧ ((k69 = 15 ∧ EvC l E w d MX17_work [.ref a56, .ref (w.1 3)] s36 f37 P70) ∨ (k69 = 16 ∧ EvC l E w d MX18_work [.ref a56, .ref (w.1 3)] s36 f37 P70) ∨ (k69 = 18 ∧ EvC l E w d MX20_work [.ref a56, .ref (w.1 3)] s36 f37 P70) ∨ (k69 = 19 ∧ EvC l E w d MX21_work [.ref a56, .ref (w.1 3)] s36 f37 P70) ∨ (k69 = 20 ∧ EvC l E w d MX22_work [.ref a56, .ref (w.1 3)] s36 f37 P70) ∨ (k69 = 21 ∧ EvC l E w d MX23_work [.ref a56, .ref (w.1 3)] s36 f37 P70) ∨ (k69 = 22 ∧ EvC l E w d MX24_work [.ref a56, .ref (w.1 3)] s36 f37 P70) ∨ (k69 = 23 ∧ EvC l E w d MX25_work [.ref a56, .ref (w.1 3)] s36 f37 P70))))))))))) (fun k => Q (.inr k) s36 f37)) ∧ ∃ k71 : Nat, oc f a38 k71 ∧ ((k71 = 15 ∧ EvC l E w d MX17_work [.ref a38, .ref (w.1 3)] s f P72) ∨ (k71 = 16 ∧ EvC l E w d MX18_work [.ref a38, .ref (w.1 3)] s f P72) ∨ (k71 = 18 ∧ EvC l E w d MX20_work [.ref a38, .ref (w.1 3)] s f P72) ∨ (k71 = 19 ∧ EvC l E w d MX21_work [.ref a38, .ref (w.1 3)] s f P72) ∨ (k71 = 20 ∧ EvC l E w d MX22_work [.ref a38, .ref (w.1 3)] s f P72) ∨ (k71 = 21 ∧ EvC l E w d MX23_work [.ref a38, .ref (w.1 3)] s f P72) ∨ (k71 = 22 ∧ EvC l E w d MX24_work [.ref a38, .ref (w.1 3)] s f P72) ∨ (k71 = 23 ∧ EvC l E w d MX25_work [.ref a38, .ref (w.1 3)] s f P72))))))))))) : EvC l E w (d + 1) MX30_act [.ref x0, .ref (w.1 3)] s f Q :=
  EvC.of hst (by decide) (Nat.le_of_ble_eq_true rfl) (vX30_act_0  hT)
theorem vX31_init_0 {l : Launch} {E : EN} {w : CO} {d : Nat} {s : CS} {f : RH} {Q : KO → CS → RH → Prop} {x0 : Nat}  (hT : Q (.inl none) s f) : ExC l E w d MX31_init 0 [some (.ref x0)] [] s f Q := by
  intro f0 h hW hF
  refine x_aload_n dX31_init_0 rfl rfl rfl ?_
  refine x_objInit dX31_init_1 q1401 q219 q220 (Nat.le_of_ble_eq_true rfl) rfl ?_
  exact x_vret dX31_init_4 rfl ⟨_, _, hW, hF, Or.inl ⟨_, rfl, hT⟩⟩
theorem eX31_init {l : Launch} {E : EN} {w : CO} {d : Nat} {s : CS} {f : RH} {Q : KO → CS → RH → Prop} {x0 : Nat}  (hst : l.stackTraces = false) (hT : Q (.inl none) s f) : EvC l E w d MX31_init [.ref x0] s f Q :=
  EvC.of hst (by decide) (Nat.le_of_ble_eq_true rfl) (vX31_init_0  hT)
theorem vX31_depth_0 {l : Launch} {E : EN} {w : CO} {d : Nat} {s : CS} {f : RH} {Q : KO → CS → RH → Prop} {x0 : Nat}  (hT : Q (.inl (some (.int 0))) s f) : ExC l E w d MX31_depth 0 [some (.ref x0)] [] s f Q := by
  intro f0 h hW hF
  refine x_iconst (v := 0) dX31_depth_0 rfl ?_
  exact x_iret dX31_depth_1 rfl rfl ⟨_, _, hW, hF, Or.inl ⟨_, rfl, hT⟩⟩
theorem eX31_depth {l : Launch} {E : EN} {w : CO} {d : Nat} {s : CS} {f : RH} {Q : KO → CS → RH → Prop} {x0 : Nat}  (hst : l.stackTraces = false) (hT : Q (.inl (some (.int 0))) s f) : EvC l E w d MX31_depth [.ref x0] s f Q :=
  EvC.of hst (by decide) (Nat.le_of_ble_eq_true rfl) (vX31_depth_0  hT)
theorem vX32_init_0 {l : Launch} {E : EN} {w : CO} {d : Nat} {s : CS} {f : RH} {Q : KO → CS → RH → Prop} {x0 : Nat} {x1 : Nat}  (hT : (EvC l E w d MX31_init [.ref x0] s f (fun o s1 f2 => KP o (fun r => r = none ∧ (oc f2 x0 29 ∧ f2.2.2.2 ≤ x0 ∧ ∀ f3 : RH, f3 = fset f2 x0 203 (.ref x1) → Q (.inl none) s1 f3)) (fun k => Q (.inr k) s1 f2)))) : ExC l E w (d + 1) MX32_init 0 [some (.ref x0), some (.ref x1)] [] s f Q := by
  intro f0 h hW hF
  refine x_aload_n dX32_init_0 rfl rfl rfl ?_
  refine c_invI (b := x0) (vs := []) dX32_init_1 oX31_init rfl rfl rfl q1399 (Or.inr ⟨_, q1398⟩) rfl rfl (Nat.le_of_ble_eq_true rfl) rfl hW hF hT ?_ ?_
  · intro _ s1 f2 hT h hW hF
    obtain ⟨rfl, hT⟩ := hT
    refine x_aload_n dX32_init_4 rfl rfl rfl ?_
    refine x_aload_n dX32_init_5 rfl rfl rfl ?_
    obtain ⟨hc, hz, hT⟩ := hT
    refine c_fputG dX32_init_6 f_TallySlate_Row_9 hc (by decide) (by decide) hz (Or.inr ⟨rfl, rfl⟩) rfl rfl hW hF ?_
    intro f3 ef3 h hW hF
    replace hT := hT f3 ef3
    exact x_vret dX32_init_9 rfl ⟨_, _, hW, hF, Or.inl ⟨_, rfl, hT⟩⟩
  · intro k s1 f2 hT h a hW hx hF
    exact c_out (rfl) hW hx hF hT
theorem eX32_init {l : Launch} {E : EN} {w : CO} {d : Nat} {s : CS} {f : RH} {Q : KO → CS → RH → Prop} {x0 : Nat} {x1 : Nat}  (hst : l.stackTraces = false) (hT : (EvC l E w d MX31_init [.ref x0] s f (fun o s1 f2 => KP o (fun r => r = none ∧ (oc f2 x0 29 ∧ f2.2.2.2 ≤ x0 ∧ ∀ f3 : RH, f3 = fset f2 x0 203 (.ref x1) → Q (.inl none) s1 f3)) (fun k => Q (.inr k) s1 f2)))) : EvC l E w (d + 1) MX32_init [.ref x0, .ref x1] s f Q :=
  EvC.of hst (by decide) (Nat.le_of_ble_eq_true rfl) (vX32_init_0  hT)
theorem vX32_made_0 {l : Launch} {E : EN} {w : CO} {d : Nat} {s : CS} {f : RH} {Q : KO → CS → RH → Prop} {x0 : Nat}  (hT : (oc f x0 29 ∧ (∃ a1 : Nat, vl f x0 203 = .ref a1 ∧ (∃ t2 : Nat, tg f a1 = some (.inr t2) ∧ Q (.inl (some (.int (4 + (nI (ln f a1)))))) s f)))) : ExC l E w d MX32_made 0 [some (.ref x0)] [] s f Q := by
  intro f0 h hW hF
  refine x_iconst (v := 4) dX32_made_0 rfl ?_
  refine x_aload_n dX32_made_1 rfl rfl rfl ?_
  obtain ⟨hc, hT⟩ := hT
  obtain ⟨a1, ev, hT⟩ := hT
  refine c_fgetG dX32_made_2 f_TallySlate_Row_9 hc (by decide) (by decide) hW ev ?_
  obtain ⟨t2, hc, hT⟩ := hT
  refine c_alen dX32_made_5 hc hW ?_
  refine x_iadd dX32_made_6 ?_
  exact x_iret dX32_made_7 rfl rfl ⟨_, _, hW, hF, Or.inl ⟨_, rfl, hT⟩⟩
theorem eX32_made {l : Launch} {E : EN} {w : CO} {d : Nat} {s : CS} {f : RH} {Q : KO → CS → RH → Prop} {x0 : Nat}  (hst : l.stackTraces = false) (hT : (oc f x0 29 ∧ (∃ a1 : Nat, vl f x0 203 = .ref a1 ∧ (∃ t2 : Nat, tg f a1 = some (.inr t2) ∧ Q (.inl (some (.int (4 + (nI (ln f a1)))))) s f)))) : EvC l E w d MX32_made [.ref x0] s f Q :=
  EvC.of hst (by decide) (Nat.le_of_ble_eq_true rfl) (vX32_made_0  hT)
theorem vX32_size_0 {l : Launch} {E : EN} {w : CO} {d : Nat} {s : CS} {f : RH} {Q : KO → CS → RH → Prop} {x0 : Nat}  (hT : (oc f x0 29 ∧ (∃ a1 : Nat, vl f x0 203 = .ref a1 ∧ (∃ t2 : Nat, tg f a1 = some (.inr t2) ∧ Q (.inl (some (.int (nI (ln f a1))))) s f)))) : ExC l E w d MX32_size 0 [some (.ref x0)] [] s f Q := by
  intro f0 h hW hF
  refine x_aload_n dX32_size_0 rfl rfl rfl ?_
  obtain ⟨hc, hT⟩ := hT
  obtain ⟨a1, ev, hT⟩ := hT
  refine c_fgetG dX32_size_1 f_TallySlate_Row_9 hc (by decide) (by decide) hW ev ?_
  obtain ⟨t2, hc, hT⟩ := hT
  refine c_alen dX32_size_4 hc hW ?_
  exact x_iret dX32_size_5 rfl rfl ⟨_, _, hW, hF, Or.inl ⟨_, rfl, hT⟩⟩
theorem eX32_size {l : Launch} {E : EN} {w : CO} {d : Nat} {s : CS} {f : RH} {Q : KO → CS → RH → Prop} {x0 : Nat}  (hst : l.stackTraces = false) (hT : (oc f x0 29 ∧ (∃ a1 : Nat, vl f x0 203 = .ref a1 ∧ (∃ t2 : Nat, tg f a1 = some (.inr t2) ∧ Q (.inl (some (.int (nI (ln f a1))))) s f)))) : EvC l E w d MX32_size [.ref x0] s f Q :=
  EvC.of hst (by decide) (Nat.le_of_ble_eq_true rfl) (vX32_size_0  hT)
theorem vX32_bulk_0 {l : Launch} {E : EN} {w : CO} {d : Nat} {s : CS} {f : RH} {Q : KO → CS → RH → Prop} {x0 : Nat}  (hT : (oc f x0 29 ∧ (∃ a1 : Nat, vl f x0 203 = .ref a1 ∧ (∃ t2 : Nat, tg f a1 = some (.inr t2) ∧ Q (.inl (some (.int (1 + (nI (ln f a1)))))) s f)))) : ExC l E w d MX32_bulk 0 [some (.ref x0)] [] s f Q := by
  intro f0 h hW hF
  refine x_iconst (v := 1) dX32_bulk_0 rfl ?_
  refine x_aload_n dX32_bulk_1 rfl rfl rfl ?_
  obtain ⟨hc, hT⟩ := hT
  obtain ⟨a1, ev, hT⟩ := hT
  refine c_fgetG dX32_bulk_2 f_TallySlate_Row_9 hc (by decide) (by decide) hW ev ?_
  obtain ⟨t2, hc, hT⟩ := hT
  refine c_alen dX32_bulk_5 hc hW ?_
  refine x_iadd dX32_bulk_6 ?_
  exact x_iret dX32_bulk_7 rfl rfl ⟨_, _, hW, hF, Or.inl ⟨_, rfl, hT⟩⟩
theorem eX32_bulk {l : Launch} {E : EN} {w : CO} {d : Nat} {s : CS} {f : RH} {Q : KO → CS → RH → Prop} {x0 : Nat}  (hst : l.stackTraces = false) (hT : (oc f x0 29 ∧ (∃ a1 : Nat, vl f x0 203 = .ref a1 ∧ (∃ t2 : Nat, tg f a1 = some (.inr t2) ∧ Q (.inl (some (.int (1 + (nI (ln f a1)))))) s f)))) : EvC l E w d MX32_bulk [.ref x0] s f Q :=
  EvC.of hst (by decide) (Nat.le_of_ble_eq_true rfl) (vX32_bulk_0  hT)
theorem vX32_kind_0 {l : Launch} {E : EN} {w : CO} {d : Nat} {s : CS} {f : RH} {Q : KO → CS → RH → Prop} {x0 : Nat}  (hT : Q (.inl (some (.int 1))) s f) : ExC l E w d MX32_kind 0 [some (.ref x0)] [] s f Q := by
  intro f0 h hW hF
  refine x_iconst (v := 1) dX32_kind_0 rfl ?_
  exact x_iret dX32_kind_1 rfl rfl ⟨_, _, hW, hF, Or.inl ⟨_, rfl, hT⟩⟩
theorem eX32_kind {l : Launch} {E : EN} {w : CO} {d : Nat} {s : CS} {f : RH} {Q : KO → CS → RH → Prop} {x0 : Nat}  (hst : l.stackTraces = false) (hT : Q (.inl (some (.int 1))) s f) : EvC l E w d MX32_kind [.ref x0] s f Q :=
  EvC.of hst (by decide) (Nat.le_of_ble_eq_true rfl) (vX32_kind_0  hT)
theorem vX32_same_0 {l : Launch} {E : EN} {w : CO} {d : Nat} {s : CS} {f : RH} {Q : KO → CS → RH → Prop} {x0 : Nat} {x1 : Nat}  (hT : (isT f (.ref x1) ∧ ((tg f x1 = some (.inl 29) → (tg f x1 = some (.inl 29) ∧ (oc f x0 29 ∧ (∃ a2 : Nat, vl f x0 203 = .ref a2 ∧ (oc f x1 29 ∧ (∃ a3 : Nat, vl f x1 203 = .ref a3 ∧ (EvC l E w d MX32_alike [.ref a2, .ref a3] s f (fun o s4 f5 => KP o (fun r => ∃ v6 : Int32, r = some (.int v6) ∧ ((v6 = 0 → Q (.inl (some (.int 0))) s4 f5) ∧ (¬ v6 = 0 → Q (.inl (some (.int 1))) s4 f5))) (fun k => Q (.inr k) s4 f5))))))))) ∧ (¬ tg f x1 = some (.inl 29) → Q (.inl (some (.int 0))) s f)))) : ExC l E w (d + 1) MX32_same 0 [some (.ref x0), some (.ref x1), none] [] s f Q := by
  intro f0 h hW hF
  refine x_aload_n dX32_same_0 rfl rfl rfl ?_
  obtain ⟨ht, hT⟩ := hT
  refine c_inst (K := 29) dX32_same_1 (by decide) q1913 ht hW (fun hi1 => ?_) (fun hi1 => ?_)
  · replace hT := hT.1 hi1
    refine x_if_eq (tgt := 30) dX32_same_4 rfl (fun c => absurd c (by decide)) (fun _ => ?_)
    refine x_aload_n dX32_same_7 rfl rfl rfl ?_
    obtain ⟨hc, hT⟩ := hT
    refine c_cast (K := 29) dX32_same_8 q1913 hc hW ?_
    refine x_astore_n (lo' := [some (.ref x0), some (.ref x1), some (.ref x1)]) dX32_same_11 rfl (Nat.le_of_ble_eq_true rfl) rfl rfl ?_
    refine x_aload_n dX32_same_12 rfl rfl rfl ?_
    obtain ⟨hc, hT⟩ := hT
    obtain ⟨a2, ev, hT⟩ := hT
    refine c_fgetG dX32_same_13 f_TallySlate_Row_9 hc (by decide) (by decide) hW ev ?_
    refine x_aload_n dX32_same_16 rfl rfl rfl ?_
    obtain ⟨hc, hT⟩ := hT
    obtain ⟨a3, ev, hT⟩ := hT
    refine c_fgetG dX32_same_17 f_TallySlate_Row_9 hc (by decide) (by decide) hW ev ?_
    refine c_invS (vs := [.ref a2, .ref a3]) dX32_same_20 oX32_alike q1915 (Or.inl q1914) rfl rfl (Nat.le_of_ble_eq_true rfl) rfl hW hF hT ?_ ?_
    · intro _ s4 f5 hT h hW hF
      obtain ⟨v6, rfl, hT⟩ := hT
      refine x_if_eq (tgt := 30) dX32_same_23 rfl (fun c => ?_) (fun c => ?_)
      · replace hT := hT.1 c
        refine x_iconst (v := 0) dX32_same_30 rfl ?_
        exact x_iret dX32_same_31 rfl rfl ⟨_, _, hW, hF, Or.inl ⟨_, rfl, hT⟩⟩
      · replace hT := hT.2 c
        refine x_iconst (v := 1) dX32_same_26 rfl ?_
        refine x_goto (tgt := 31) dX32_same_27 rfl ?_
        exact x_iret dX32_same_31 rfl rfl ⟨_, _, hW, hF, Or.inl ⟨_, rfl, hT⟩⟩
    · intro k s4 f5 hT h a hW hx hF
      exact c_out (rfl) hW hx hF hT
  · replace hT := hT.2 hi1
    refine x_if_eq (tgt := 30) dX32_same_4 rfl (fun _ => ?_) (fun c => absurd c (by decide))
    refine x_iconst (v := 0) dX32_same_30 rfl ?_
    exact x_iret dX32_same_31 rfl rfl ⟨_, _, hW, hF, Or.inl ⟨_, rfl, hT⟩⟩
theorem eX32_same {l : Launch} {E : EN} {w : CO} {d : Nat} {s : CS} {f : RH} {Q : KO → CS → RH → Prop} {x0 : Nat} {x1 : Nat}  (hst : l.stackTraces = false) (hT : (isT f (.ref x1) ∧ ((tg f x1 = some (.inl 29) → (tg f x1 = some (.inl 29) ∧ (oc f x0 29 ∧ (∃ a2 : Nat, vl f x0 203 = .ref a2 ∧ (oc f x1 29 ∧ (∃ a3 : Nat, vl f x1 203 = .ref a3 ∧ (EvC l E w d MX32_alike [.ref a2, .ref a3] s f (fun o s4 f5 => KP o (fun r => ∃ v6 : Int32, r = some (.int v6) ∧ ((v6 = 0 → Q (.inl (some (.int 0))) s4 f5) ∧ (¬ v6 = 0 → Q (.inl (some (.int 1))) s4 f5))) (fun k => Q (.inr k) s4 f5))))))))) ∧ (¬ tg f x1 = some (.inl 29) → Q (.inl (some (.int 0))) s f)))) : EvC l E w (d + 1) MX32_same [.ref x0, .ref x1] s f Q :=
  EvC.of hst (by decide) (Nat.le_of_ble_eq_true rfl) (vX32_same_0  hT)
theorem vX32_alike_0 {l : Launch} {E : EN} {w : CO} {d : Nat} {s : CS} {f : RH} {Q : KO → CS → RH → Prop} {x1 : Nat} {x2 : Nat}  (hT : (∃ t1 : Nat, tg f x1 = some (.inr t1) ∧ (∃ t2 : Nat, tg f x2 = some (.inr t2) ∧ ((¬ (nI (ln f x1)) = (nI (ln f x2)) → ExC l E w d MX32_alike 15 [some (.ref x1), some (.ref x2), some (.int 0), some (.int 0)] [] s f Q) ∧ ((nI (ln f x1)) = (nI (ln f x2)) → ExC l E w d MX32_alike 15 [some (.ref x1), some (.ref x2), some (.int 1), some (.int 0)] [] s f Q))))) : ExC l E w d MX32_alike 0 [some (.ref x1), some (.ref x2), none, none] [] s f Q := by
  intro f0 h hW hF
  refine x_aload_n dX32_alike_0 rfl rfl rfl ?_
  obtain ⟨t1, hc, hT⟩ := hT
  refine c_alen dX32_alike_1 hc hW ?_
  refine x_aload_n dX32_alike_2 rfl rfl rfl ?_
  obtain ⟨t2, hc, hT⟩ := hT
  refine c_alen dX32_alike_3 hc hW ?_
  refine x_icmp_ne (tgt := 11) dX32_alike_4 rfl (fun c => ?_) (fun c => ?_)
  · replace hT := hT.1 c
    refine x_iconst (v := 0) dX32_alike_11 rfl ?_
    refine x_istore_n (lo' := [some (.ref x1), some (.ref x2), some (.int 0), none]) dX32_alike_12 rfl (Nat.le_of_ble_eq_true rfl) rfl ?_
    refine x_iconst (v := 0) dX32_alike_13 rfl ?_
    refine x_istore_n (lo' := [some (.ref x1), some (.ref x2), some (.int 0), some (.int 0)]) dX32_alike_14 rfl (Nat.le_of_ble_eq_true rfl) rfl ?_
    exact hT f0 h hW hF
  · replace hT := hT.2 c
    refine x_iconst (v := 1) dX32_alike_7 rfl ?_
    refine x_goto (tgt := 12) dX32_alike_8 rfl ?_
    refine x_istore_n (lo' := [some (.ref x1), some (.ref x2), some (.int 1), none]) dX32_alike_12 rfl (Nat.le_of_ble_eq_true rfl) rfl ?_
    refine x_iconst (v := 0) dX32_alike_13 rfl ?_
    refine x_istore_n (lo' := [some (.ref x1), some (.ref x2), some (.int 1), some (.int 0)]) dX32_alike_14 rfl (Nat.le_of_ble_eq_true rfl) rfl ?_
    exact hT f0 h hW hF
theorem eX32_alike {l : Launch} {E : EN} {w : CO} {d : Nat} {s : CS} {f : RH} {Q : KO → CS → RH → Prop} {x1 : Nat} {x2 : Nat}  (hst : l.stackTraces = false) (hT : (∃ t1 : Nat, tg f x1 = some (.inr t1) ∧ (∃ t2 : Nat, tg f x2 = some (.inr t2) ∧ ((¬ (nI (ln f x1)) = (nI (ln f x2)) → ExC l E w d MX32_alike 15 [some (.ref x1), some (.ref x2), some (.int 0), some (.int 0)] [] s f Q) ∧ ((nI (ln f x1)) = (nI (ln f x2)) → ExC l E w d MX32_alike 15 [some (.ref x1), some (.ref x2), some (.int 1), some (.int 0)] [] s f Q))))) : EvC l E w d MX32_alike [.ref x1, .ref x2] s f Q :=
  EvC.of hst (by decide) (Nat.le_of_ble_eq_true rfl) (vX32_alike_0  hT)
theorem vX32_alike_15 {l : Launch} {E : EN} {w : CO} {d : Nat} {s : CS} {f : RH} {Q : KO → CS → RH → Prop} {b0 : Nat} {b1 : Nat} {b2 : Int32} {b3 : Int32}  (hT : ((b2 = 0 → (narrow .boolean (.int b2) = .int b2 ∧ Q (.inl (some (.int b2))) s f)) ∧ (¬ b2 = 0 → (∃ t3 : Nat, tg f b0 = some (.inr t3) ∧ (((nI (ln f b0)) ≤ b3 → (narrow .boolean (.int b2) = .int b2 ∧ Q (.inl (some (.int b2))) s f)) ∧ (¬ (nI (ln f b0)) ≤ b3 → (tg f b0 = some (.inr 0) ∧ inB b3 (ln f b0) ∧ (∃ v4 : Int32, vl f b0 b3.toNatClampNeg = .int v4 ∧ (tg f b1 = some (.inr 0) ∧ inB b3 (ln f b1) ∧ (∃ v5 : Int32, vl f b1 b3.toNatClampNeg = .int v5 ∧ ((¬ v4 = v5 → ExC l E w d MX32_alike 15 [some (.ref b0), some (.ref b1), some (.int 0), some (.int (b3 + 1))] [] s f Q) ∧ (v4 = v5 → ExC l E w d MX32_alike 15 [some (.ref b0), some (.ref b1), some (.int 1), some (.int (b3 + 1))] [] s f Q)))))))))))) : ExC l E w d MX32_alike 15 [some (.ref b0), some (.ref b1), some (.int b2), some (.int b3)] [] s f Q := by
  intro f0 h hW hF
  refine x_iload_n dX32_alike_15 rfl rfl ?_
  refine x_if_eq (tgt := 46) dX32_alike_16 rfl (fun c => ?_) (fun c => ?_)
  · replace hT := hT.1 c
    refine x_iload_n dX32_alike_46 rfl rfl ?_
    exact x_iret dX32_alike_47 rfl hT.1 ⟨_, _, hW, hF, Or.inl ⟨_, rfl, hT.2⟩⟩
  · replace hT := hT.2 c
    refine x_iload_n dX32_alike_19 rfl rfl ?_
    refine x_aload_n dX32_alike_20 rfl rfl rfl ?_
    obtain ⟨t3, hc, hT⟩ := hT
    refine c_alen dX32_alike_21 hc hW ?_
    refine x_icmp_ge (tgt := 46) dX32_alike_22 rfl (fun c => ?_) (fun c => ?_)
    · replace hT := hT.1 c
      refine x_iload_n dX32_alike_46 rfl rfl ?_
      exact x_iret dX32_alike_47 rfl hT.1 ⟨_, _, hW, hF, Or.inl ⟨_, rfl, hT.2⟩⟩
    · replace hT := hT.2 c
      refine x_aload_n dX32_alike_25 rfl rfl rfl ?_
      refine x_iload_n dX32_alike_26 rfl rfl ?_
      obtain ⟨hc, hT⟩ := hT
      obtain ⟨hb, hT⟩ := hT
      obtain ⟨v4, ev, hT⟩ := hT
      refine c_fiald dX32_alike_27 hc hb hW ev ?_
      refine x_aload_n dX32_alike_28 rfl rfl rfl ?_
      refine x_iload_n dX32_alike_29 rfl rfl ?_
      obtain ⟨hc, hT⟩ := hT
      obtain ⟨hb, hT⟩ := hT
      obtain ⟨v5, ev, hT⟩ := hT
      refine c_fiald dX32_alike_30 hc hb hW ev ?_
      refine x_icmp_ne (tgt := 38) dX32_alike_31 rfl (fun c => ?_) (fun c => ?_)
      · replace hT := hT.1 c
        refine x_iconst (v := 0) dX32_alike_38 rfl ?_
        refine x_istore_n (lo' := [some (.ref b0), some (.ref b1), some (.int 0), some (.int b3)]) dX32_alike_39 rfl (Nat.le_of_ble_eq_true rfl) rfl ?_
        refine x_iinc (lo' := [some (.ref b0), some (.ref b1), some (.int 0), some (.int (b3 + 1))]) dX32_alike_40 rfl (show _ = (b3 + 1) from rfl) rfl ?_
        refine x_goto (tgt := 15) dX32_alike_43 rfl ?_
        exact hT f0 h hW hF
      · replace hT := hT.2 c
        refine x_iconst (v := 1) dX32_alike_34 rfl ?_
        refine x_goto (tgt := 39) dX32_alike_35 rfl ?_
        refine x_istore_n (lo' := [some (.ref b0), some (.ref b1), some (.int 1), some (.int b3)]) dX32_alike_39 rfl (Nat.le_of_ble_eq_true rfl) rfl ?_
        refine x_iinc (lo' := [some (.ref b0), some (.ref b1), some (.int 1), some (.int (b3 + 1))]) dX32_alike_40 rfl (show _ = (b3 + 1) from rfl) rfl ?_
        refine x_goto (tgt := 15) dX32_alike_43 rfl ?_
        exact hT f0 h hW hF
theorem vX32_form_0 {l : Launch} {E : EN} {w : CO} {d : Nat} {s : CS} {f : RH} {Q : KO → CS → RH → Prop} {x0 : Nat}  (hT : (oc f x0 29 ∧ (∃ a1 : Nat, vl f x0 203 = .ref a1 ∧ (EvC l E w d MX32_form_2 [.ref a1, .ref (w.1 8)] s f (fun o s2 f3 => KP o (fun r => r = none ∧ Q (.inl none) s2 f3) (fun k => Q (.inr k) s2 f3)))))) : ExC l E w (d + 1) MX32_form 0 [some (.ref x0), some (.ref (w.1 8))] [] s f Q := by
  intro f0 h hW hF
  refine x_aload_n dX32_form_0 rfl rfl rfl ?_
  obtain ⟨hc, hT⟩ := hT
  obtain ⟨a1, ev, hT⟩ := hT
  refine c_fgetG dX32_form_1 f_TallySlate_Row_9 hc (by decide) (by decide) hW ev ?_
  refine x_aload_n dX32_form_4 rfl rfl rfl ?_
  refine c_invS (vs := [.ref a1, .ref (w.1 8)]) dX32_form_5 oX32_form_2 q2016 (Or.inl q2015) rfl rfl (Nat.le_of_ble_eq_true rfl) rfl hW hF hT ?_ ?_
  · intro _ s2 f3 hT h hW hF
    obtain ⟨rfl, hT⟩ := hT
    exact x_vret dX32_form_8 rfl ⟨_, _, hW, hF, Or.inl ⟨_, rfl, hT⟩⟩
  · intro k s2 f3 hT h a hW hx hF
    exact c_out (rfl) hW hx hF hT
theorem eX32_form {l : Launch} {E : EN} {w : CO} {d : Nat} {s : CS} {f : RH} {Q : KO → CS → RH → Prop} {x0 : Nat}  (hst : l.stackTraces = false) (hT : (oc f x0 29 ∧ (∃ a1 : Nat, vl f x0 203 = .ref a1 ∧ (EvC l E w d MX32_form_2 [.ref a1, .ref (w.1 8)] s f (fun o s2 f3 => KP o (fun r => r = none ∧ Q (.inl none) s2 f3) (fun k => Q (.inr k) s2 f3)))))) : EvC l E w (d + 1) MX32_form [.ref x0, .ref (w.1 8)] s f Q :=
  EvC.of hst (by decide) (Nat.le_of_ble_eq_true rfl) (vX32_form_0  hT)
theorem vX32_form_2_0 {l : Launch} {E : EN} {w : CO} {d : Nat} {s : CS} {f : RH} {Q : KO → CS → RH → Prop} {x1 : Nat}  (hT : (EvC l E w d MX8_sign [.ref (w.1 8), .int 91] s f (fun o s1 f2 => KP o (fun r => r = none ∧ ExC l E w (d + 1) MX32_form_2 8 [some (.ref x1), some (.ref (w.1 8)), some (.int 0)] [] s1 f2 Q) (fun k => Q (.inr k) s1 f2)))) : ExC l E w (d + 1) MX32_form_2 0 [some (.ref x1), some (.ref (w.1 8)), none] [] s f Q := by
  intro f0 h hW hF
  refine x_aload_n dX32_form_2_0 rfl rfl rfl ?_
  refine x_bipush (v := 91) dX32_form_2_1 rfl ?_
  obtain ⟨-, -, cc, hcc, -⟩ := hW.ob 8 (by decide)
  refine c_invV (vs := [.int 91]) dX32_form_2_3 oX8_sign q1999 q2018 hcc q2000 (Or.inl rfl) rfl rfl (Nat.le_of_ble_eq_true rfl) rfl hW hF hT ?_ ?_
  · intro _ s1 f2 hT h hW hF
    obtain ⟨rfl, hT⟩ := hT
    refine x_iconst (v := 0) dX32_form_2_6 rfl ?_
    refine x_istore_n (lo' := [some (.ref x1), some (.ref (w.1 8)), some (.int 0)]) dX32_form_2_7 rfl (Nat.le_of_ble_eq_true rfl) rfl ?_
    exact hT f0 h hW hF
  · intro k s1 f2 hT h a hW hx hF
    exact c_out (rfl) hW hx hF hT
theorem eX32_form_2 {l : Launch} {E : EN} {w : CO} {d : Nat} {s : CS} {f : RH} {Q : KO → CS → RH → Prop} {x1 : Nat}  (hst : l.stackTraces = false) (hT : (EvC l E w d MX8_sign [.ref (w.1 8), .int 91] s f (fun o s1 f2 => KP o (fun r => r = none ∧ ExC l E w (d + 1) MX32_form_2 8 [some (.ref x1), some (.ref (w.1 8)), some (.int 0)] [] s1 f2 Q) (fun k => Q (.inr k) s1 f2)))) : EvC l E w (d + 1) MX32_form_2 [.ref x1, .ref (w.1 8)] s f Q :=
  EvC.of hst (by decide) (Nat.le_of_ble_eq_true rfl) (vX32_form_2_0  hT)
theorem vX32_form_2_8 {l : Launch} {E : EN} {w : CO} {d : Nat} {s : CS} {f : RH} {Q : KO → CS → RH → Prop} {b0 : Nat} {b2 : Int32}  (hT : (∃ t3 : Nat, tg f b0 = some (.inr t3) ∧ (((nI (ln f b0)) ≤ b2 → (EvC l E w d MX8_sign [.ref (w.1 8), .int 93] s f (fun o s4 f5 => KP o (fun r => r = none ∧ Q (.inl none) s4 f5) (fun k => Q (.inr k) s4 f5)))) ∧ (¬ (nI (ln f b0)) ≤ b2 → ((b2 ≤ 0 → (tg f b0 = some (.inr 0) ∧ inB b2 (ln f b0) ∧ (∃ v6 : Int32, vl f b0 b2.toNatClampNeg = .int v6 ∧ (EvC l E w d MX8_number [.ref (w.1 8), .int v6] s f (fun o s7 f8 => KP o (fun r => r = none ∧ ExC l E w (d + 1) MX32_form_2 8 [some (.ref b0), some (.ref (w.1 8)), some (.int (b2 + 1))] [] s7 f8 Q) (fun k => Q (.inr k) s7 f8)))))) ∧ (¬ b2 ≤ 0 → (EvC l E w d MX8_sign [.ref (w.1 8), .int 32] s f (fun o s9 f10 => KP o (fun r => r = none ∧ (tg f10 b0 = some (.inr 0) ∧ inB b2 (ln f10 b0) ∧ (∃ v11 : Int32, vl f10 b0 b2.toNatClampNeg = .int v11 ∧ (EvC l E w d MX8_number [.ref (w.1 8), .int v11] s9 f10 (fun o s12 f13 => KP o (fun r => r = none ∧ ExC l E w (d + 1) MX32_form_2 8 [some (.ref b0), some (.ref (w.1 8)), some (.int (b2 + 1))] [] s12 f13 Q) (fun k => Q (.inr k) s12 f13)))))) (fun k => Q (.inr k) s9 f10))))))))) : ExC l E w (d + 1) MX32_form_2 8 [some (.ref b0), some (.ref (w.1 8)), some (.int b2)] [] s f Q := by
  intro f0 h hW hF
  refine x_iload_n dX32_form_2_8 rfl rfl ?_
  refine x_aload_n dX32_form_2_9 rfl rfl rfl ?_
  obtain ⟨t3, hc, hT⟩ := hT
  refine c_alen dX32_form_2_10 hc hW ?_
  refine x_icmp_ge (tgt := 37) dX32_form_2_11 rfl (fun c => ?_) (fun c => ?_)
  · replace hT := hT.1 c
    refine x_aload_n dX32_form_2_37 rfl rfl rfl ?_
    refine x_bipush (v := 93) dX32_form_2_38 rfl ?_
    obtain ⟨-, -, cc, hcc, -⟩ := hW.ob 8 (by decide)
    refine c_invV (vs := [.int 93]) dX32_form_2_40 oX8_sign q1999 q2018 hcc q2000 (Or.inl rfl) rfl rfl (Nat.le_of_ble_eq_true rfl) rfl hW hF hT ?_ ?_
    · intro _ s4 f5 hT h hW hF
      obtain ⟨rfl, hT⟩ := hT
      exact x_vret dX32_form_2_43 rfl ⟨_, _, hW, hF, Or.inl ⟨_, rfl, hT⟩⟩
    · intro k s4 f5 hT h a hW hx hF
      exact c_out (rfl) hW hx hF hT
  · replace hT := hT.2 c
    refine x_iload_n dX32_form_2_14 rfl rfl ?_
    refine x_if_le (tgt := 24) dX32_form_2_15 rfl (fun c => ?_) (fun c => ?_)
    · replace hT := hT.1 c
      refine x_aload_n dX32_form_2_24 rfl rfl rfl ?_
      refine x_aload_n dX32_form_2_25 rfl rfl rfl ?_
      refine x_iload_n dX32_form_2_26 rfl rfl ?_
      obtain ⟨hc, hT⟩ := hT
      obtain ⟨hb, hT⟩ := hT
      obtain ⟨v6, ev, hT⟩ := hT
      refine c_fiald dX32_form_2_27 hc hb hW ev ?_
      obtain ⟨-, -, cc, hcc, -⟩ := hW.ob 8 (by decide)
      refine c_invV (vs := [.int v6]) dX32_form_2_28 oX8_number q1995 q2019 hcc q1996 (Or.inl rfl) rfl rfl (Nat.le_of_ble_eq_true rfl) rfl hW hF hT ?_ ?_
      · intro _ s7 f8 hT h hW hF
        obtain ⟨rfl, hT⟩ := hT
        refine x_iinc (lo' := [some (.ref b0), some (.ref (w.1 8)), some (.int (b2 + 1))]) dX32_form_2_31 rfl (show _ = (b2 + 1) from rfl) rfl ?_
        refine x_goto (tgt := 8) dX32_form_2_34 rfl ?_
        exact hT f0 h hW hF
      · intro k s7 f8 hT h a hW hx hF
        exact c_out (rfl) hW hx hF hT
    · replace hT := hT.2 c
      refine x_aload_n dX32_form_2_18 rfl rfl rfl ?_
      refine x_bipush (v := 32) dX32_form_2_19 rfl ?_
      obtain ⟨-, -, cc, hcc, -⟩ := hW.ob 8 (by decide)
      refine c_invV (vs := [.int 32]) dX32_form_2_21 oX8_sign q1999 q2018 hcc q2000 (Or.inl rfl) rfl rfl (Nat.le_of_ble_eq_true rfl) rfl hW hF hT ?_ ?_
      · intro _ s9 f10 hT h hW hF
        obtain ⟨rfl, hT⟩ := hT
        refine x_aload_n dX32_form_2_24 rfl rfl rfl ?_
        refine x_aload_n dX32_form_2_25 rfl rfl rfl ?_
        refine x_iload_n dX32_form_2_26 rfl rfl ?_
        obtain ⟨hc, hT⟩ := hT
        obtain ⟨hb, hT⟩ := hT
        obtain ⟨v11, ev, hT⟩ := hT
        refine c_fiald dX32_form_2_27 hc hb hW ev ?_
        obtain ⟨-, -, cc, hcc, -⟩ := hW.ob 8 (by decide)
        refine c_invV (vs := [.int v11]) dX32_form_2_28 oX8_number q1995 q2019 hcc q1996 (Or.inl rfl) rfl rfl (Nat.le_of_ble_eq_true rfl) rfl hW hF hT ?_ ?_
        · intro _ s12 f13 hT h hW hF
          obtain ⟨rfl, hT⟩ := hT
          refine x_iinc (lo' := [some (.ref b0), some (.ref (w.1 8)), some (.int (b2 + 1))]) dX32_form_2_31 rfl (show _ = (b2 + 1) from rfl) rfl ?_
          refine x_goto (tgt := 8) dX32_form_2_34 rfl ?_
          exact hT f0 h hW hF
        · intro k s12 f13 hT h a hW hx hF
          exact c_out (rfl) hW hx hF hT
      · intro k s9 f10 hT h a hW hx hF
        exact c_out (rfl) hW hx hF hT
theorem vX32_sum_0 {l : Launch} {E : EN} {w : CO} {d : Nat} {s : CS} {f : RH} {Q : KO → CS → RH → Prop} {x0 : Nat} {x1 : Int64}  (hT : (oc f x0 29 ∧ (∃ a1 : Nat, vl f x0 203 = .ref a1 ∧ (EvC l E w d MX0_joined [.long x1, .long 1] s f (fun o s2 f3 => KP o (fun r => ∃ v4 : Int64, r = some (.long v4) ∧ (EvC l E w d MX32_sum_2 [.ref a1, .long v4] s2 f3 (fun o s5 f6 => KP o (fun r => ∃ v7 : Int64, r = some (.long v7) ∧ Q (.inl (some (.long v7))) s5 f6) (fun k => Q (.inr k) s5 f6)))) (fun k => Q (.inr k) s2 f3)))))) : ExC l E w (d + 1) MX32_sum 0 [some (.ref x0), some (.long x1), none] [] s f Q := by
  intro f0 h hW hF
  refine x_aload_n dX32_sum_0 rfl rfl rfl ?_
  obtain ⟨hc, hT⟩ := hT
  obtain ⟨a1, ev, hT⟩ := hT
  refine c_fgetG dX32_sum_1 f_TallySlate_Row_9 hc (by decide) (by decide) hW ev ?_
  refine x_lload_n dX32_sum_4 rfl rfl ?_
  refine x_lconst (v := 1) dX32_sum_5 rfl ?_
  refine c_invS (vs := [.long x1, .long 1]) dX32_sum_6 oX0_joined q2150 (Or.inr ⟨_, q2164⟩) rfl rfl (Nat.le_of_ble_eq_true rfl) rfl hW hF hT ?_ ?_
  · intro _ s2 f3 hT h hW hF
    obtain ⟨v4, rfl, hT⟩ := hT
    refine c_invS (vs := [.ref a1, .long v4]) dX32_sum_9 oX32_sum_2 q2166 (Or.inl q2165) rfl rfl (Nat.le_of_ble_eq_true rfl) rfl hW hF hT ?_ ?_
    · intro _ s5 f6 hT h hW hF
      obtain ⟨v7, rfl, hT⟩ := hT
      exact x_lret dX32_sum_12 rfl ⟨_, _, hW, hF, Or.inl ⟨_, rfl, hT⟩⟩
    · intro k s5 f6 hT h a hW hx hF
      exact c_out (rfl) hW hx hF hT
  · intro k s2 f3 hT h a hW hx hF
    exact c_out (rfl) hW hx hF hT
theorem eX32_sum {l : Launch} {E : EN} {w : CO} {d : Nat} {s : CS} {f : RH} {Q : KO → CS → RH → Prop} {x0 : Nat} {x1 : Int64}  (hst : l.stackTraces = false) (hT : (oc f x0 29 ∧ (∃ a1 : Nat, vl f x0 203 = .ref a1 ∧ (EvC l E w d MX0_joined [.long x1, .long 1] s f (fun o s2 f3 => KP o (fun r => ∃ v4 : Int64, r = some (.long v4) ∧ (EvC l E w d MX32_sum_2 [.ref a1, .long v4] s2 f3 (fun o s5 f6 => KP o (fun r => ∃ v7 : Int64, r = some (.long v7) ∧ Q (.inl (some (.long v7))) s5 f6) (fun k => Q (.inr k) s5 f6)))) (fun k => Q (.inr k) s2 f3)))))) : EvC l E w (d + 1) MX32_sum [.ref x0, .long x1] s f Q :=
  EvC.of hst (by decide) (Nat.le_of_ble_eq_true rfl) (vX32_sum_0  hT)
theorem vX32_sum_2_0 {l : Launch} {E : EN} {w : CO} {d : Nat} {s : CS} {f : RH} {Q : KO → CS → RH → Prop} {x1 : Nat} {x2 : Int64}  (hT : (∃ t1 : Nat, tg f x1 = some (.inr t1) ∧ (EvC l E w d MX0_joined [.long x2, .long (nI (ln f x1)).toInt64] s f (fun o s2 f3 => KP o (fun r => ∃ v4 : Int64, r = some (.long v4) ∧ ExC l E w (d + 1) MX32_sum_2 11 [some (.ref x1), none, none, some (.long v4), none, some (.int 0)] [] s2 f3 Q) (fun k => Q (.inr k) s2 f3))))) : ExC l E w (d + 1) MX32_sum_2 0 [some (.ref x1), some (.long x2), none, none, none, none] [] s f Q := by
  intro f0 h hW hF
  refine x_lload_n dX32_sum_2_0 rfl rfl ?_
  refine x_aload_n dX32_sum_2_1 rfl rfl rfl ?_
  obtain ⟨t1, hc, hT⟩ := hT
  refine c_alen dX32_sum_2_2 hc hW ?_
  refine x_i2l dX32_sum_2_3 ?_
  refine c_invS (vs := [.long x2, .long (nI (ln f x1)).toInt64]) dX32_sum_2_4 oX0_joined q2150 (Or.inr ⟨_, q2164⟩) rfl rfl (Nat.le_of_ble_eq_true rfl) rfl hW hF hT ?_ ?_
  · intro _ s2 f3 hT h hW hF
    obtain ⟨v4, rfl, hT⟩ := hT
    refine x_lstore_n (lo' := [some (.ref x1), some (.long x2), none, some (.long v4), none, none]) dX32_sum_2_7 rfl (Nat.le_of_ble_eq_true rfl) rfl ?_
    refine x_iconst (v := 0) dX32_sum_2_8 rfl ?_
    refine x_istore (lo' := [some (.ref x1), some (.long x2), none, some (.long v4), none, some (.int 0)]) dX32_sum_2_9 (Nat.le_of_ble_eq_true rfl) rfl ?_
    refine Ex.wkl (lo' := [some (.ref x1), none, none, some (.long v4), none, some (.int 0)]) ⟨rfl, rfl, rfl, trivial⟩ ?_
    exact hT f0 h hW hF
  · intro k s2 f3 hT h a hW hx hF
    exact c_out (rfl) hW hx hF hT
theorem eX32_sum_2 {l : Launch} {E : EN} {w : CO} {d : Nat} {s : CS} {f : RH} {Q : KO → CS → RH → Prop} {x1 : Nat} {x2 : Int64}  (hst : l.stackTraces = false) (hT : (∃ t1 : Nat, tg f x1 = some (.inr t1) ∧ (EvC l E w d MX0_joined [.long x2, .long (nI (ln f x1)).toInt64] s f (fun o s2 f3 => KP o (fun r => ∃ v4 : Int64, r = some (.long v4) ∧ ExC l E w (d + 1) MX32_sum_2 11 [some (.ref x1), none, none, some (.long v4), none, some (.int 0)] [] s2 f3 Q) (fun k => Q (.inr k) s2 f3))))) : EvC l E w (d + 1) MX32_sum_2 [.ref x1, .long x2] s f Q :=
  EvC.of hst (by decide) (Nat.le_of_ble_eq_true rfl) (vX32_sum_2_0  hT)
theorem vX32_sum_2_11 {l : Launch} {E : EN} {w : CO} {d : Nat} {s : CS} {f : RH} {Q : KO → CS → RH → Prop} {b0 : Nat} {b3 : Int64} {b5 : Int32}  (hT : (∃ t5 : Nat, tg f b0 = some (.inr t5) ∧ (((nI (ln f b0)) ≤ b5 → Q (.inl (some (.long b3))) s f) ∧ (¬ (nI (ln f b0)) ≤ b5 → (tg f b0 = some (.inr 0) ∧ inB b5 (ln f b0) ∧ (∃ v6 : Int32, vl f b0 b5.toNatClampNeg = .int v6 ∧ (EvC l E w d MX0_joined [.long b3, .long v6.toInt64] s f (fun o s7 f8 => KP o (fun r => ∃ v9 : Int64, r = some (.long v9) ∧ ExC l E w (d + 1) MX32_sum_2 11 [some (.ref b0), none, none, some (.long v9), none, some (.int (b5 + 1))] [] s7 f8 Q) (fun k => Q (.inr k) s7 f8))))))))) : ExC l E w (d + 1) MX32_sum_2 11 [some (.ref b0), none, none, some (.long b3), none, some (.int b5)] [] s f Q := by
  intro f0 h hW hF
  refine x_iload dX32_sum_2_11 rfl ?_
  refine x_aload_n dX32_sum_2_13 rfl rfl rfl ?_
  obtain ⟨t5, hc, hT⟩ := hT
  refine c_alen dX32_sum_2_14 hc hW ?_
  refine x_icmp_ge (tgt := 34) dX32_sum_2_15 rfl (fun c => ?_) (fun c => ?_)
  · replace hT := hT.1 c
    refine x_lload_n dX32_sum_2_34 rfl rfl ?_
    exact x_lret dX32_sum_2_35 rfl ⟨_, _, hW, hF, Or.inl ⟨_, rfl, hT⟩⟩
  · replace hT := hT.2 c
    refine x_lload_n dX32_sum_2_18 rfl rfl ?_
    refine x_aload_n dX32_sum_2_19 rfl rfl rfl ?_
    refine x_iload dX32_sum_2_20 rfl ?_
    obtain ⟨hc, hT⟩ := hT
    obtain ⟨hb, hT⟩ := hT
    obtain ⟨v6, ev, hT⟩ := hT
    refine c_fiald dX32_sum_2_22 hc hb hW ev ?_
    refine x_i2l dX32_sum_2_23 ?_
    refine c_invS (vs := [.long b3, .long v6.toInt64]) dX32_sum_2_24 oX0_joined q2150 (Or.inr ⟨_, q2164⟩) rfl rfl (Nat.le_of_ble_eq_true rfl) rfl hW hF hT ?_ ?_
    · intro _ s7 f8 hT h hW hF
      obtain ⟨v9, rfl, hT⟩ := hT
      refine x_lstore_n (lo' := [some (.ref b0), none, none, some (.long v9), none, some (.int b5)]) dX32_sum_2_27 rfl (Nat.le_of_ble_eq_true rfl) rfl ?_
      refine x_iinc (lo' := [some (.ref b0), none, none, some (.long v9), none, some (.int (b5 + 1))]) dX32_sum_2_28 rfl (show _ = (b5 + 1) from rfl) rfl ?_
      refine x_goto (tgt := 11) dX32_sum_2_31 rfl ?_
      exact hT f0 h hW hF
    · intro k s7 f8 hT h a hW hx hF
      exact c_out (rfl) hW hx hF hT
theorem vX33_made_0 {l : Launch} {E : EN} {w : CO} {d : Nat} {s : CS} {f : RH} {Q : KO → CS → RH → Prop} {x0 : Nat}  (hT : (oc f x0 30 ∧ (∃ a1 : Nat, vl f x0 204 = .ref a1 ∧ (∃ t2 : Nat, tg f a1 = some (.inr t2) ∧ (oc f x0 30 ∧ EvC l E w d MX33_ints [.ref x0] s f (fun o s3 f4 => KP o (fun r => ∃ v5 : Int32, r = some (.int v5) ∧ Q (.inl (some (.int ((4 + (4 * (nI (ln f a1)))) + v5)))) s3 f4) (fun k => Q (.inr k) s3 f4))))))) : ExC l E w (d + 1) MX33_made 0 [some (.ref x0)] [] s f Q := by
  intro f0 h hW hF
  refine x_iconst (v := 4) dX33_made_0 rfl ?_
  refine x_iconst (v := 4) dX33_made_1 rfl ?_
  refine x_aload_n dX33_made_2 rfl rfl rfl ?_
  obtain ⟨hc, hT⟩ := hT
  obtain ⟨a1, ev, hT⟩ := hT
  refine c_fgetG dX33_made_3 f_TallySlate_Table_9 hc (by decide) (by decide) hW ev ?_
  obtain ⟨t2, hc, hT⟩ := hT
  refine c_alen dX33_made_6 hc hW ?_
  refine x_imul dX33_made_7 ?_
  refine x_iadd dX33_made_8 ?_
  refine x_aload_n dX33_made_9 rfl rfl rfl ?_
  obtain ⟨hc, hT⟩ := hT
  obtain ⟨cc, hcc⟩ := hW.ocell hc
  refine c_invV (vs := []) dX33_made_10 oX33_ints q1428 q1427 hcc q1429 (Or.inl rfl) rfl rfl (Nat.le_of_ble_eq_true rfl) rfl hW hF hT ?_ ?_
  · intro _ s3 f4 hT h hW hF
    obtain ⟨v5, rfl, hT⟩ := hT
    refine x_iadd dX33_made_13 ?_
    exact x_iret dX33_made_14 rfl rfl ⟨_, _, hW, hF, Or.inl ⟨_, rfl, hT⟩⟩
  · intro k s3 f4 hT h a hW hx hF
    exact c_out (rfl) hW hx hF hT
theorem eX33_made {l : Launch} {E : EN} {w : CO} {d : Nat} {s : CS} {f : RH} {Q : KO → CS → RH → Prop} {x0 : Nat}  (hst : l.stackTraces = false) (hT : (oc f x0 30 ∧ (∃ a1 : Nat, vl f x0 204 = .ref a1 ∧ (∃ t2 : Nat, tg f a1 = some (.inr t2) ∧ (oc f x0 30 ∧ EvC l E w d MX33_ints [.ref x0] s f (fun o s3 f4 => KP o (fun r => ∃ v5 : Int32, r = some (.int v5) ∧ Q (.inl (some (.int ((4 + (4 * (nI (ln f a1)))) + v5)))) s3 f4) (fun k => Q (.inr k) s3 f4))))))) : EvC l E w (d + 1) MX33_made [.ref x0] s f Q :=
  EvC.of hst (by decide) (Nat.le_of_ble_eq_true rfl) (vX33_made_0  hT)
theorem vX33_ints_0 {l : Launch} {E : EN} {w : CO} {d : Nat} {s : CS} {f : RH} {Q : KO → CS → RH → Prop} {x0 : Nat}  (hT : ExC l E w d MX33_ints 4 [some (.ref x0), some (.int 0), some (.int 0)] [] s f Q) : ExC l E w d MX33_ints 0 [some (.ref x0), none, none] [] s f Q := by
  intro f0 h hW hF
  refine x_iconst (v := 0) dX33_ints_0 rfl ?_
  refine x_istore_n (lo' := [some (.ref x0), some (.int 0), none]) dX33_ints_1 rfl (Nat.le_of_ble_eq_true rfl) rfl ?_
  refine x_iconst (v := 0) dX33_ints_2 rfl ?_
  refine x_istore_n (lo' := [some (.ref x0), some (.int 0), some (.int 0)]) dX33_ints_3 rfl (Nat.le_of_ble_eq_true rfl) rfl ?_
  exact hT f0 h hW hF
theorem eX33_ints {l : Launch} {E : EN} {w : CO} {d : Nat} {s : CS} {f : RH} {Q : KO → CS → RH → Prop} {x0 : Nat}  (hst : l.stackTraces = false) (hT : ExC l E w d MX33_ints 4 [some (.ref x0), some (.int 0), some (.int 0)] [] s f Q) : EvC l E w d MX33_ints [.ref x0] s f Q :=
  EvC.of hst (by decide) (Nat.le_of_ble_eq_true rfl) (vX33_ints_0  hT)
theorem vX33_ints_4 {l : Launch} {E : EN} {w : CO} {d : Nat} {s : CS} {f : RH} {Q : KO → CS → RH → Prop} {b0 : Nat} {b1 : Int32} {b2 : Int32}  (hT : (oc f b0 30 ∧ (∃ a1 : Nat, vl f b0 204 = .ref a1 ∧ (∃ t2 : Nat, tg f a1 = some (.inr t2) ∧ (((nI (ln f a1)) ≤ b2 → Q (.inl (some (.int b1))) s f) ∧ (¬ (nI (ln f a1)) ≤ b2 → (oc f b0 30 ∧ (∃ a3 : Nat, vl f b0 204 = .ref a3 ∧ (∃ t4 : Nat, 4 ≤ t4 ∧ (tg f a3 = some (.inr t4) ∧ inB b2 (ln f a3) ∧ (∃ a5 : Nat, vl f a3 b2.toNatClampNeg = .ref a5 ∧ (∃ t6 : Nat, tg f a5 = some (.inr t6) ∧ (∀ y7 : Int32, y7 = (b1 + (nI (ln f a5))) → ExC l E w d MX33_ints 4 [some (.ref b0), some (.int y7), some (.int (b2 + 1))] [] s f Q))))))))))))) : ExC l E w d MX33_ints 4 [some (.ref b0), some (.int b1), some (.int b2)] [] s f Q := by
  intro f0 h hW hF
  refine x_iload_n dX33_ints_4 rfl rfl ?_
  refine x_aload_n dX33_ints_5 rfl rfl rfl ?_
  obtain ⟨hc, hT⟩ := hT
  obtain ⟨a1, ev, hT⟩ := hT
  refine c_fgetG dX33_ints_6 f_TallySlate_Table_9 hc (by decide) (by decide) hW ev ?_
  obtain ⟨t2, hc, hT⟩ := hT
  refine c_alen dX33_ints_9 hc hW ?_
  refine x_icmp_ge (tgt := 29) dX33_ints_10 rfl (fun c => ?_) (fun c => ?_)
  · replace hT := hT.1 c
    refine x_iload_n dX33_ints_29 rfl rfl ?_
    exact x_iret dX33_ints_30 rfl rfl ⟨_, _, hW, hF, Or.inl ⟨_, rfl, hT⟩⟩
  · replace hT := hT.2 c
    refine x_iload_n dX33_ints_13 rfl rfl ?_
    refine x_aload_n dX33_ints_14 rfl rfl rfl ?_
    obtain ⟨hc, hT⟩ := hT
    obtain ⟨a3, ev, hT⟩ := hT
    refine c_fgetG dX33_ints_15 f_TallySlate_Table_9 hc (by decide) (by decide) hW ev ?_
    refine x_iload_n dX33_ints_18 rfl rfl ?_
    obtain ⟨t4, ht2, hc, hT⟩ := hT
    obtain ⟨hb, hT⟩ := hT
    obtain ⟨a5, ev, hT⟩ := hT
    refine c_faald dX33_ints_19 hc ht2 hb hW ev ?_
    obtain ⟨t6, hc, hT⟩ := hT
    refine c_alen dX33_ints_20 hc hW ?_
    refine x_iadd dX33_ints_21 ?_
    obtain ⟨y7, ey7⟩ : ∃ z : Int32, z = (b1 + (nI (ln f a5))) := ⟨_, rfl⟩
    replace hT := hT y7 ey7
    refine x_istore_n (lo' := [some (.ref b0), some (.int y7), some (.int b2)]) dX33_ints_22 rfl (Nat.le_of_ble_eq_true rfl) (by rw [ey7]; exact rfl) ?_
    refine x_iinc (lo' := [some (.ref b0), some (.int y7), some (.int (b2 + 1))]) dX33_ints_23 rfl (show _ = (b2 + 1) from rfl) rfl ?_
    refine x_goto (tgt := 4) dX33_ints_26 rfl ?_
    exact hT f0 h hW hF
theorem vX33_size_0 {l : Launch} {E : EN} {w : CO} {d : Nat} {s : CS} {f : RH} {Q : KO → CS → RH → Prop} {x0 : Nat}  (hT : (oc f x0 30 ∧ (∃ a1 : Nat, vl f x0 204 = .ref a1 ∧ (∃ t2 : Nat, tg f a1 = some (.inr t2) ∧ Q (.inl (some (.int (nI (ln f a1))))) s f)))) : ExC l E w d MX33_size 0 [some (.ref x0)] [] s f Q := by
  intro f0 h hW hF
  refine x_aload_n dX33_size_0 rfl rfl rfl ?_
  obtain ⟨hc, hT⟩ := hT
  obtain ⟨a1, ev, hT⟩ := hT
  refine c_fgetG dX33_size_1 f_TallySlate_Table_9 hc (by decide) (by decide) hW ev ?_
  obtain ⟨t2, hc, hT⟩ := hT
  refine c_alen dX33_size_4 hc hW ?_
  exact x_iret dX33_size_5 rfl rfl ⟨_, _, hW, hF, Or.inl ⟨_, rfl, hT⟩⟩
theorem eX33_size {l : Launch} {E : EN} {w : CO} {d : Nat} {s : CS} {f : RH} {Q : KO → CS → RH → Prop} {x0 : Nat}  (hst : l.stackTraces = false) (hT : (oc f x0 30 ∧ (∃ a1 : Nat, vl f x0 204 = .ref a1 ∧ (∃ t2 : Nat, tg f a1 = some (.inr t2) ∧ Q (.inl (some (.int (nI (ln f a1))))) s f)))) : EvC l E w d MX33_size [.ref x0] s f Q :=
  EvC.of hst (by decide) (Nat.le_of_ble_eq_true rfl) (vX33_size_0  hT)
theorem vX33_init_0 {l : Launch} {E : EN} {w : CO} {d : Nat} {s : CS} {f : RH} {Q : KO → CS → RH → Prop} {x0 : Nat} {x1 : Nat}  (hT : (EvC l E w d MX31_init [.ref x0] s f (fun o s1 f2 => KP o (fun r => r = none ∧ (oc f2 x0 30 ∧ f2.2.2.2 ≤ x0 ∧ tg f2 x1 = some (.inr 11) ∧ ∀ f3 : RH, f3 = fchg (fset f2 x0 204 (.ref x1)) (3 * ln f2 x1 + 1) → Q (.inl none) s1 f3)) (fun k => Q (.inr k) s1 f2)))) : ExC l E w (d + 1) MX33_init 0 [some (.ref x0), some (.ref x1)] [] s f Q := by
  intro f0 h hW hF
  refine x_aload_n dX33_init_0 rfl rfl rfl ?_
  refine c_invI (b := x0) (vs := []) dX33_init_1 oX31_init rfl rfl rfl q1399 (Or.inr ⟨_, q1471⟩) rfl rfl (Nat.le_of_ble_eq_true rfl) rfl hW hF hT ?_ ?_
  · intro _ s1 f2 hT h hW hF
    obtain ⟨rfl, hT⟩ := hT
    refine x_aload_n dX33_init_4 rfl rfl rfl ?_
    refine x_aload_n dX33_init_5 rfl rfl rfl ?_
    obtain ⟨hc, hz, hta, hT⟩ := hT
    refine c_fputT dX33_init_6 f_TallySlate_Table_9 hc.1 hc.2 hz hta (Or.inr ⟨rfl, rfl⟩) hW hF ?_
    intro f3 ef3 h hW hF
    replace hT := hT f3 ef3
    exact x_vret dX33_init_9 rfl ⟨_, _, hW, hF, Or.inl ⟨_, rfl, hT⟩⟩
  · intro k s1 f2 hT h a hW hx hF
    exact c_out (rfl) hW hx hF hT
theorem eX33_init {l : Launch} {E : EN} {w : CO} {d : Nat} {s : CS} {f : RH} {Q : KO → CS → RH → Prop} {x0 : Nat} {x1 : Nat}  (hst : l.stackTraces = false) (hT : (EvC l E w d MX31_init [.ref x0] s f (fun o s1 f2 => KP o (fun r => r = none ∧ (oc f2 x0 30 ∧ f2.2.2.2 ≤ x0 ∧ tg f2 x1 = some (.inr 11) ∧ ∀ f3 : RH, f3 = fchg (fset f2 x0 204 (.ref x1)) (3 * ln f2 x1 + 1) → Q (.inl none) s1 f3)) (fun k => Q (.inr k) s1 f2)))) : EvC l E w (d + 1) MX33_init [.ref x0, .ref x1] s f Q :=
  EvC.of hst (by decide) (Nat.le_of_ble_eq_true rfl) (vX33_init_0  hT)
theorem vX33_bulk_0 {l : Launch} {E : EN} {w : CO} {d : Nat} {s : CS} {f : RH} {Q : KO → CS → RH → Prop} {x0 : Nat}  (hT : (oc f x0 30 ∧ (∃ a1 : Nat, vl f x0 204 = .ref a1 ∧ (∃ t2 : Nat, tg f a1 = some (.inr t2) ∧ (oc f x0 30 ∧ EvC l E w d MX33_ints [.ref x0] s f (fun o s3 f4 => KP o (fun r => ∃ v5 : Int32, r = some (.int v5) ∧ Q (.inl (some (.int ((1 + (nI (ln f a1))) + v5)))) s3 f4) (fun k => Q (.inr k) s3 f4))))))) : ExC l E w (d + 1) MX33_bulk 0 [some (.ref x0)] [] s f Q := by
  intro f0 h hW hF
  refine x_iconst (v := 1) dX33_bulk_0 rfl ?_
  refine x_aload_n dX33_bulk_1 rfl rfl rfl ?_
  obtain ⟨hc, hT⟩ := hT
  obtain ⟨a1, ev, hT⟩ := hT
  refine c_fgetG dX33_bulk_2 f_TallySlate_Table_9 hc (by decide) (by decide) hW ev ?_
  obtain ⟨t2, hc, hT⟩ := hT
  refine c_alen dX33_bulk_5 hc hW ?_
  refine x_iadd dX33_bulk_6 ?_
  refine x_aload_n dX33_bulk_7 rfl rfl rfl ?_
  obtain ⟨hc, hT⟩ := hT
  obtain ⟨cc, hcc⟩ := hW.ocell hc
  refine c_invV (vs := []) dX33_bulk_8 oX33_ints q1428 q1427 hcc q1429 (Or.inl rfl) rfl rfl (Nat.le_of_ble_eq_true rfl) rfl hW hF hT ?_ ?_
  · intro _ s3 f4 hT h hW hF
    obtain ⟨v5, rfl, hT⟩ := hT
    refine x_iadd dX33_bulk_11 ?_
    exact x_iret dX33_bulk_12 rfl rfl ⟨_, _, hW, hF, Or.inl ⟨_, rfl, hT⟩⟩
  · intro k s3 f4 hT h a hW hx hF
    exact c_out (rfl) hW hx hF hT
theorem eX33_bulk {l : Launch} {E : EN} {w : CO} {d : Nat} {s : CS} {f : RH} {Q : KO → CS → RH → Prop} {x0 : Nat}  (hst : l.stackTraces = false) (hT : (oc f x0 30 ∧ (∃ a1 : Nat, vl f x0 204 = .ref a1 ∧ (∃ t2 : Nat, tg f a1 = some (.inr t2) ∧ (oc f x0 30 ∧ EvC l E w d MX33_ints [.ref x0] s f (fun o s3 f4 => KP o (fun r => ∃ v5 : Int32, r = some (.int v5) ∧ Q (.inl (some (.int ((1 + (nI (ln f a1))) + v5)))) s3 f4) (fun k => Q (.inr k) s3 f4))))))) : EvC l E w (d + 1) MX33_bulk [.ref x0] s f Q :=
  EvC.of hst (by decide) (Nat.le_of_ble_eq_true rfl) (vX33_bulk_0  hT)
theorem vX33_kind_0 {l : Launch} {E : EN} {w : CO} {d : Nat} {s : CS} {f : RH} {Q : KO → CS → RH → Prop} {x0 : Nat}  (hT : Q (.inl (some (.int 2))) s f) : ExC l E w d MX33_kind 0 [some (.ref x0)] [] s f Q := by
  intro f0 h hW hF
  refine x_iconst (v := 2) dX33_kind_0 rfl ?_
  exact x_iret dX33_kind_1 rfl rfl ⟨_, _, hW, hF, Or.inl ⟨_, rfl, hT⟩⟩
theorem eX33_kind {l : Launch} {E : EN} {w : CO} {d : Nat} {s : CS} {f : RH} {Q : KO → CS → RH → Prop} {x0 : Nat}  (hst : l.stackTraces = false) (hT : Q (.inl (some (.int 2))) s f) : EvC l E w d MX33_kind [.ref x0] s f Q :=
  EvC.of hst (by decide) (Nat.le_of_ble_eq_true rfl) (vX33_kind_0  hT)
theorem vX33_widest_0 {l : Launch} {E : EN} {w : CO} {d : Nat} {s : CS} {f : RH} {Q : KO → CS → RH → Prop} {x0 : Nat}  (hT : ExC l E w (d + 1) MX33_widest 4 [some (.ref x0), some (.int 0), some (.int 0)] [] s f Q) : ExC l E w (d + 1) MX33_widest 0 [some (.ref x0), none, none] [] s f Q := by
  intro f0 h hW hF
  refine x_iconst (v := 0) dX33_widest_0 rfl ?_
  refine x_istore_n (lo' := [some (.ref x0), some (.int 0), none]) dX33_widest_1 rfl (Nat.le_of_ble_eq_true rfl) rfl ?_
  refine x_iconst (v := 0) dX33_widest_2 rfl ?_
  refine x_istore_n (lo' := [some (.ref x0), some (.int 0), some (.int 0)]) dX33_widest_3 rfl (Nat.le_of_ble_eq_true rfl) rfl ?_
  exact hT f0 h hW hF
theorem eX33_widest {l : Launch} {E : EN} {w : CO} {d : Nat} {s : CS} {f : RH} {Q : KO → CS → RH → Prop} {x0 : Nat}  (hst : l.stackTraces = false) (hT : ExC l E w (d + 1) MX33_widest 4 [some (.ref x0), some (.int 0), some (.int 0)] [] s f Q) : EvC l E w (d + 1) MX33_widest [.ref x0] s f Q :=
  EvC.of hst (by decide) (Nat.le_of_ble_eq_true rfl) (vX33_widest_0  hT)
theorem vX33_widest_4 {l : Launch} {E : EN} {w : CO} {d : Nat} {s : CS} {f : RH} {Q : KO → CS → RH → Prop} {b0 : Nat} {b1 : Int32} {b2 : Int32}  (hT : (oc f b0 30 ∧ (∃ a1 : Nat, vl f b0 204 = .ref a1 ∧ (∃ t2 : Nat, tg f a1 = some (.inr t2) ∧ (((nI (ln f a1)) ≤ b2 → Q (.inl (some (.int b1))) s f) ∧ (¬ (nI (ln f a1)) ≤ b2 → (oc f b0 30 ∧ (∃ a3 : Nat, vl f b0 204 = .ref a3 ∧ (∃ t4 : Nat, 4 ≤ t4 ∧ (tg f a3 = some (.inr t4) ∧ inB b2 (ln f a3) ∧ (∃ a5 : Nat, vl f a3 b2.toNatClampNeg = .ref a5 ∧ (∃ t6 : Nat, tg f a5 = some (.inr t6) ∧ (∀ y7 : Int32, y7 = (if b1 < (nI (ln f a5)) then (nI (ln f a5)) else b1) → ExC l E w (d + 1) MX33_widest 4 [some (.ref b0), some (.int y7), some (.int (b2 + 1))] [] s f Q))))))))))))) : ExC l E w (d + 1) MX33_widest 4 [some (.ref b0), some (.int b1), some (.int b2)] [] s f Q := by
  intro f0 h hW hF
  refine x_iload_n dX33_widest_4 rfl rfl ?_
  refine x_aload_n dX33_widest_5 rfl rfl rfl ?_
  obtain ⟨hc, hT⟩ := hT
  obtain ⟨a1, ev, hT⟩ := hT
  refine c_fgetG dX33_widest_6 f_TallySlate_Table_9 hc (by decide) (by decide) hW ev ?_
  obtain ⟨t2, hc, hT⟩ := hT
  refine c_alen dX33_widest_9 hc hW ?_
  refine x_icmp_ge (tgt := 31) dX33_widest_10 rfl (fun c => ?_) (fun c => ?_)
  · replace hT := hT.1 c
    refine x_iload_n dX33_widest_31 rfl rfl ?_
    exact x_iret dX33_widest_32 rfl rfl ⟨_, _, hW, hF, Or.inl ⟨_, rfl, hT⟩⟩
  · replace hT := hT.2 c
    refine x_iload_n dX33_widest_13 rfl rfl ?_
    refine x_aload_n dX33_widest_14 rfl rfl rfl ?_
    obtain ⟨hc, hT⟩ := hT
    obtain ⟨a3, ev, hT⟩ := hT
    refine c_fgetG dX33_widest_15 f_TallySlate_Table_9 hc (by decide) (by decide) hW ev ?_
    refine x_iload_n dX33_widest_18 rfl rfl ?_
    obtain ⟨t4, ht2, hc, hT⟩ := hT
    obtain ⟨hb, hT⟩ := hT
    obtain ⟨a5, ev, hT⟩ := hT
    refine c_faald dX33_widest_19 hc ht2 hb hW ev ?_
    obtain ⟨t6, hc, hT⟩ := hT
    refine c_alen dX33_widest_20 hc hW ?_
    refine x_mmax dX33_widest_21 q1836 q669 q181 mq_max (Nat.le_of_ble_eq_true rfl) rfl ?_
    obtain ⟨y7, ey7⟩ : ∃ z : Int32, z = (if b1 < (nI (ln f a5)) then (nI (ln f a5)) else b1) := ⟨_, rfl⟩
    replace hT := hT y7 ey7
    refine x_istore_n (lo' := [some (.ref b0), some (.int y7), some (.int b2)]) dX33_widest_24 rfl (Nat.le_of_ble_eq_true rfl) (by rw [ey7]; exact rfl) ?_
    refine x_iinc (lo' := [some (.ref b0), some (.int y7), some (.int (b2 + 1))]) dX33_widest_25 rfl (show _ = (b2 + 1) from rfl) rfl ?_
    refine x_goto (tgt := 4) dX33_widest_28 rfl ?_
    exact hT f0 h hW hF
theorem vX33_same_0 {l : Launch} {E : EN} {w : CO} {d : Nat} {s : CS} {f : RH} {Q : KO → CS → RH → Prop} {x0 : Nat} {x1 : Nat}  (hT : (isT f (.ref x1) ∧ ((tg f x1 = some (.inl 30) → (tg f x1 = some (.inl 30) ∧ (oc f x1 30 ∧ (∃ a2 : Nat, vl f x1 204 = .ref a2 ∧ (∃ t3 : Nat, tg f a2 = some (.inr t3) ∧ (oc f x0 30 ∧ (∃ a4 : Nat, vl f x0 204 = .ref a4 ∧ (∃ t5 : Nat, tg f a4 = some (.inr t5) ∧ (((nI (ln f a2)) = (nI (ln f a4)) → ExC l E w (d + 1) MX33_same 32 [some (.ref x0), none, some (.ref x1), some (.int 1), some (.int 0)] [] s f Q) ∧ (¬ (nI (ln f a2)) = (nI (ln f a4)) → Q (.inl (some (.int 0))) s f)))))))))) ∧ (¬ tg f x1 = some (.inl 30) → Q (.inl (some (.int 0))) s f)))) : ExC l E w (d + 1) MX33_same 0 [some (.ref x0), some (.ref x1), none, none, none] [] s f Q := by
  intro f0 h hW hF
  refine x_aload_n dX33_same_0 rfl rfl rfl ?_
  obtain ⟨ht, hT⟩ := hT
  refine c_inst (K := 30) dX33_same_1 (by decide) q1919 ht hW (fun hi1 => ?_) (fun hi1 => ?_)
  · replace hT := hT.1 hi1
    refine x_if_eq (tgt := 25) dX33_same_4 rfl (fun c => absurd c (by decide)) (fun _ => ?_)
    refine x_aload_n dX33_same_7 rfl rfl rfl ?_
    obtain ⟨hc, hT⟩ := hT
    refine c_cast (K := 30) dX33_same_8 q1919 hc hW ?_
    refine x_astore_n (lo' := [some (.ref x0), some (.ref x1), some (.ref x1), none, none]) dX33_same_11 rfl (Nat.le_of_ble_eq_true rfl) rfl rfl ?_
    refine x_aload_n dX33_same_12 rfl rfl rfl ?_
    obtain ⟨hc, hT⟩ := hT
    obtain ⟨a2, ev, hT⟩ := hT
    refine c_fgetG dX33_same_13 f_TallySlate_Table_9 hc (by decide) (by decide) hW ev ?_
    obtain ⟨t3, hc, hT⟩ := hT
    refine c_alen dX33_same_16 hc hW ?_
    refine x_aload_n dX33_same_17 rfl rfl rfl ?_
    obtain ⟨hc, hT⟩ := hT
    obtain ⟨a4, ev, hT⟩ := hT
    refine c_fgetG dX33_same_18 f_TallySlate_Table_9 hc (by decide) (by decide) hW ev ?_
    obtain ⟨t5, hc, hT⟩ := hT
    refine c_alen dX33_same_21 hc hW ?_
    refine x_icmp_eq (tgt := 27) dX33_same_22 rfl (fun c => ?_) (fun c => ?_)
    · replace hT := hT.1 c
      refine x_iconst (v := 1) dX33_same_27 rfl ?_
      refine x_istore_n (lo' := [some (.ref x0), some (.ref x1), some (.ref x1), some (.int 1), none]) dX33_same_28 rfl (Nat.le_of_ble_eq_true rfl) rfl ?_
      refine x_iconst (v := 0) dX33_same_29 rfl ?_
      refine x_istore (lo' := [some (.ref x0), some (.ref x1), some (.ref x1), some (.int 1), some (.int 0)]) dX33_same_30 (Nat.le_of_ble_eq_true rfl) rfl ?_
      refine Ex.wkl (lo' := [some (.ref x0), none, some (.ref x1), some (.int 1), some (.int 0)]) ⟨rfl, rfl, rfl, rfl, trivial⟩ ?_
      exact hT f0 h hW hF
    · replace hT := hT.2 c
      refine x_iconst (v := 0) dX33_same_25 rfl ?_
      exact x_iret dX33_same_26 rfl rfl ⟨_, _, hW, hF, Or.inl ⟨_, rfl, hT⟩⟩
  · replace hT := hT.2 hi1
    refine x_if_eq (tgt := 25) dX33_same_4 rfl (fun _ => ?_) (fun c => absurd c (by decide))
    refine x_iconst (v := 0) dX33_same_25 rfl ?_
    exact x_iret dX33_same_26 rfl rfl ⟨_, _, hW, hF, Or.inl ⟨_, rfl, hT⟩⟩
theorem eX33_same {l : Launch} {E : EN} {w : CO} {d : Nat} {s : CS} {f : RH} {Q : KO → CS → RH → Prop} {x0 : Nat} {x1 : Nat}  (hst : l.stackTraces = false) (hT : (isT f (.ref x1) ∧ ((tg f x1 = some (.inl 30) → (tg f x1 = some (.inl 30) ∧ (oc f x1 30 ∧ (∃ a2 : Nat, vl f x1 204 = .ref a2 ∧ (∃ t3 : Nat, tg f a2 = some (.inr t3) ∧ (oc f x0 30 ∧ (∃ a4 : Nat, vl f x0 204 = .ref a4 ∧ (∃ t5 : Nat, tg f a4 = some (.inr t5) ∧ (((nI (ln f a2)) = (nI (ln f a4)) → ExC l E w (d + 1) MX33_same 32 [some (.ref x0), none, some (.ref x1), some (.int 1), some (.int 0)] [] s f Q) ∧ (¬ (nI (ln f a2)) = (nI (ln f a4)) → Q (.inl (some (.int 0))) s f)))))))))) ∧ (¬ tg f x1 = some (.inl 30) → Q (.inl (some (.int 0))) s f)))) : EvC l E w (d + 1) MX33_same [.ref x0, .ref x1] s f Q :=
  EvC.of hst (by decide) (Nat.le_of_ble_eq_true rfl) (vX33_same_0  hT)
theorem vX33_same_32 {l : Launch} {E : EN} {w : CO} {d : Nat} {s : CS} {f : RH} {Q : KO → CS → RH → Prop} {b0 : Nat} {b2 : Nat} {b3 : Int32} {b4 : Int32}  (hT : ((b3 = 0 → (narrow .boolean (.int b3) = .int b3 ∧ Q (.inl (some (.int b3))) s f)) ∧ (¬ b3 = 0 → (oc f b0 30 ∧ (∃ a6 : Nat, vl f b0 204 = .ref a6 ∧ (∃ t7 : Nat, tg f a6 = some (.inr t7) ∧ (((nI (ln f a6)) ≤ b4 → (narrow .boolean (.int b3) = .int b3 ∧ Q (.inl (some (.int b3))) s f)) ∧ (¬ (nI (ln f a6)) ≤ b4 → (oc f b0 30 ∧ (∃ a8 : Nat, vl f b0 204 = .ref a8 ∧ (∃ t9 : Nat, 4 ≤ t9 ∧ (tg f a8 = some (.inr t9) ∧ inB b4 (ln f a8) ∧ (∃ a10 : Nat, vl f a8 b4.toNatClampNeg = .ref a10 ∧ (oc f b2 30 ∧ (∃ a11 : Nat, vl f b2 204 = .ref a11 ∧ (∃ t12 : Nat, 4 ≤ t12 ∧ (tg f a11 = some (.inr t12) ∧ inB b4 (ln f a11) ∧ (∃ a13 : Nat, vl f a11 b4.toNatClampNeg = .ref a13 ∧ (EvC l E w d MX32_alike [.ref a10, .ref a13] s f (fun o s14 f15 => KP o (fun r => ∃ v16 : Int32, r = some (.int v16) ∧ ExC l E w (d + 1) MX33_same 32 [some (.ref b0), none, some (.ref b2), some (.int v16), some (.int (b4 + 1))] [] s14 f15 Q) (fun k => Q (.inr k) s14 f15))))))))))))))))))))) : ExC l E w (d + 1) MX33_same 32 [some (.ref b0), none, some (.ref b2), some (.int b3), some (.int b4)] [] s f Q := by
  intro f0 h hW hF
  refine x_iload_n dX33_same_32 rfl rfl ?_
  refine x_if_eq (tgt := 70) dX33_same_33 rfl (fun c => ?_) (fun c => ?_)
  · replace hT := hT.1 c
    refine x_iload_n dX33_same_70 rfl rfl ?_
    exact x_iret dX33_same_71 rfl hT.1 ⟨_, _, hW, hF, Or.inl ⟨_, rfl, hT.2⟩⟩
  · replace hT := hT.2 c
    refine x_iload dX33_same_36 rfl ?_
    refine x_aload_n dX33_same_38 rfl rfl rfl ?_
    obtain ⟨hc, hT⟩ := hT
    obtain ⟨a6, ev, hT⟩ := hT
    refine c_fgetG dX33_same_39 f_TallySlate_Table_9 hc (by decide) (by decide) hW ev ?_
    obtain ⟨t7, hc, hT⟩ := hT
    refine c_alen dX33_same_42 hc hW ?_
    refine x_icmp_ge (tgt := 70) dX33_same_43 rfl (fun c => ?_) (fun c => ?_)
    · replace hT := hT.1 c
      refine x_iload_n dX33_same_70 rfl rfl ?_
      exact x_iret dX33_same_71 rfl hT.1 ⟨_, _, hW, hF, Or.inl ⟨_, rfl, hT.2⟩⟩
    · replace hT := hT.2 c
      refine x_aload_n dX33_same_46 rfl rfl rfl ?_
      obtain ⟨hc, hT⟩ := hT
      obtain ⟨a8, ev, hT⟩ := hT
      refine c_fgetG dX33_same_47 f_TallySlate_Table_9 hc (by decide) (by decide) hW ev ?_
      refine x_iload dX33_same_50 rfl ?_
      obtain ⟨t9, ht2, hc, hT⟩ := hT
      obtain ⟨hb, hT⟩ := hT
      obtain ⟨a10, ev, hT⟩ := hT
      refine c_faald dX33_same_52 hc ht2 hb hW ev ?_
      refine x_aload_n dX33_same_53 rfl rfl rfl ?_
      obtain ⟨hc, hT⟩ := hT
      obtain ⟨a11, ev, hT⟩ := hT
      refine c_fgetG dX33_same_54 f_TallySlate_Table_9 hc (by decide) (by decide) hW ev ?_
      refine x_iload dX33_same_57 rfl ?_
      obtain ⟨t12, ht2, hc, hT⟩ := hT
      obtain ⟨hb, hT⟩ := hT
      obtain ⟨a13, ev, hT⟩ := hT
      refine c_faald dX33_same_59 hc ht2 hb hW ev ?_
      refine c_invS (vs := [.ref a10, .ref a13]) dX33_same_60 oX32_alike q1915 (Or.inl q1920) rfl rfl (Nat.le_of_ble_eq_true rfl) rfl hW hF hT ?_ ?_
      · intro _ s14 f15 hT h hW hF
        obtain ⟨v16, rfl, hT⟩ := hT
        refine x_istore_n (lo' := [some (.ref b0), none, some (.ref b2), some (.int v16), some (.int b4)]) dX33_same_63 rfl (Nat.le_of_ble_eq_true rfl) rfl ?_
        refine x_iinc (lo' := [some (.ref b0), none, some (.ref b2), some (.int v16), some (.int (b4 + 1))]) dX33_same_64 rfl (show _ = (b4 + 1) from rfl) rfl ?_
        refine x_goto (tgt := 32) dX33_same_67 rfl ?_
        exact hT f0 h hW hF
      · intro k s14 f15 hT h a hW hx hF
        exact c_out (rfl) hW hx hF hT
theorem vX33_form_0 {l : Launch} {E : EN} {w : CO} {d : Nat} {s : CS} {f : RH} {Q : KO → CS → RH → Prop} {x0 : Nat}  (hT : (EvC l E w d MX8_sign [.ref (w.1 8), .int 123] s f (fun o s1 f2 => KP o (fun r => r = none ∧ ExC l E w (d + 1) MX33_form 8 [some (.ref x0), some (.ref (w.1 8)), some (.int 0)] [] s1 f2 Q) (fun k => Q (.inr k) s1 f2)))) : ExC l E w (d + 1) MX33_form 0 [some (.ref x0), some (.ref (w.1 8)), none] [] s f Q := by
  intro f0 h hW hF
  refine x_aload_n dX33_form_0 rfl rfl rfl ?_
  refine x_bipush (v := 123) dX33_form_1 rfl ?_
  obtain ⟨-, -, cc, hcc, -⟩ := hW.ob 8 (by decide)
  refine c_invV (vs := [.int 123]) dX33_form_3 oX8_sign q1999 q2022 hcc q2000 (Or.inl rfl) rfl rfl (Nat.le_of_ble_eq_true rfl) rfl hW hF hT ?_ ?_
  · intro _ s1 f2 hT h hW hF
    obtain ⟨rfl, hT⟩ := hT
    refine x_iconst (v := 0) dX33_form_6 rfl ?_
    refine x_istore_n (lo' := [some (.ref x0), some (.ref (w.1 8)), some (.int 0)]) dX33_form_7 rfl (Nat.le_of_ble_eq_true rfl) rfl ?_
    exact hT f0 h hW hF
  · intro k s1 f2 hT h a hW hx hF
    exact c_out (rfl) hW hx hF hT
theorem eX33_form {l : Launch} {E : EN} {w : CO} {d : Nat} {s : CS} {f : RH} {Q : KO → CS → RH → Prop} {x0 : Nat}  (hst : l.stackTraces = false) (hT : (EvC l E w d MX8_sign [.ref (w.1 8), .int 123] s f (fun o s1 f2 => KP o (fun r => r = none ∧ ExC l E w (d + 1) MX33_form 8 [some (.ref x0), some (.ref (w.1 8)), some (.int 0)] [] s1 f2 Q) (fun k => Q (.inr k) s1 f2)))) : EvC l E w (d + 1) MX33_form [.ref x0, .ref (w.1 8)] s f Q :=
  EvC.of hst (by decide) (Nat.le_of_ble_eq_true rfl) (vX33_form_0  hT)
theorem vX33_form_8 {l : Launch} {E : EN} {w : CO} {d : Nat} {s : CS} {f : RH} {Q : KO → CS → RH → Prop} {b0 : Nat} {b2 : Int32}  (hT : (oc f b0 30 ∧ (∃ a3 : Nat, vl f b0 204 = .ref a3 ∧ (∃ t4 : Nat, tg f a3 = some (.inr t4) ∧ (((nI (ln f a3)) ≤ b2 → (EvC l E w d MX8_sign [.ref (w.1 8), .int 125] s f (fun o s5 f6 => KP o (fun r => r = none ∧ Q (.inl none) s5 f6) (fun k => Q (.inr k) s5 f6)))) ∧ (¬ (nI (ln f a3)) ≤ b2 → (oc f b0 30 ∧ (∃ a7 : Nat, vl f b0 204 = .ref a7 ∧ (∃ t8 : Nat, 4 ≤ t8 ∧ (tg f a7 = some (.inr t8) ∧ inB b2 (ln f a7) ∧ (∃ a9 : Nat, vl f a7 b2.toNatClampNeg = .ref a9 ∧ (EvC l E w d MX32_form_2 [.ref a9, .ref (w.1 8)] s f (fun o s10 f11 => KP o (fun r => r = none ∧ ExC l E w (d + 1) MX33_form 8 [some (.ref b0), some (.ref (w.1 8)), some (.int (b2 + 1))] [] s10 f11 Q) (fun k => Q (.inr k) s10 f11)))))))))))))) : ExC l E w (d + 1) MX33_form 8 [some (.ref b0), some (.ref (w.1 8)), some (.int b2)] [] s f Q := by
  intro f0 h hW hF
  refine x_iload_n dX33_form_8 rfl rfl ?_
  refine x_aload_n dX33_form_9 rfl rfl rfl ?_
  obtain ⟨hc, hT⟩ := hT
  obtain ⟨a3, ev, hT⟩ := hT
  refine c_fgetG dX33_form_10 f_TallySlate_Table_9 hc (by decide) (by decide) hW ev ?_
  obtain ⟨t4, hc, hT⟩ := hT
  refine c_alen dX33_form_13 hc hW ?_
  refine x_icmp_ge (tgt := 33) dX33_form_14 rfl (fun c => ?_) (fun c => ?_)
  · replace hT := hT.1 c
    refine x_aload_n dX33_form_33 rfl rfl rfl ?_
    refine x_bipush (v := 125) dX33_form_34 rfl ?_
    obtain ⟨-, -, cc, hcc, -⟩ := hW.ob 8 (by decide)
    refine c_invV (vs := [.int 125]) dX33_form_36 oX8_sign q1999 q2022 hcc q2000 (Or.inl rfl) rfl rfl (Nat.le_of_ble_eq_true rfl) rfl hW hF hT ?_ ?_
    · intro _ s5 f6 hT h hW hF
      obtain ⟨rfl, hT⟩ := hT
      exact x_vret dX33_form_39 rfl ⟨_, _, hW, hF, Or.inl ⟨_, rfl, hT⟩⟩
    · intro k s5 f6 hT h a hW hx hF
      exact c_out (rfl) hW hx hF hT
  · replace hT := hT.2 c
    refine x_aload_n dX33_form_17 rfl rfl rfl ?_
    obtain ⟨hc, hT⟩ := hT
    obtain ⟨a7, ev, hT⟩ := hT
    refine c_fgetG dX33_form_18 f_TallySlate_Table_9 hc (by decide) (by decide) hW ev ?_
    refine x_iload_n dX33_form_21 rfl rfl ?_
    obtain ⟨t8, ht2, hc, hT⟩ := hT
    obtain ⟨hb, hT⟩ := hT
    obtain ⟨a9, ev, hT⟩ := hT
    refine c_faald dX33_form_22 hc ht2 hb hW ev ?_
    refine x_aload_n dX33_form_23 rfl rfl rfl ?_
    refine c_invS (vs := [.ref a9, .ref (w.1 8)]) dX33_form_24 oX32_form_2 q2016 (Or.inl q2023) rfl rfl (Nat.le_of_ble_eq_true rfl) rfl hW hF hT ?_ ?_
    · intro _ s10 f11 hT h hW hF
      obtain ⟨rfl, hT⟩ := hT
      refine x_iinc (lo' := [some (.ref b0), some (.ref (w.1 8)), some (.int (b2 + 1))]) dX33_form_27 rfl (show _ = (b2 + 1) from rfl) rfl ?_
      refine x_goto (tgt := 8) dX33_form_30 rfl ?_
      exact hT f0 h hW hF
    · intro k s10 f11 hT h a hW hx hF
      exact c_out (rfl) hW hx hF hT
theorem vX33_sum_0 {l : Launch} {E : EN} {w : CO} {d : Nat} {s : CS} {f : RH} {Q : KO → CS → RH → Prop} {x0 : Nat} {x1 : Int64}  (hT : (EvC l E w d MX0_joined [.long x1, .long 2] s f (fun o s1 f2 => KP o (fun r => ∃ v3 : Int64, r = some (.long v3) ∧ (oc f2 x0 30 ∧ (∃ a4 : Nat, vl f2 x0 204 = .ref a4 ∧ (∃ t5 : Nat, tg f2 a4 = some (.inr t5) ∧ (EvC l E w d MX0_joined [.long v3, .long (nI (ln f2 a4)).toInt64] s1 f2 (fun o s6 f7 => KP o (fun r => ∃ v8 : Int64, r = some (.long v8) ∧ ExC l E w (d + 1) MX33_sum 20 [some (.ref x0), none, none, some (.long v8), none, some (.int 0)] [] s6 f7 Q) (fun k => Q (.inr k) s6 f7))))))) (fun k => Q (.inr k) s1 f2)))) : ExC l E w (d + 1) MX33_sum 0 [some (.ref x0), some (.long x1), none, none, none, none] [] s f Q := by
  intro f0 h hW hF
  refine x_lload_n dX33_sum_0 rfl rfl ?_
  refine x_ldc2 dX33_sum_1 q2170 ?_
  refine c_invS (vs := [.long x1, .long 2]) dX33_sum_4 oX0_joined q2150 (Or.inr ⟨_, q2171⟩) rfl rfl (Nat.le_of_ble_eq_true rfl) rfl hW hF hT ?_ ?_
  · intro _ s1 f2 hT h hW hF
    obtain ⟨v3, rfl, hT⟩ := hT
    refine x_aload_n dX33_sum_7 rfl rfl rfl ?_
    obtain ⟨hc, hT⟩ := hT
    obtain ⟨a4, ev, hT⟩ := hT
    refine c_fgetG dX33_sum_8 f_TallySlate_Table_9 hc (by decide) (by decide) hW ev ?_
    obtain ⟨t5, hc, hT⟩ := hT
    refine c_alen dX33_sum_11 hc hW ?_
    refine x_i2l dX33_sum_12 ?_
    refine c_invS (vs := [.long v3, .long (nI (ln f2 a4)).toInt64]) dX33_sum_13 oX0_joined q2150 (Or.inr ⟨_, q2171⟩) rfl rfl (Nat.le_of_ble_eq_true rfl) rfl hW hF hT ?_ ?_
    · intro _ s6 f7 hT h hW hF
      obtain ⟨v8, rfl, hT⟩ := hT
      refine x_lstore_n (lo' := [some (.ref x0), some (.long x1), none, some (.long v8), none, none]) dX33_sum_16 rfl (Nat.le_of_ble_eq_true rfl) rfl ?_
      refine x_iconst (v := 0) dX33_sum_17 rfl ?_
      refine x_istore (lo' := [some (.ref x0), some (.long x1), none, some (.long v8), none, some (.int 0)]) dX33_sum_18 (Nat.le_of_ble_eq_true rfl) rfl ?_
      refine Ex.wkl (lo' := [some (.ref x0), none, none, some (.long v8), none, some (.int 0)]) ⟨rfl, rfl, rfl, trivial⟩ ?_
      exact hT f0 h hW hF
    · intro k s6 f7 hT h a hW hx hF
      exact c_out (rfl) hW hx hF hT
  · intro k s1 f2 hT h a hW hx hF
    exact c_out (rfl) hW hx hF hT
theorem eX33_sum {l : Launch} {E : EN} {w : CO} {d : Nat} {s : CS} {f : RH} {Q : KO → CS → RH → Prop} {x0 : Nat} {x1 : Int64}  (hst : l.stackTraces = false) (hT : (EvC l E w d MX0_joined [.long x1, .long 2] s f (fun o s1 f2 => KP o (fun r => ∃ v3 : Int64, r = some (.long v3) ∧ (oc f2 x0 30 ∧ (∃ a4 : Nat, vl f2 x0 204 = .ref a4 ∧ (∃ t5 : Nat, tg f2 a4 = some (.inr t5) ∧ (EvC l E w d MX0_joined [.long v3, .long (nI (ln f2 a4)).toInt64] s1 f2 (fun o s6 f7 => KP o (fun r => ∃ v8 : Int64, r = some (.long v8) ∧ ExC l E w (d + 1) MX33_sum 20 [some (.ref x0), none, none, some (.long v8), none, some (.int 0)] [] s6 f7 Q) (fun k => Q (.inr k) s6 f7))))))) (fun k => Q (.inr k) s1 f2)))) : EvC l E w (d + 1) MX33_sum [.ref x0, .long x1] s f Q :=
  EvC.of hst (by decide) (Nat.le_of_ble_eq_true rfl) (vX33_sum_0  hT)
theorem vX33_sum_20 {l : Launch} {E : EN} {w : CO} {d : Nat} {s : CS} {f : RH} {Q : KO → CS → RH → Prop} {b0 : Nat} {b3 : Int64} {b5 : Int32}  (hT : (oc f b0 30 ∧ (∃ a9 : Nat, vl f b0 204 = .ref a9 ∧ (∃ t10 : Nat, tg f a9 = some (.inr t10) ∧ (((nI (ln f a9)) ≤ b5 → Q (.inl (some (.long b3))) s f) ∧ (¬ (nI (ln f a9)) ≤ b5 → (oc f b0 30 ∧ (∃ a11 : Nat, vl f b0 204 = .ref a11 ∧ (∃ t12 : Nat, 4 ≤ t12 ∧ (tg f a11 = some (.inr t12) ∧ inB b5 (ln f a11) ∧ (∃ a13 : Nat, vl f a11 b5.toNatClampNeg = .ref a13 ∧ (EvC l E w d MX32_sum_2 [.ref a13, .long b3] s f (fun o s14 f15 => KP o (fun r => ∃ v16 : Int64, r = some (.long v16) ∧ ExC l E w (d + 1) MX33_sum 20 [some (.ref b0), none, none, some (.long v16), none, some (.int (b5 + 1))] [] s14 f15 Q) (fun k => Q (.inr k) s14 f15)))))))))))))) : ExC l E w (d + 1) MX33_sum 20 [some (.ref b0), none, none, some (.long b3), none, some (.int b5)] [] s f Q := by
  intro f0 h hW hF
  refine x_iload dX33_sum_20 rfl ?_
  refine x_aload_n dX33_sum_22 rfl rfl rfl ?_
  obtain ⟨hc, hT⟩ := hT
  obtain ⟨a9, ev, hT⟩ := hT
  refine c_fgetG dX33_sum_23 f_TallySlate_Table_9 hc (by decide) (by decide) hW ev ?_
  obtain ⟨t10, hc, hT⟩ := hT
  refine c_alen dX33_sum_26 hc hW ?_
  refine x_icmp_ge (tgt := 48) dX33_sum_27 rfl (fun c => ?_) (fun c => ?_)
  · replace hT := hT.1 c
    refine x_lload_n dX33_sum_48 rfl rfl ?_
    exact x_lret dX33_sum_49 rfl ⟨_, _, hW, hF, Or.inl ⟨_, rfl, hT⟩⟩
  · replace hT := hT.2 c
    refine x_aload_n dX33_sum_30 rfl rfl rfl ?_
    obtain ⟨hc, hT⟩ := hT
    obtain ⟨a11, ev, hT⟩ := hT
    refine c_fgetG dX33_sum_31 f_TallySlate_Table_9 hc (by decide) (by decide) hW ev ?_
    refine x_iload dX33_sum_34 rfl ?_
    obtain ⟨t12, ht2, hc, hT⟩ := hT
    obtain ⟨hb, hT⟩ := hT
    obtain ⟨a13, ev, hT⟩ := hT
    refine c_faald dX33_sum_36 hc ht2 hb hW ev ?_
    refine x_lload_n dX33_sum_37 rfl rfl ?_
    refine c_invS (vs := [.ref a13, .long b3]) dX33_sum_38 oX32_sum_2 q2166 (Or.inl q2172) rfl rfl (Nat.le_of_ble_eq_true rfl) rfl hW hF hT ?_ ?_
    · intro _ s14 f15 hT h hW hF
      obtain ⟨v16, rfl, hT⟩ := hT
      refine x_lstore_n (lo' := [some (.ref b0), none, none, some (.long v16), none, some (.int b5)]) dX33_sum_41 rfl (Nat.le_of_ble_eq_true rfl) rfl ?_
      refine x_iinc (lo' := [some (.ref b0), none, none, some (.long v16), none, some (.int (b5 + 1))]) dX33_sum_42 rfl (show _ = (b5 + 1) from rfl) rfl ?_
      refine x_goto (tgt := 20) dX33_sum_45 rfl ?_
      exact hT f0 h hW hF
    · intro k s14 f15 hT h a hW hx hF
      exact c_out (rfl) hW hx hF hT
theorem vX34_made_0 {l : Launch} {E : EN} {w : CO} {d : Nat} {s : CS} {f : RH} {Q : KO → CS → RH → Prop} {x0 : Nat}  (hT : (oc f x0 31 ∧ (∃ a1 : Nat, vl f x0 206 = .ref a1 ∧ (∃ t2 : Nat, tg f a1 = some (.inr t2) ∧ Q (.inl (some (.int (4 + (2 * (nI (ln f a1))))))) s f)))) : ExC l E w d MX34_made 0 [some (.ref x0)] [] s f Q := by
  intro f0 h hW hF
  refine x_iconst (v := 4) dX34_made_0 rfl ?_
  refine x_iconst (v := 2) dX34_made_1 rfl ?_
  refine x_aload_n dX34_made_2 rfl rfl rfl ?_
  obtain ⟨hc, hT⟩ := hT
  obtain ⟨a1, ev, hT⟩ := hT
  refine c_fgetG dX34_made_3 f_TallySlate_Pack_9 hc (by decide) (by decide) hW ev ?_
  obtain ⟨t2, hc, hT⟩ := hT
  refine c_alen dX34_made_6 hc hW ?_
  refine x_imul dX34_made_7 ?_
  refine x_iadd dX34_made_8 ?_
  exact x_iret dX34_made_9 rfl rfl ⟨_, _, hW, hF, Or.inl ⟨_, rfl, hT⟩⟩
theorem eX34_made {l : Launch} {E : EN} {w : CO} {d : Nat} {s : CS} {f : RH} {Q : KO → CS → RH → Prop} {x0 : Nat}  (hst : l.stackTraces = false) (hT : (oc f x0 31 ∧ (∃ a1 : Nat, vl f x0 206 = .ref a1 ∧ (∃ t2 : Nat, tg f a1 = some (.inr t2) ∧ Q (.inl (some (.int (4 + (2 * (nI (ln f a1))))))) s f)))) : EvC l E w d MX34_made [.ref x0] s f Q :=
  EvC.of hst (by decide) (Nat.le_of_ble_eq_true rfl) (vX34_made_0  hT)
theorem vX34_size_0 {l : Launch} {E : EN} {w : CO} {d : Nat} {s : CS} {f : RH} {Q : KO → CS → RH → Prop} {x0 : Nat}  (hT : (oc f x0 31 ∧ (∃ a1 : Nat, vl f x0 206 = .ref a1 ∧ (∃ t2 : Nat, tg f a1 = some (.inr t2) ∧ Q (.inl (some (.int (nI (ln f a1))))) s f)))) : ExC l E w d MX34_size 0 [some (.ref x0)] [] s f Q := by
  intro f0 h hW hF
  refine x_aload_n dX34_size_0 rfl rfl rfl ?_
  obtain ⟨hc, hT⟩ := hT
  obtain ⟨a1, ev, hT⟩ := hT
  refine c_fgetG dX34_size_1 f_TallySlate_Pack_9 hc (by decide) (by decide) hW ev ?_
  obtain ⟨t2, hc, hT⟩ := hT
  refine c_alen dX34_size_4 hc hW ?_
  exact x_iret dX34_size_5 rfl rfl ⟨_, _, hW, hF, Or.inl ⟨_, rfl, hT⟩⟩
theorem eX34_size {l : Launch} {E : EN} {w : CO} {d : Nat} {s : CS} {f : RH} {Q : KO → CS → RH → Prop} {x0 : Nat}  (hst : l.stackTraces = false) (hT : (oc f x0 31 ∧ (∃ a1 : Nat, vl f x0 206 = .ref a1 ∧ (∃ t2 : Nat, tg f a1 = some (.inr t2) ∧ Q (.inl (some (.int (nI (ln f a1))))) s f)))) : EvC l E w d MX34_size [.ref x0] s f Q :=
  EvC.of hst (by decide) (Nat.le_of_ble_eq_true rfl) (vX34_size_0  hT)
theorem vX34_init_0 {l : Launch} {E : EN} {w : CO} {d : Nat} {s : CS} {f : RH} {Q : KO → CS → RH → Prop} {x0 : Nat} {x1 : Nat}  (hT : (EvC l E w d MX31_init [.ref x0] s f (fun o s1 f2 => KP o (fun r => r = none ∧ (oc f2 x0 31 ∧ f2.2.2.2 ≤ x0 ∧ ∀ f3 : RH, f3 = fset f2 x0 206 (.ref x1) → ExC l E w (d + 1) MX34_init 16 [some (.ref x0), some (.ref x1), some (.int 0), some (.int 1), some (.int 0)] [] s1 f3 Q)) (fun k => Q (.inr k) s1 f2)))) : ExC l E w (d + 1) MX34_init 0 [some (.ref x0), some (.ref x1), none, none, none] [] s f Q := by
  intro f0 h hW hF
  refine x_aload_n dX34_init_0 rfl rfl rfl ?_
  refine c_invI (b := x0) (vs := []) dX34_init_1 oX31_init rfl rfl rfl q1399 (Or.inr ⟨_, q1561⟩) rfl rfl (Nat.le_of_ble_eq_true rfl) rfl hW hF hT ?_ ?_
  · intro _ s1 f2 hT h hW hF
    obtain ⟨rfl, hT⟩ := hT
    refine x_aload_n dX34_init_4 rfl rfl rfl ?_
    refine x_aload_n dX34_init_5 rfl rfl rfl ?_
    obtain ⟨hc, hz, hT⟩ := hT
    refine c_fputG dX34_init_6 f_TallySlate_Pack_9 hc (by decide) (by decide) hz (Or.inr ⟨rfl, rfl⟩) rfl rfl hW hF ?_
    intro f3 ef3 h hW hF
    replace hT := hT f3 ef3
    refine x_iconst (v := 0) dX34_init_9 rfl ?_
    refine x_istore_n (lo' := [some (.ref x0), some (.ref x1), some (.int 0), none, none]) dX34_init_10 rfl (Nat.le_of_ble_eq_true rfl) rfl ?_
    refine x_iconst (v := 1) dX34_init_11 rfl ?_
    refine x_istore_n (lo' := [some (.ref x0), some (.ref x1), some (.int 0), some (.int 1), none]) dX34_init_12 rfl (Nat.le_of_ble_eq_true rfl) rfl ?_
    refine x_iconst (v := 0) dX34_init_13 rfl ?_
    refine x_istore (lo' := [some (.ref x0), some (.ref x1), some (.int 0), some (.int 1), some (.int 0)]) dX34_init_14 (Nat.le_of_ble_eq_true rfl) rfl ?_
    exact hT f0 h hW hF
  · intro k s1 f2 hT h a hW hx hF
    exact c_out (rfl) hW hx hF hT
theorem eX34_init {l : Launch} {E : EN} {w : CO} {d : Nat} {s : CS} {f : RH} {Q : KO → CS → RH → Prop} {x0 : Nat} {x1 : Nat}  (hst : l.stackTraces = false) (hT : (EvC l E w d MX31_init [.ref x0] s f (fun o s1 f2 => KP o (fun r => r = none ∧ (oc f2 x0 31 ∧ f2.2.2.2 ≤ x0 ∧ ∀ f3 : RH, f3 = fset f2 x0 206 (.ref x1) → ExC l E w (d + 1) MX34_init 16 [some (.ref x0), some (.ref x1), some (.int 0), some (.int 1), some (.int 0)] [] s1 f3 Q)) (fun k => Q (.inr k) s1 f2)))) : EvC l E w (d + 1) MX34_init [.ref x0, .ref x1] s f Q :=
  EvC.of hst (by decide) (Nat.le_of_ble_eq_true rfl) (vX34_init_0  hT)
set_option maxHeartbeats 16000000 in
theorem vX34_init_16 {l : Launch} {E : EN} {w : CO} {d : Nat} {s : CS} {f : RH} {Q : KO → CS → RH → Prop} {b0 : Nat} {b1 : Nat} {b2 : Int32} {b3 : Int32} {b4 : Int32}  (hT : (∃ t4 : Nat, tg f b1 = some (.inr t4) ∧ (((nI (ln f b1)) ≤ b4 → (oc f b0 31 ∧ f.2.2.2 ≤ b0 ∧ ∀ f5 : RH, f5 = fset f b0 207 (.int (b2 + 1)) → (oc f5 b0 31 ∧ f5.2.2.2 ≤ b0 ∧ ∀ f6 : RH, f6 = fset f5 b0 208 (.int b3) → Q (.inl none) s f6))) ∧ (¬ (nI (ln f b1)) ≤ b4 → (∃ t7 : Nat, 4 ≤ t7 ∧ (tg f b1 = some (.inr t7) ∧ inB b4 (ln f b1) ∧ (∃ a8 : Nat, vl f b1 b4.toNatClampNeg = .ref a8 ∧ (∃ P22 : KO → CS → RH → Prop, (∀ o s9 f10, P22 o s9 f10 → KP o (fun r => ∃ v11 : Int32, r = some (.int v11) ∧ (∀ y12 : Int32, y12 = (if b2 < v11 then v11 else b2) → (∃ t13 : Nat, 4 ≤ t13 ∧ (tg f10 b1 = some (.inr t13) ∧ inB b4 (ln f10 b1) ∧ (∃ a14 : Nat, vl f10 b1 b4.toNatClampNeg = .ref a14 ∧ (∃ P20 : KO → CS → RH → Prop, (∀ o s15 f16, P20 o s15 f16 → KP o (fun r => ∃ v17 : Int32, r = some (.int v17) ∧ (∀ y18 : Int32, y18 = (b3 + v17) → ExC l E w (d + 1) MX34_init 16 [some (.ref b0), some (.ref b1), some (.int y12), some (.int y18), some (.int (b4 + 1))] [] s15 f16 Q)) (fun k => Q (.inr k) s15 f16)) ∧ ∃ k19 : Nat, oc f10 a14 k19 ∧ ((k19 = 29 ∧ EvC l E w d MX32_bulk [.ref a14] s9 f10 P20) ∨ (k19 = 30 ∧ EvC l E w d MX33_bulk [.ref a14] s9 f10 P20) ∨ (k19 = 31 ∧ EvC l E w d MX34_bulk [.ref a14] s9 f10 P20) ∨ (k19 = 32 ∧ EvC l E w d MX35_bulk [.ref a14] s9 f10 P20)))))))) (fun k => Q (.inr k) s9 f10)) ∧ ∃ k21 : Nat, oc f a8 k21 ∧ ((k21 = 29 ∧ EvC l E w d MX31_depth [.ref a8] s f P22) ∨ (k21 = 30 ∧ EvC l E w d MX31_depth [.ref a8] s f P22) ∨ (k21 = 31 ∧ EvC l E w d MX34_depth [.ref a8] s f P22) ∨ (k21 = 32 ∧ EvC l E w d MX31_depth [.ref a8] s f P22)))))))))) : ExC l E w (d + 1) MX34_init 16 [some (.ref b0), some (.ref b1), some (.int b2), some (.int b3), some (.int b4)] [] s f Q := by
  intro f0 h hW hF
  refine x_iload dX34_init_16 rfl ?_
  refine x_aload_n dX34_init_18 rfl rfl rfl ?_
  obtain ⟨t4, hc, hT⟩ := hT
  refine c_alen dX34_init_19 hc hW ?_
  refine x_icmp_ge (tgt := 51) dX34_init_20 rfl (fun c => ?_) (fun c => ?_)
  · replace hT := hT.1 c
    refine x_aload_n dX34_init_51 rfl rfl rfl ?_
    refine x_iload_n dX34_init_52 rfl rfl ?_
    refine x_iconst (v := 1) dX34_init_53 rfl ?_
    refine x_iadd dX34_init_54 ?_
    obtain ⟨hc, hz, hT⟩ := hT
    refine c_fputG dX34_init_55 f_TallySlate_Pack_28 hc (by decide) (by decide) hz (Or.inr ⟨rfl, rfl⟩) rfl rfl hW hF ?_
    intro f5 ef5 h hW hF
    replace hT := hT f5 ef5
    refine x_aload_n dX34_init_58 rfl rfl rfl ?_
    refine x_iload_n dX34_init_59 rfl rfl ?_
    obtain ⟨hc, hz, hT⟩ := hT
    refine c_fputG dX34_init_60 f_TallySlate_Pack_31 hc (by decide) (by decide) hz (Or.inr ⟨rfl, rfl⟩) rfl rfl hW hF ?_
    intro f6 ef6 h hW hF
    replace hT := hT f6 ef6
    exact x_vret dX34_init_63 rfl ⟨_, _, hW, hF, Or.inl ⟨_, rfl, hT⟩⟩
  · replace hT := hT.2 c
    refine x_iload_n dX34_init_23 rfl rfl ?_
    refine x_aload_n dX34_init_24 rfl rfl rfl ?_
    refine x_iload dX34_init_25 rfl ?_
    obtain ⟨t7, ht2, hc, hT⟩ := hT
    obtain ⟨hb, hT⟩ := hT
    obtain ⟨a8, ev, hT⟩ := hT
    refine c_faald dX34_init_27 hc ht2 hb hW ev ?_
    obtain ⟨P22, hP, k21, hc, hT⟩ := hT
    have kr : ∀ r s9 f10, P22 (.inl r) s9 f10 → ∀ h, CW E w s9 f10 h → Frz f0 f10 → Ex l E (d + 1) MX34_init (28 + 3) [some (.ref b0), some (.ref b1), some (.int b2), some (.int b3), some (.int b4)] (r.toList ++ [.int b2]) h (PoC E w f0 Q) := by
      intro r s9 f10 h0 h hW hF
      have hT := hP _ _ _ h0
      clear h0
      obtain ⟨v11, rfl, hT⟩ := hT
      refine x_mmax dX34_init_31 q1572 q669 q181 mq_max (Nat.le_of_ble_eq_true rfl) rfl ?_
      obtain ⟨y12, ey12⟩ : ∃ z : Int32, z = (if b2 < v11 then v11 else b2) := ⟨_, rfl⟩
      replace hT := hT y12 ey12
      refine x_istore_n (lo' := [some (.ref b0), some (.ref b1), some (.int y12), some (.int b3), some (.int b4)]) dX34_init_34 rfl (Nat.le_of_ble_eq_true rfl) (by rw [ey12]; exact rfl) ?_
      refine x_iload_n dX34_init_35 rfl rfl ?_
      refine x_aload_n dX34_init_36 rfl rfl rfl ?_
      refine x_iload dX34_init_37 rfl ?_
      obtain ⟨t13, ht2, hc, hT⟩ := hT
      obtain ⟨hb, hT⟩ := hT
      obtain ⟨a14, ev, hT⟩ := hT
      refine c_faald dX34_init_39 hc ht2 hb hW ev ?_
      obtain ⟨P20, hP, k19, hc, hT⟩ := hT
      have kr : ∀ r s15 f16, P20 (.inl r) s15 f16 → ∀ h, CW E w s15 f16 h → Frz f0 f16 → Ex l E (d + 1) MX34_init (40 + 3) [some (.ref b0), some (.ref b1), some (.int y12), some (.int b3), some (.int b4)] (r.toList ++ [.int b3]) h (PoC E w f0 Q) := by
        intro r s15 f16 h0 h hW hF
        have hT := hP _ _ _ h0
        clear h0
        obtain ⟨v17, rfl, hT⟩ := hT
        refine x_iadd dX34_init_43 ?_
        obtain ⟨y18, ey18⟩ : ∃ z : Int32, z = (b3 + v17) := ⟨_, rfl⟩
        replace hT := hT y18 ey18
        refine x_istore_n (lo' := [some (.ref b0), some (.ref b1), some (.int y12), some (.int y18), some (.int b4)]) dX34_init_44 rfl (Nat.le_of_ble_eq_true rfl) (by rw [ey18]; exact rfl) ?_
        refine x_iinc (lo' := [some (.ref b0), some (.ref b1), some (.int y12), some (.int y18), some (.int (b4 + 1))]) dX34_init_45 rfl (show _ = (b4 + 1) from rfl) rfl ?_
        refine x_goto (tgt := 16) dX34_init_48 rfl ?_
        exact hT f0 h hW hF
      have kt : ∀ k s15 f16, P20 (.inr k) s15 f16 → ∀ h a, CW E w s15 f16 h → xA w h k a → Frz f0 f16 → ExT l E (d + 1) MX34_init 40 [some (.ref b0), some (.ref b1), some (.int y12), some (.int b3), some (.int b4)] [.int b3] a h (PoC E w f0 Q) := by
        intro k s15 f16 h0 h a hW hx hF
        have hT := hP _ _ _ h0
        clear h0
        exact c_out (rfl) hW hx hF hT
      obtain ⟨cc, hcc⟩ := hW.ocell hc
      rcases hT with ⟨rfl, hT⟩ | ⟨rfl, hT⟩ | ⟨rfl, hT⟩ | ⟨rfl, hT⟩
      · exact c_invV (vs := []) dX34_init_40 oX32_bulk q1580 q1573 hcc q1579 (Or.inr hy_Thing_bulk) rfl rfl (Nat.le_of_ble_eq_true rfl) rfl hW hF hT kr kt
      · exact c_invV (vs := []) dX34_init_40 oX33_bulk q1583 q1573 hcc q1582 (Or.inr hy_Thing_bulk) rfl rfl (Nat.le_of_ble_eq_true rfl) rfl hW hF hT kr kt
      · exact c_invV (vs := []) dX34_init_40 oX34_bulk q1577 q1573 hcc q1576 (Or.inr hy_Thing_bulk) rfl rfl (Nat.le_of_ble_eq_true rfl) rfl hW hF hT kr kt
      · exact c_invV (vs := []) dX34_init_40 oX35_bulk q1586 q1573 hcc q1585 (Or.inr hy_Thing_bulk) rfl rfl (Nat.le_of_ble_eq_true rfl) rfl hW hF hT kr kt
    have kt : ∀ k s9 f10, P22 (.inr k) s9 f10 → ∀ h a, CW E w s9 f10 h → xA w h k a → Frz f0 f10 → ExT l E (d + 1) MX34_init 28 [some (.ref b0), some (.ref b1), some (.int b2), some (.int b3), some (.int b4)] [.int b2] a h (PoC E w f0 Q) := by
      intro k s9 f10 h0 h a hW hx hF
      have hT := hP _ _ _ h0
      clear h0
      exact c_out (rfl) hW hx hF hT
    obtain ⟨cc, hcc⟩ := hW.ocell hc
    rcases hT with ⟨rfl, hT⟩ | ⟨rfl, hT⟩ | ⟨rfl, hT⟩ | ⟨rfl, hT⟩
    · exact c_invV (vs := []) dX34_init_28 oX31_depth q1563 q1562 hcc q1568 (Or.inl rfl) rfl rfl (Nat.le_of_ble_eq_true rfl) rfl hW hF hT kr kt
    · exact c_invV (vs := []) dX34_init_28 oX31_depth q1563 q1562 hcc q1569 (Or.inl rfl) rfl rfl (Nat.le_of_ble_eq_true rfl) rfl hW hF hT kr kt
    · exact c_invV (vs := []) dX34_init_28 oX34_depth q1566 q1562 hcc q1565 (Or.inr hy_Thing_depth) rfl rfl (Nat.le_of_ble_eq_true rfl) rfl hW hF hT kr kt
    · exact c_invV (vs := []) dX34_init_28 oX31_depth q1563 q1562 hcc q1570 (Or.inl rfl) rfl rfl (Nat.le_of_ble_eq_true rfl) rfl hW hF hT kr kt
theorem vX34_depth_0 {l : Launch} {E : EN} {w : CO} {d : Nat} {s : CS} {f : RH} {Q : KO → CS → RH → Prop} {x0 : Nat}  (hT : (oc f x0 31 ∧ (∃ v1 : Int32, vl f x0 207 = .int v1 ∧ Q (.inl (some (.int v1))) s f))) : ExC l E w d MX34_depth 0 [some (.ref x0)] [] s f Q := by
  intro f0 h hW hF
  refine x_aload_n dX34_depth_0 rfl rfl rfl ?_
  obtain ⟨hc, hT⟩ := hT
  obtain ⟨v1, ev, hT⟩ := hT
  refine c_fgetG dX34_depth_1 f_TallySlate_Pack_28 hc (by decide) (by decide) hW ev ?_
  exact x_iret dX34_depth_4 rfl rfl ⟨_, _, hW, hF, Or.inl ⟨_, rfl, hT⟩⟩
theorem eX34_depth {l : Launch} {E : EN} {w : CO} {d : Nat} {s : CS} {f : RH} {Q : KO → CS → RH → Prop} {x0 : Nat}  (hst : l.stackTraces = false) (hT : (oc f x0 31 ∧ (∃ v1 : Int32, vl f x0 207 = .int v1 ∧ Q (.inl (some (.int v1))) s f))) : EvC l E w d MX34_depth [.ref x0] s f Q :=
  EvC.of hst (by decide) (Nat.le_of_ble_eq_true rfl) (vX34_depth_0  hT)
theorem vX34_bulk_0 {l : Launch} {E : EN} {w : CO} {d : Nat} {s : CS} {f : RH} {Q : KO → CS → RH → Prop} {x0 : Nat}  (hT : (oc f x0 31 ∧ (∃ v1 : Int32, vl f x0 208 = .int v1 ∧ Q (.inl (some (.int v1))) s f))) : ExC l E w d MX34_bulk 0 [some (.ref x0)] [] s f Q := by
  intro f0 h hW hF
  refine x_aload_n dX34_bulk_0 rfl rfl rfl ?_
  obtain ⟨hc, hT⟩ := hT
  obtain ⟨v1, ev, hT⟩ := hT
  refine c_fgetG dX34_bulk_1 f_TallySlate_Pack_31 hc (by decide) (by decide) hW ev ?_
  exact x_iret dX34_bulk_4 rfl rfl ⟨_, _, hW, hF, Or.inl ⟨_, rfl, hT⟩⟩
theorem eX34_bulk {l : Launch} {E : EN} {w : CO} {d : Nat} {s : CS} {f : RH} {Q : KO → CS → RH → Prop} {x0 : Nat}  (hst : l.stackTraces = false) (hT : (oc f x0 31 ∧ (∃ v1 : Int32, vl f x0 208 = .int v1 ∧ Q (.inl (some (.int v1))) s f))) : EvC l E w d MX34_bulk [.ref x0] s f Q :=
  EvC.of hst (by decide) (Nat.le_of_ble_eq_true rfl) (vX34_bulk_0  hT)
theorem vX34_kind_0 {l : Launch} {E : EN} {w : CO} {d : Nat} {s : CS} {f : RH} {Q : KO → CS → RH → Prop} {x0 : Nat}  (hT : Q (.inl (some (.int 3))) s f) : ExC l E w d MX34_kind 0 [some (.ref x0)] [] s f Q := by
  intro f0 h hW hF
  refine x_iconst (v := 3) dX34_kind_0 rfl ?_
  exact x_iret dX34_kind_1 rfl rfl ⟨_, _, hW, hF, Or.inl ⟨_, rfl, hT⟩⟩
theorem eX34_kind {l : Launch} {E : EN} {w : CO} {d : Nat} {s : CS} {f : RH} {Q : KO → CS → RH → Prop} {x0 : Nat}  (hst : l.stackTraces = false) (hT : Q (.inl (some (.int 3))) s f) : EvC l E w d MX34_kind [.ref x0] s f Q :=
  EvC.of hst (by decide) (Nat.le_of_ble_eq_true rfl) (vX34_kind_0  hT)
theorem vX34_same_0 {l : Launch} {E : EN} {w : CO} {d : Nat} {s : CS} {f : RH} {Q : KO → CS → RH → Prop} {x0 : Nat} {x1 : Nat}  (hT : (isT f (.ref x1) ∧ ((tg f x1 = some (.inl 31) → (tg f x1 = some (.inl 31) ∧ (oc f x1 31 ∧ (∃ a2 : Nat, vl f x1 206 = .ref a2 ∧ (∃ t3 : Nat, tg f a2 = some (.inr t3) ∧ (oc f x0 31 ∧ (∃ a4 : Nat, vl f x0 206 = .ref a4 ∧ (∃ t5 : Nat, tg f a4 = some (.inr t5) ∧ (((nI (ln f a2)) = (nI (ln f a4)) → ExC l E w (d + 1) MX34_same 32 [some (.ref x0), none, some (.ref x1), some (.int 1), some (.int 0)] [] s f Q) ∧ (¬ (nI (ln f a2)) = (nI (ln f a4)) → Q (.inl (some (.int 0))) s f)))))))))) ∧ (¬ tg f x1 = some (.inl 31) → Q (.inl (some (.int 0))) s f)))) : ExC l E w (d + 1) MX34_same 0 [some (.ref x0), some (.ref x1), none, none, none] [] s f Q := by
  intro f0 h hW hF
  refine x_aload_n dX34_same_0 rfl rfl rfl ?_
  obtain ⟨ht, hT⟩ := hT
  refine c_inst (K := 31) dX34_same_1 (by decide) q1909 ht hW (fun hi1 => ?_) (fun hi1 => ?_)
  · replace hT := hT.1 hi1
    refine x_if_eq (tgt := 25) dX34_same_4 rfl (fun c => absurd c (by decide)) (fun _ => ?_)
    refine x_aload_n dX34_same_7 rfl rfl rfl ?_
    obtain ⟨hc, hT⟩ := hT
    refine c_cast (K := 31) dX34_same_8 q1909 hc hW ?_
    refine x_astore_n (lo' := [some (.ref x0), some (.ref x1), some (.ref x1), none, none]) dX34_same_11 rfl (Nat.le_of_ble_eq_true rfl) rfl rfl ?_
    refine x_aload_n dX34_same_12 rfl rfl rfl ?_
    obtain ⟨hc, hT⟩ := hT
    obtain ⟨a2, ev, hT⟩ := hT
    refine c_fgetG dX34_same_13 f_TallySlate_Pack_9 hc (by decide) (by decide) hW ev ?_
    obtain ⟨t3, hc, hT⟩ := hT
    refine c_alen dX34_same_16 hc hW ?_
    refine x_aload_n dX34_same_17 rfl rfl rfl ?_
    obtain ⟨hc, hT⟩ := hT
    obtain ⟨a4, ev, hT⟩ := hT
    refine c_fgetG dX34_same_18 f_TallySlate_Pack_9 hc (by decide) (by decide) hW ev ?_
    obtain ⟨t5, hc, hT⟩ := hT
    refine c_alen dX34_same_21 hc hW ?_
    refine x_icmp_eq (tgt := 27) dX34_same_22 rfl (fun c => ?_) (fun c => ?_)
    · replace hT := hT.1 c
      refine x_iconst (v := 1) dX34_same_27 rfl ?_
      refine x_istore_n (lo' := [some (.ref x0), some (.ref x1), some (.ref x1), some (.int 1), none]) dX34_same_28 rfl (Nat.le_of_ble_eq_true rfl) rfl ?_
      refine x_iconst (v := 0) dX34_same_29 rfl ?_
      refine x_istore (lo' := [some (.ref x0), some (.ref x1), some (.ref x1), some (.int 1), some (.int 0)]) dX34_same_30 (Nat.le_of_ble_eq_true rfl) rfl ?_
      refine Ex.wkl (lo' := [some (.ref x0), none, some (.ref x1), some (.int 1), some (.int 0)]) ⟨rfl, rfl, rfl, rfl, trivial⟩ ?_
      exact hT f0 h hW hF
    · replace hT := hT.2 c
      refine x_iconst (v := 0) dX34_same_25 rfl ?_
      exact x_iret dX34_same_26 rfl rfl ⟨_, _, hW, hF, Or.inl ⟨_, rfl, hT⟩⟩
  · replace hT := hT.2 hi1
    refine x_if_eq (tgt := 25) dX34_same_4 rfl (fun _ => ?_) (fun c => absurd c (by decide))
    refine x_iconst (v := 0) dX34_same_25 rfl ?_
    exact x_iret dX34_same_26 rfl rfl ⟨_, _, hW, hF, Or.inl ⟨_, rfl, hT⟩⟩
theorem eX34_same {l : Launch} {E : EN} {w : CO} {d : Nat} {s : CS} {f : RH} {Q : KO → CS → RH → Prop} {x0 : Nat} {x1 : Nat}  (hst : l.stackTraces = false) (hT : (isT f (.ref x1) ∧ ((tg f x1 = some (.inl 31) → (tg f x1 = some (.inl 31) ∧ (oc f x1 31 ∧ (∃ a2 : Nat, vl f x1 206 = .ref a2 ∧ (∃ t3 : Nat, tg f a2 = some (.inr t3) ∧ (oc f x0 31 ∧ (∃ a4 : Nat, vl f x0 206 = .ref a4 ∧ (∃ t5 : Nat, tg f a4 = some (.inr t5) ∧ (((nI (ln f a2)) = (nI (ln f a4)) → ExC l E w (d + 1) MX34_same 32 [some (.ref x0), none, some (.ref x1), some (.int 1), some (.int 0)] [] s f Q) ∧ (¬ (nI (ln f a2)) = (nI (ln f a4)) → Q (.inl (some (.int 0))) s f)))))))))) ∧ (¬ tg f x1 = some (.inl 31) → Q (.inl (some (.int 0))) s f)))) : EvC l E w (d + 1) MX34_same [.ref x0, .ref x1] s f Q :=
  EvC.of hst (by decide) (Nat.le_of_ble_eq_true rfl) (vX34_same_0  hT)
theorem vX34_same_32 {l : Launch} {E : EN} {w : CO} {d : Nat} {s : CS} {f : RH} {Q : KO → CS → RH → Prop} {b0 : Nat} {b2 : Nat} {b3 : Int32} {b4 : Int32}  (hT : ((b3 = 0 → (narrow .boolean (.int b3) = .int b3 ∧ Q (.inl (some (.int b3))) s f)) ∧ (¬ b3 = 0 → (oc f b0 31 ∧ (∃ a6 : Nat, vl f b0 206 = .ref a6 ∧ (∃ t7 : Nat, tg f a6 = some (.inr t7) ∧ (((nI (ln f a6)) ≤ b4 → (narrow .boolean (.int b3) = .int b3 ∧ Q (.inl (some (.int b3))) s f)) ∧ (¬ (nI (ln f a6)) ≤ b4 → (oc f b0 31 ∧ (∃ a8 : Nat, vl f b0 206 = .ref a8 ∧ (∃ t9 : Nat, 4 ≤ t9 ∧ (tg f a8 = some (.inr t9) ∧ inB b4 (ln f a8) ∧ (∃ a10 : Nat, vl f a8 b4.toNatClampNeg = .ref a10 ∧ (oc f b2 31 ∧ (∃ a11 : Nat, vl f b2 206 = .ref a11 ∧ (∃ t12 : Nat, 4 ≤ t12 ∧ (tg f a11 = some (.inr t12) ∧ inB b4 (ln f a11) ∧ (∃ a13 : Nat, vl f a11 b4.toNatClampNeg = .ref a13 ∧ (∃ P18 : KO → CS → RH → Prop, (∀ o s14 f15, P18 o s14 f15 → KP o (fun r => ∃ v16 : Int32, r = some (.int v16) ∧ ExC l E w (d + 1) MX34_same 32 [some (.ref b0), none, some (.ref b2), some (.int v16), some (.int (b4 + 1))] [] s14 f15 Q) (fun k => Q (.inr k) s14 f15)) ∧ ∃ k17 : Nat, oc f a10 k17 ∧ ((k17 = 29 ∧ EvC l E w d MX32_same [.ref a10, .ref a13] s f P18) ∨ (k17 = 30 ∧ EvC l E w d MX33_same [.ref a10, .ref a13] s f P18) ∨ (k17 = 31 ∧ EvC l E w d MX34_same [.ref a10, .ref a13] s f P18) ∨ (k17 = 32 ∧ EvC l E w d MX35_same [.ref a10, .ref a13] s f P18))))))))))))))))))))) : ExC l E w (d + 1) MX34_same 32 [some (.ref b0), none, some (.ref b2), some (.int b3), some (.int b4)] [] s f Q := by
  intro f0 h hW hF
  refine x_iload_n dX34_same_32 rfl rfl ?_
  refine x_if_eq (tgt := 70) dX34_same_33 rfl (fun c => ?_) (fun c => ?_)
  · replace hT := hT.1 c
    refine x_iload_n dX34_same_70 rfl rfl ?_
    exact x_iret dX34_same_71 rfl hT.1 ⟨_, _, hW, hF, Or.inl ⟨_, rfl, hT.2⟩⟩
  · replace hT := hT.2 c
    refine x_iload dX34_same_36 rfl ?_
    refine x_aload_n dX34_same_38 rfl rfl rfl ?_
    obtain ⟨hc, hT⟩ := hT
    obtain ⟨a6, ev, hT⟩ := hT
    refine c_fgetG dX34_same_39 f_TallySlate_Pack_9 hc (by decide) (by decide) hW ev ?_
    obtain ⟨t7, hc, hT⟩ := hT
    refine c_alen dX34_same_42 hc hW ?_
    refine x_icmp_ge (tgt := 70) dX34_same_43 rfl (fun c => ?_) (fun c => ?_)
    · replace hT := hT.1 c
      refine x_iload_n dX34_same_70 rfl rfl ?_
      exact x_iret dX34_same_71 rfl hT.1 ⟨_, _, hW, hF, Or.inl ⟨_, rfl, hT.2⟩⟩
    · replace hT := hT.2 c
      refine x_aload_n dX34_same_46 rfl rfl rfl ?_
      obtain ⟨hc, hT⟩ := hT
      obtain ⟨a8, ev, hT⟩ := hT
      refine c_fgetG dX34_same_47 f_TallySlate_Pack_9 hc (by decide) (by decide) hW ev ?_
      refine x_iload dX34_same_50 rfl ?_
      obtain ⟨t9, ht2, hc, hT⟩ := hT
      obtain ⟨hb, hT⟩ := hT
      obtain ⟨a10, ev, hT⟩ := hT
      refine c_faald dX34_same_52 hc ht2 hb hW ev ?_
      refine x_aload_n dX34_same_53 rfl rfl rfl ?_
      obtain ⟨hc, hT⟩ := hT
      obtain ⟨a11, ev, hT⟩ := hT
      refine c_fgetG dX34_same_54 f_TallySlate_Pack_9 hc (by decide) (by decide) hW ev ?_
      refine x_iload dX34_same_57 rfl ?_
      obtain ⟨t12, ht2, hc, hT⟩ := hT
      obtain ⟨hb, hT⟩ := hT
      obtain ⟨a13, ev, hT⟩ := hT
      refine c_faald dX34_same_59 hc ht2 hb hW ev ?_
      obtain ⟨P18, hP, k17, hc, hT⟩ := hT
      have kr : ∀ r s14 f15, P18 (.inl r) s14 f15 → ∀ h, CW E w s14 f15 h → Frz f0 f15 → Ex l E (d + 1) MX34_same (60 + 3) [some (.ref b0), none, some (.ref b2), some (.int b3), some (.int b4)] (r.toList ++ []) h (PoC E w f0 Q) := by
        intro r s14 f15 h0 h hW hF
        have hT := hP _ _ _ h0
        clear h0
        obtain ⟨v16, rfl, hT⟩ := hT
        refine x_istore_n (lo' := [some (.ref b0), none, some (.ref b2), some (.int v16), some (.int b4)]) dX34_same_63 rfl (Nat.le_of_ble_eq_true rfl) rfl ?_
        refine x_iinc (lo' := [some (.ref b0), none, some (.ref b2), some (.int v16), some (.int (b4 + 1))]) dX34_same_64 rfl (show _ = (b4 + 1) from rfl) rfl ?_
        refine x_goto (tgt := 32) dX34_same_67 rfl ?_
        exact hT f0 h hW hF
      have kt : ∀ k s14 f15, P18 (.inr k) s14 f15 → ∀ h a, CW E w s14 f15 h → xA w h k a → Frz f0 f15 → ExT l E (d + 1) MX34_same 60 [some (.ref b0), none, some (.ref b2), some (.int b3), some (.int b4)] [] a h (PoC E w f0 Q) := by
        intro k s14 f15 h0 h a hW hx hF
        have hT := hP _ _ _ h0
        clear h0
        exact c_out (rfl) hW hx hF hT
      obtain ⟨cc, hcc⟩ := hW.ocell hc
      rcases hT with ⟨rfl, hT⟩ | ⟨rfl, hT⟩ | ⟨rfl, hT⟩ | ⟨rfl, hT⟩
      · exact c_invV (vs := [.ref a13]) dX34_same_60 oX32_same q1911 q1910 hcc q1924 (Or.inr hy_Thing_same) rfl rfl (Nat.le_of_ble_eq_true rfl) rfl hW hF hT kr kt
      · exact c_invV (vs := [.ref a13]) dX34_same_60 oX33_same q1917 q1910 hcc q1925 (Or.inr hy_Thing_same) rfl rfl (Nat.le_of_ble_eq_true rfl) rfl hW hF hT kr kt
      · exact c_invV (vs := [.ref a13]) dX34_same_60 oX34_same q1907 q1910 hcc q1906 (Or.inr hy_Thing_same) rfl rfl (Nat.le_of_ble_eq_true rfl) rfl hW hF hT kr kt
      · exact c_invV (vs := [.ref a13]) dX34_same_60 oX35_same q1921 q1910 hcc q1926 (Or.inr hy_Thing_same) rfl rfl (Nat.le_of_ble_eq_true rfl) rfl hW hF hT kr kt
theorem vX34_form_0 {l : Launch} {E : EN} {w : CO} {d : Nat} {s : CS} {f : RH} {Q : KO → CS → RH → Prop} {x0 : Nat}  (hT : (EvC l E w d MX8_sign [.ref (w.1 8), .int 40] s f (fun o s1 f2 => KP o (fun r => r = none ∧ ExC l E w (d + 1) MX34_form 8 [some (.ref x0), some (.ref (w.1 8)), some (.int 0)] [] s1 f2 Q) (fun k => Q (.inr k) s1 f2)))) : ExC l E w (d + 1) MX34_form 0 [some (.ref x0), some (.ref (w.1 8)), none] [] s f Q := by
  intro f0 h hW hF
  refine x_aload_n dX34_form_0 rfl rfl rfl ?_
  refine x_bipush (v := 40) dX34_form_1 rfl ?_
  obtain ⟨-, -, cc, hcc, -⟩ := hW.ob 8 (by decide)
  refine c_invV (vs := [.int 40]) dX34_form_3 oX8_sign q1999 q2011 hcc q2000 (Or.inl rfl) rfl rfl (Nat.le_of_ble_eq_true rfl) rfl hW hF hT ?_ ?_
  · intro _ s1 f2 hT h hW hF
    obtain ⟨rfl, hT⟩ := hT
    refine x_iconst (v := 0) dX34_form_6 rfl ?_
    refine x_istore_n (lo' := [some (.ref x0), some (.ref (w.1 8)), some (.int 0)]) dX34_form_7 rfl (Nat.le_of_ble_eq_true rfl) rfl ?_
    exact hT f0 h hW hF
  · intro k s1 f2 hT h a hW hx hF
    exact c_out (rfl) hW hx hF hT
theorem eX34_form {l : Launch} {E : EN} {w : CO} {d : Nat} {s : CS} {f : RH} {Q : KO → CS → RH → Prop} {x0 : Nat}  (hst : l.stackTraces = false) (hT : (EvC l E w d MX8_sign [.ref (w.1 8), .int 40] s f (fun o s1 f2 => KP o (fun r => r = none ∧ ExC l E w (d + 1) MX34_form 8 [some (.ref x0), some (.ref (w.1 8)), some (.int 0)] [] s1 f2 Q) (fun k => Q (.inr k) s1 f2)))) : EvC l E w (d + 1) MX34_form [.ref x0, .ref (w.1 8)] s f Q :=
  EvC.of hst (by decide) (Nat.le_of_ble_eq_true rfl) (vX34_form_0  hT)
set_option maxHeartbeats 16000000 in
theorem vX34_form_8 {l : Launch} {E : EN} {w : CO} {d : Nat} {s : CS} {f : RH} {Q : KO → CS → RH → Prop} {b0 : Nat} {b2 : Int32}  (hT : (oc f b0 31 ∧ (∃ a3 : Nat, vl f b0 206 = .ref a3 ∧ (∃ t4 : Nat, tg f a3 = some (.inr t4) ∧ (((nI (ln f a3)) ≤ b2 → (EvC l E w d MX8_sign [.ref (w.1 8), .int 41] s f (fun o s5 f6 => KP o (fun r => r = none ∧ Q (.inl none) s5 f6) (fun k => Q (.inr k) s5 f6)))) ∧ (¬ (nI (ln f a3)) ≤ b2 → ((b2 ≤ 0 → (oc f b0 31 ∧ (∃ a7 : Nat, vl f b0 206 = .ref a7 ∧ (∃ t8 : Nat, 4 ≤ t8 ∧ (tg f a7 = some (.inr t8) ∧ inB b2 (ln f a7) ∧ (∃ a9 : Nat, vl f a7 b2.toNatClampNeg = .ref a9 ∧ (∃ P13 : KO → CS → RH → Prop, (∀ o s10 f11, P13 o s10 f11 → KP o (fun r => r = none ∧ ExC l E w (d + 1) MX34_form 8 [some (.ref b0), some (.ref (w.1 8)), some (.int (b2 + 1))] [] s10 f11 Q) (fun k => Q (.inr k) s10 f11)) ∧ ∃ k12 : Nat, oc f a9 k12 ∧ ((k12 = 29 ∧ EvC l E w d MX32_form [.ref a9, .ref (w.1 8)] s f P13) ∨ (k12 = 30 ∧ EvC l E w d MX33_form [.ref a9, .ref (w.1 8)] s f P13) ∨ (k12 = 31 ∧ EvC l E w d MX34_form [.ref a9, .ref (w.1 8)] s f P13) ∨ (k12 = 32 ∧ EvC l E w d MX35_form [.ref a9, .ref (w.1 8)] s f P13))))))))) ∧ (¬ b2 ≤ 0 → (EvC l E w d MX8_sign [.ref (w.1 8), .int 59] s f (fun o s14 f15 => KP o (fun r => r = none ∧ (oc f15 b0 31 ∧ (∃ a16 : Nat, vl f15 b0 206 = .ref a16 ∧ (∃ t17 : Nat, 4 ≤ t17 ∧ (tg f15 a16 = some (.inr t17) ∧ inB b2 (ln f15 a16) ∧ (∃ a18 : Nat, vl f15 a16 b2.toNatClampNeg = .ref a18 ∧ (∃ P22 : KO → CS → RH → Prop, (∀ o s19 f20, P22 o s19 f20 → KP o (fun r => r = none ∧ ExC l E w (d + 1) MX34_form 8 [some (.ref b0), some (.ref (w.1 8)), some (.int (b2 + 1))] [] s19 f20 Q) (fun k => Q (.inr k) s19 f20)) ∧ ∃ k21 : Nat, oc f15 a18 k21 ∧ ((k21 = 29 ∧ EvC l E w d MX32_form [.ref a18, .ref (w.1 8)] s14 f15 P22) ∨ (k21 = 30 ∧ EvC l E w d MX33_form [.ref a18, .ref (w.1 8)] s14 f15 P22) ∨ (k21 = 31 ∧ EvC l E w d MX34_form [.ref a18, .ref (w.1 8)] s14 f15 P22) ∨ (k21 = 32 ∧ EvC l E w d MX35_form [.ref a18, .ref (w.1 8)] s14 f15 P22))))))))) (fun k => Q (.inr k) s14 f15))))))))))) : ExC l E w (d + 1) MX34_form 8 [some (.ref b0), some (.ref (w.1 8)), some (.int b2)] [] s f Q := by
  intro f0 h hW hF
  refine x_iload_n dX34_form_8 rfl rfl ?_
  refine x_aload_n dX34_form_9 rfl rfl rfl ?_
  obtain ⟨hc, hT⟩ := hT
  obtain ⟨a3, ev, hT⟩ := hT
  refine c_fgetG dX34_form_10 f_TallySlate_Pack_9 hc (by decide) (by decide) hW ev ?_
  obtain ⟨t4, hc, hT⟩ := hT
  refine c_alen dX34_form_13 hc hW ?_
  refine x_icmp_ge (tgt := 43) dX34_form_14 rfl (fun c => ?_) (fun c => ?_)
  · replace hT := hT.1 c
    refine x_aload_n dX34_form_43 rfl rfl rfl ?_
    refine x_bipush (v := 41) dX34_form_44 rfl ?_
    obtain ⟨-, -, cc, hcc, -⟩ := hW.ob 8 (by decide)
    refine c_invV (vs := [.int 41]) dX34_form_46 oX8_sign q1999 q2011 hcc q2000 (Or.inl rfl) rfl rfl (Nat.le_of_ble_eq_true rfl) rfl hW hF hT ?_ ?_
    · intro _ s5 f6 hT h hW hF
      obtain ⟨rfl, hT⟩ := hT
      exact x_vret dX34_form_49 rfl ⟨_, _, hW, hF, Or.inl ⟨_, rfl, hT⟩⟩
    · intro k s5 f6 hT h a hW hx hF
      exact c_out (rfl) hW hx hF hT
  · replace hT := hT.2 c
    refine x_iload_n dX34_form_17 rfl rfl ?_
    refine x_if_le (tgt := 27) dX34_form_18 rfl (fun c => ?_) (fun c => ?_)
    · replace hT := hT.1 c
      refine x_aload_n dX34_form_27 rfl rfl rfl ?_
      obtain ⟨hc, hT⟩ := hT
      obtain ⟨a7, ev, hT⟩ := hT
      refine c_fgetG dX34_form_28 f_TallySlate_Pack_9 hc (by decide) (by decide) hW ev ?_
      refine x_iload_n dX34_form_31 rfl rfl ?_
      obtain ⟨t8, ht2, hc, hT⟩ := hT
      obtain ⟨hb, hT⟩ := hT
      obtain ⟨a9, ev, hT⟩ := hT
      refine c_faald dX34_form_32 hc ht2 hb hW ev ?_
      refine x_aload_n dX34_form_33 rfl rfl rfl ?_
      obtain ⟨P13, hP, k12, hc, hT⟩ := hT
      have kr : ∀ r s10 f11, P13 (.inl r) s10 f11 → ∀ h, CW E w s10 f11 h → Frz f0 f11 → Ex l E (d + 1) MX34_form (34 + 3) [some (.ref b0), some (.ref (w.1 8)), some (.int b2)] (r.toList ++ []) h (PoC E w f0 Q) := by
        intro r s10 f11 h0 h hW hF
        have hT := hP _ _ _ h0
        clear h0
        obtain ⟨rfl, hT⟩ := hT
        refine x_iinc (lo' := [some (.ref b0), some (.ref (w.1 8)), some (.int (b2 + 1))]) dX34_form_37 rfl (show _ = (b2 + 1) from rfl) rfl ?_
        refine x_goto (tgt := 8) dX34_form_40 rfl ?_
        exact hT f0 h hW hF
      have kt : ∀ k s10 f11, P13 (.inr k) s10 f11 → ∀ h a, CW E w s10 f11 h → xA w h k a → Frz f0 f11 → ExT l E (d + 1) MX34_form 34 [some (.ref b0), some (.ref (w.1 8)), some (.int b2)] [] a h (PoC E w f0 Q) := by
        intro k s10 f11 h0 h a hW hx hF
        have hT := hP _ _ _ h0
        clear h0
        exact c_out (rfl) hW hx hF hT
      obtain ⟨cc, hcc⟩ := hW.ocell hc
      rcases hT with ⟨rfl, hT⟩ | ⟨rfl, hT⟩ | ⟨rfl, hT⟩ | ⟨rfl, hT⟩
      · exact c_invV (vs := [.ref (w.1 8)]) dX34_form_34 oX32_form q2013 q2012 hcc q2027 (Or.inr hy_Thing_form) rfl rfl (Nat.le_of_ble_eq_true rfl) rfl hW hF hT kr kt
      · exact c_invV (vs := [.ref (w.1 8)]) dX34_form_34 oX33_form q2020 q2012 hcc q2028 (Or.inr hy_Thing_form) rfl rfl (Nat.le_of_ble_eq_true rfl) rfl hW hF hT kr kt
      · exact c_invV (vs := [.ref (w.1 8)]) dX34_form_34 oX34_form q2009 q2012 hcc q2008 (Or.inr hy_Thing_form) rfl rfl (Nat.le_of_ble_eq_true rfl) rfl hW hF hT kr kt
      · exact c_invV (vs := [.ref (w.1 8)]) dX34_form_34 oX35_form q2024 q2012 hcc q2029 (Or.inr hy_Thing_form) rfl rfl (Nat.le_of_ble_eq_true rfl) rfl hW hF hT kr kt
    · replace hT := hT.2 c
      refine x_aload_n dX34_form_21 rfl rfl rfl ?_
      refine x_bipush (v := 59) dX34_form_22 rfl ?_
      obtain ⟨-, -, cc, hcc, -⟩ := hW.ob 8 (by decide)
      refine c_invV (vs := [.int 59]) dX34_form_24 oX8_sign q1999 q2011 hcc q2000 (Or.inl rfl) rfl rfl (Nat.le_of_ble_eq_true rfl) rfl hW hF hT ?_ ?_
      · intro _ s14 f15 hT h hW hF
        obtain ⟨rfl, hT⟩ := hT
        refine x_aload_n dX34_form_27 rfl rfl rfl ?_
        obtain ⟨hc, hT⟩ := hT
        obtain ⟨a16, ev, hT⟩ := hT
        refine c_fgetG dX34_form_28 f_TallySlate_Pack_9 hc (by decide) (by decide) hW ev ?_
        refine x_iload_n dX34_form_31 rfl rfl ?_
        obtain ⟨t17, ht2, hc, hT⟩ := hT
        obtain ⟨hb, hT⟩ := hT
        obtain ⟨a18, ev, hT⟩ := hT
        refine c_faald dX34_form_32 hc ht2 hb hW ev ?_
        refine x_aload_n dX34_form_33 rfl rfl rfl ?_
        obtain ⟨P22, hP, k21, hc, hT⟩ := hT
        have kr : ∀ r s19 f20, P22 (.inl r) s19 f20 → ∀ h, CW E w s19 f20 h → Frz f0 f20 → Ex l E (d + 1) MX34_form (34 + 3) [some (.ref b0), some (.ref (w.1 8)), some (.int b2)] (r.toList ++ []) h (PoC E w f0 Q) := by
          intro r s19 f20 h0 h hW hF
          have hT := hP _ _ _ h0
          clear h0
          obtain ⟨rfl, hT⟩ := hT
          refine x_iinc (lo' := [some (.ref b0), some (.ref (w.1 8)), some (.int (b2 + 1))]) dX34_form_37 rfl (show _ = (b2 + 1) from rfl) rfl ?_
          refine x_goto (tgt := 8) dX34_form_40 rfl ?_
          exact hT f0 h hW hF
        have kt : ∀ k s19 f20, P22 (.inr k) s19 f20 → ∀ h a, CW E w s19 f20 h → xA w h k a → Frz f0 f20 → ExT l E (d + 1) MX34_form 34 [some (.ref b0), some (.ref (w.1 8)), some (.int b2)] [] a h (PoC E w f0 Q) := by
          intro k s19 f20 h0 h a hW hx hF
          have hT := hP _ _ _ h0
          clear h0
          exact c_out (rfl) hW hx hF hT
        obtain ⟨cc, hcc⟩ := hW.ocell hc
        rcases hT with ⟨rfl, hT⟩ | ⟨rfl, hT⟩ | ⟨rfl, hT⟩ | ⟨rfl, hT⟩
        · exact c_invV (vs := [.ref (w.1 8)]) dX34_form_34 oX32_form q2013 q2012 hcc q2027 (Or.inr hy_Thing_form) rfl rfl (Nat.le_of_ble_eq_true rfl) rfl hW hF hT kr kt
        · exact c_invV (vs := [.ref (w.1 8)]) dX34_form_34 oX33_form q2020 q2012 hcc q2028 (Or.inr hy_Thing_form) rfl rfl (Nat.le_of_ble_eq_true rfl) rfl hW hF hT kr kt
        · exact c_invV (vs := [.ref (w.1 8)]) dX34_form_34 oX34_form q2009 q2012 hcc q2008 (Or.inr hy_Thing_form) rfl rfl (Nat.le_of_ble_eq_true rfl) rfl hW hF hT kr kt
        · exact c_invV (vs := [.ref (w.1 8)]) dX34_form_34 oX35_form q2024 q2012 hcc q2029 (Or.inr hy_Thing_form) rfl rfl (Nat.le_of_ble_eq_true rfl) rfl hW hF hT kr kt
      · intro k s14 f15 hT h a hW hx hF
        exact c_out (rfl) hW hx hF hT
theorem vX34_sum_0 {l : Launch} {E : EN} {w : CO} {d : Nat} {s : CS} {f : RH} {Q : KO → CS → RH → Prop} {x0 : Nat} {x1 : Int64}  (hT : (EvC l E w d MX0_joined [.long x1, .long 3] s f (fun o s1 f2 => KP o (fun r => ∃ v3 : Int64, r = some (.long v3) ∧ (oc f2 x0 31 ∧ (∃ a4 : Nat, vl f2 x0 206 = .ref a4 ∧ (∃ t5 : Nat, tg f2 a4 = some (.inr t5) ∧ (EvC l E w d MX0_joined [.long v3, .long (nI (ln f2 a4)).toInt64] s1 f2 (fun o s6 f7 => KP o (fun r => ∃ v8 : Int64, r = some (.long v8) ∧ ExC l E w (d + 1) MX34_sum 20 [some (.ref x0), none, none, some (.long v8), none, some (.int 0)] [] s6 f7 Q) (fun k => Q (.inr k) s6 f7))))))) (fun k => Q (.inr k) s1 f2)))) : ExC l E w (d + 1) MX34_sum 0 [some (.ref x0), some (.long x1), none, none, none, none] [] s f Q := by
  intro f0 h hW hF
  refine x_lload_n dX34_sum_0 rfl rfl ?_
  refine x_ldc2 dX34_sum_1 q2159 ?_
  refine c_invS (vs := [.long x1, .long 3]) dX34_sum_4 oX0_joined q2150 (Or.inr ⟨_, q2160⟩) rfl rfl (Nat.le_of_ble_eq_true rfl) rfl hW hF hT ?_ ?_
  · intro _ s1 f2 hT h hW hF
    obtain ⟨v3, rfl, hT⟩ := hT
    refine x_aload_n dX34_sum_7 rfl rfl rfl ?_
    obtain ⟨hc, hT⟩ := hT
    obtain ⟨a4, ev, hT⟩ := hT
    refine c_fgetG dX34_sum_8 f_TallySlate_Pack_9 hc (by decide) (by decide) hW ev ?_
    obtain ⟨t5, hc, hT⟩ := hT
    refine c_alen dX34_sum_11 hc hW ?_
    refine x_i2l dX34_sum_12 ?_
    refine c_invS (vs := [.long v3, .long (nI (ln f2 a4)).toInt64]) dX34_sum_13 oX0_joined q2150 (Or.inr ⟨_, q2160⟩) rfl rfl (Nat.le_of_ble_eq_true rfl) rfl hW hF hT ?_ ?_
    · intro _ s6 f7 hT h hW hF
      obtain ⟨v8, rfl, hT⟩ := hT
      refine x_lstore_n (lo' := [some (.ref x0), some (.long x1), none, some (.long v8), none, none]) dX34_sum_16 rfl (Nat.le_of_ble_eq_true rfl) rfl ?_
      refine x_iconst (v := 0) dX34_sum_17 rfl ?_
      refine x_istore (lo' := [some (.ref x0), some (.long x1), none, some (.long v8), none, some (.int 0)]) dX34_sum_18 (Nat.le_of_ble_eq_true rfl) rfl ?_
      refine Ex.wkl (lo' := [some (.ref x0), none, none, some (.long v8), none, some (.int 0)]) ⟨rfl, rfl, rfl, trivial⟩ ?_
      exact hT f0 h hW hF
    · intro k s6 f7 hT h a hW hx hF
      exact c_out (rfl) hW hx hF hT
  · intro k s1 f2 hT h a hW hx hF
    exact c_out (rfl) hW hx hF hT
theorem eX34_sum {l : Launch} {E : EN} {w : CO} {d : Nat} {s : CS} {f : RH} {Q : KO → CS → RH → Prop} {x0 : Nat} {x1 : Int64}  (hst : l.stackTraces = false) (hT : (EvC l E w d MX0_joined [.long x1, .long 3] s f (fun o s1 f2 => KP o (fun r => ∃ v3 : Int64, r = some (.long v3) ∧ (oc f2 x0 31 ∧ (∃ a4 : Nat, vl f2 x0 206 = .ref a4 ∧ (∃ t5 : Nat, tg f2 a4 = some (.inr t5) ∧ (EvC l E w d MX0_joined [.long v3, .long (nI (ln f2 a4)).toInt64] s1 f2 (fun o s6 f7 => KP o (fun r => ∃ v8 : Int64, r = some (.long v8) ∧ ExC l E w (d + 1) MX34_sum 20 [some (.ref x0), none, none, some (.long v8), none, some (.int 0)] [] s6 f7 Q) (fun k => Q (.inr k) s6 f7))))))) (fun k => Q (.inr k) s1 f2)))) : EvC l E w (d + 1) MX34_sum [.ref x0, .long x1] s f Q :=
  EvC.of hst (by decide) (Nat.le_of_ble_eq_true rfl) (vX34_sum_0  hT)
theorem vX34_sum_20 {l : Launch} {E : EN} {w : CO} {d : Nat} {s : CS} {f : RH} {Q : KO → CS → RH → Prop} {b0 : Nat} {b3 : Int64} {b5 : Int32}  (hT : (oc f b0 31 ∧ (∃ a9 : Nat, vl f b0 206 = .ref a9 ∧ (∃ t10 : Nat, tg f a9 = some (.inr t10) ∧ (((nI (ln f a9)) ≤ b5 → Q (.inl (some (.long b3))) s f) ∧ (¬ (nI (ln f a9)) ≤ b5 → (oc f b0 31 ∧ (∃ a11 : Nat, vl f b0 206 = .ref a11 ∧ (∃ t12 : Nat, 4 ≤ t12 ∧ (tg f a11 = some (.inr t12) ∧ inB b5 (ln f a11) ∧ (∃ a13 : Nat, vl f a11 b5.toNatClampNeg = .ref a13 ∧ (∃ P18 : KO → CS → RH → Prop, (∀ o s14 f15, P18 o s14 f15 → KP o (fun r => ∃ v16 : Int64, r = some (.long v16) ∧ ExC l E w (d + 1) MX34_sum 20 [some (.ref b0), none, none, some (.long v16), none, some (.int (b5 + 1))] [] s14 f15 Q) (fun k => Q (.inr k) s14 f15)) ∧ ∃ k17 : Nat, oc f a13 k17 ∧ ((k17 = 29 ∧ EvC l E w d MX32_sum [.ref a13, .long b3] s f P18) ∨ (k17 = 30 ∧ EvC l E w d MX33_sum [.ref a13, .long b3] s f P18) ∨ (k17 = 31 ∧ EvC l E w d MX34_sum [.ref a13, .long b3] s f P18) ∨ (k17 = 32 ∧ EvC l E w d MX35_sum [.ref a13, .long b3] s f P18)))))))))))))) : ExC l E w (d + 1) MX34_sum 20 [some (.ref b0), none, none, some (.long b3), none, some (.int b5)] [] s f Q := by
  intro f0 h hW hF
  refine x_iload dX34_sum_20 rfl ?_
  refine x_aload_n dX34_sum_22 rfl rfl rfl ?_
  obtain ⟨hc, hT⟩ := hT
  obtain ⟨a9, ev, hT⟩ := hT
  refine c_fgetG dX34_sum_23 f_TallySlate_Pack_9 hc (by decide) (by decide) hW ev ?_
  obtain ⟨t10, hc, hT⟩ := hT
  refine c_alen dX34_sum_26 hc hW ?_
  refine x_icmp_ge (tgt := 48) dX34_sum_27 rfl (fun c => ?_) (fun c => ?_)
  · replace hT := hT.1 c
    refine x_lload_n dX34_sum_48 rfl rfl ?_
    exact x_lret dX34_sum_49 rfl ⟨_, _, hW, hF, Or.inl ⟨_, rfl, hT⟩⟩
  · replace hT := hT.2 c
    refine x_aload_n dX34_sum_30 rfl rfl rfl ?_
    obtain ⟨hc, hT⟩ := hT
    obtain ⟨a11, ev, hT⟩ := hT
    refine c_fgetG dX34_sum_31 f_TallySlate_Pack_9 hc (by decide) (by decide) hW ev ?_
    refine x_iload dX34_sum_34 rfl ?_
    obtain ⟨t12, ht2, hc, hT⟩ := hT
    obtain ⟨hb, hT⟩ := hT
    obtain ⟨a13, ev, hT⟩ := hT
    refine c_faald dX34_sum_36 hc ht2 hb hW ev ?_
    refine x_lload_n dX34_sum_37 rfl rfl ?_
    obtain ⟨P18, hP, k17, hc, hT⟩ := hT
    have kr : ∀ r s14 f15, P18 (.inl r) s14 f15 → ∀ h, CW E w s14 f15 h → Frz f0 f15 → Ex l E (d + 1) MX34_sum (38 + 3) [some (.ref b0), none, none, some (.long b3), none, some (.int b5)] (r.toList ++ []) h (PoC E w f0 Q) := by
      intro r s14 f15 h0 h hW hF
      have hT := hP _ _ _ h0
      clear h0
      obtain ⟨v16, rfl, hT⟩ := hT
      refine x_lstore_n (lo' := [some (.ref b0), none, none, some (.long v16), none, some (.int b5)]) dX34_sum_41 rfl (Nat.le_of_ble_eq_true rfl) rfl ?_
      refine x_iinc (lo' := [some (.ref b0), none, none, some (.long v16), none, some (.int (b5 + 1))]) dX34_sum_42 rfl (show _ = (b5 + 1) from rfl) rfl ?_
      refine x_goto (tgt := 20) dX34_sum_45 rfl ?_
      exact hT f0 h hW hF
    have kt : ∀ k s14 f15, P18 (.inr k) s14 f15 → ∀ h a, CW E w s14 f15 h → xA w h k a → Frz f0 f15 → ExT l E (d + 1) MX34_sum 38 [some (.ref b0), none, none, some (.long b3), none, some (.int b5)] [] a h (PoC E w f0 Q) := by
      intro k s14 f15 h0 h a hW hx hF
      have hT := hP _ _ _ h0
      clear h0
      exact c_out (rfl) hW hx hF hT
    obtain ⟨cc, hcc⟩ := hW.ocell hc
    rcases hT with ⟨rfl, hT⟩ | ⟨rfl, hT⟩ | ⟨rfl, hT⟩ | ⟨rfl, hT⟩
    · exact c_invV (vs := [.long b3]) dX34_sum_38 oX32_sum q2162 q2161 hcc q2176 (Or.inr hy_Thing_sum) rfl rfl (Nat.le_of_ble_eq_true rfl) rfl hW hF hT kr kt
    · exact c_invV (vs := [.long b3]) dX34_sum_38 oX33_sum q2168 q2161 hcc q2177 (Or.inr hy_Thing_sum) rfl rfl (Nat.le_of_ble_eq_true rfl) rfl hW hF hT kr kt
    · exact c_invV (vs := [.long b3]) dX34_sum_38 oX34_sum q2157 q2161 hcc q2156 (Or.inr hy_Thing_sum) rfl rfl (Nat.le_of_ble_eq_true rfl) rfl hW hF hT kr kt
    · exact c_invV (vs := [.long b3]) dX34_sum_38 oX35_sum q2173 q2161 hcc q2178 (Or.inr hy_Thing_sum) rfl rfl (Nat.le_of_ble_eq_true rfl) rfl hW hF hT kr kt
theorem vX35_made_0 {l : Launch} {E : EN} {w : CO} {d : Nat} {s : CS} {f : RH} {Q : KO → CS → RH → Prop} {x0 : Nat}  (hT : Q (.inl (some (.int 0))) s f) : ExC l E w d MX35_made 0 [some (.ref x0)] [] s f Q := by
  intro f0 h hW hF
  refine x_iconst (v := 0) dX35_made_0 rfl ?_
  exact x_iret dX35_made_1 rfl rfl ⟨_, _, hW, hF, Or.inl ⟨_, rfl, hT⟩⟩
theorem eX35_made {l : Launch} {E : EN} {w : CO} {d : Nat} {s : CS} {f : RH} {Q : KO → CS → RH → Prop} {x0 : Nat}  (hst : l.stackTraces = false) (hT : Q (.inl (some (.int 0))) s f) : EvC l E w d MX35_made [.ref x0] s f Q :=
  EvC.of hst (by decide) (Nat.le_of_ble_eq_true rfl) (vX35_made_0  hT)
theorem vX35_size_0 {l : Launch} {E : EN} {w : CO} {d : Nat} {s : CS} {f : RH} {Q : KO → CS → RH → Prop} {x0 : Nat}  (hT : Q (.inl (some (.int 0))) s f) : ExC l E w d MX35_size 0 [some (.ref x0)] [] s f Q := by
  intro f0 h hW hF
  refine x_iconst (v := 0) dX35_size_0 rfl ?_
  exact x_iret dX35_size_1 rfl rfl ⟨_, _, hW, hF, Or.inl ⟨_, rfl, hT⟩⟩
theorem eX35_size {l : Launch} {E : EN} {w : CO} {d : Nat} {s : CS} {f : RH} {Q : KO → CS → RH → Prop} {x0 : Nat}  (hst : l.stackTraces = false) (hT : Q (.inl (some (.int 0))) s f) : EvC l E w d MX35_size [.ref x0] s f Q :=
  EvC.of hst (by decide) (Nat.le_of_ble_eq_true rfl) (vX35_size_0  hT)
theorem vX35_bulk_0 {l : Launch} {E : EN} {w : CO} {d : Nat} {s : CS} {f : RH} {Q : KO → CS → RH → Prop} {x0 : Nat}  (hT : Q (.inl (some (.int 1))) s f) : ExC l E w d MX35_bulk 0 [some (.ref x0)] [] s f Q := by
  intro f0 h hW hF
  refine x_iconst (v := 1) dX35_bulk_0 rfl ?_
  exact x_iret dX35_bulk_1 rfl rfl ⟨_, _, hW, hF, Or.inl ⟨_, rfl, hT⟩⟩
theorem eX35_bulk {l : Launch} {E : EN} {w : CO} {d : Nat} {s : CS} {f : RH} {Q : KO → CS → RH → Prop} {x0 : Nat}  (hst : l.stackTraces = false) (hT : Q (.inl (some (.int 1))) s f) : EvC l E w d MX35_bulk [.ref x0] s f Q :=
  EvC.of hst (by decide) (Nat.le_of_ble_eq_true rfl) (vX35_bulk_0  hT)
theorem vX35_init_0 {l : Launch} {E : EN} {w : CO} {d : Nat} {s : CS} {f : RH} {Q : KO → CS → RH → Prop} {x0 : Nat} {x1 : Int32}  (hT : (EvC l E w d MX31_init [.ref x0] s f (fun o s1 f2 => KP o (fun r => r = none ∧ (oc f2 x0 32 ∧ f2.2.2.2 ≤ x0 ∧ ∀ f3 : RH, f3 = fset f2 x0 209 (.int x1) → Q (.inl none) s1 f3)) (fun k => Q (.inr k) s1 f2)))) : ExC l E w (d + 1) MX35_init 0 [some (.ref x0), some (.int x1)] [] s f Q := by
  intro f0 h hW hF
  refine x_aload_n dX35_init_0 rfl rfl rfl ?_
  refine c_invI (b := x0) (vs := []) dX35_init_1 oX31_init rfl rfl rfl q1399 (Or.inr ⟨_, q1668⟩) rfl rfl (Nat.le_of_ble_eq_true rfl) rfl hW hF hT ?_ ?_
  · intro _ s1 f2 hT h hW hF
    obtain ⟨rfl, hT⟩ := hT
    refine x_aload_n dX35_init_4 rfl rfl rfl ?_
    refine x_iload_n dX35_init_5 rfl rfl ?_
    obtain ⟨hc, hz, hT⟩ := hT
    refine c_fputG dX35_init_6 f_TallySlate_Whole_9 hc (by decide) (by decide) hz (Or.inr ⟨rfl, rfl⟩) rfl rfl hW hF ?_
    intro f3 ef3 h hW hF
    replace hT := hT f3 ef3
    exact x_vret dX35_init_9 rfl ⟨_, _, hW, hF, Or.inl ⟨_, rfl, hT⟩⟩
  · intro k s1 f2 hT h a hW hx hF
    exact c_out (rfl) hW hx hF hT
theorem eX35_init {l : Launch} {E : EN} {w : CO} {d : Nat} {s : CS} {f : RH} {Q : KO → CS → RH → Prop} {x0 : Nat} {x1 : Int32}  (hst : l.stackTraces = false) (hT : (EvC l E w d MX31_init [.ref x0] s f (fun o s1 f2 => KP o (fun r => r = none ∧ (oc f2 x0 32 ∧ f2.2.2.2 ≤ x0 ∧ ∀ f3 : RH, f3 = fset f2 x0 209 (.int x1) → Q (.inl none) s1 f3)) (fun k => Q (.inr k) s1 f2)))) : EvC l E w (d + 1) MX35_init [.ref x0, .int x1] s f Q :=
  EvC.of hst (by decide) (Nat.le_of_ble_eq_true rfl) (vX35_init_0  hT)
theorem vX35_kind_0 {l : Launch} {E : EN} {w : CO} {d : Nat} {s : CS} {f : RH} {Q : KO → CS → RH → Prop} {x0 : Nat}  (hT : Q (.inl (some (.int 0))) s f) : ExC l E w d MX35_kind 0 [some (.ref x0)] [] s f Q := by
  intro f0 h hW hF
  refine x_iconst (v := 0) dX35_kind_0 rfl ?_
  exact x_iret dX35_kind_1 rfl rfl ⟨_, _, hW, hF, Or.inl ⟨_, rfl, hT⟩⟩
theorem eX35_kind {l : Launch} {E : EN} {w : CO} {d : Nat} {s : CS} {f : RH} {Q : KO → CS → RH → Prop} {x0 : Nat}  (hst : l.stackTraces = false) (hT : Q (.inl (some (.int 0))) s f) : EvC l E w d MX35_kind [.ref x0] s f Q :=
  EvC.of hst (by decide) (Nat.le_of_ble_eq_true rfl) (vX35_kind_0  hT)
theorem vX35_same_0 {l : Launch} {E : EN} {w : CO} {d : Nat} {s : CS} {f : RH} {Q : KO → CS → RH → Prop} {x0 : Nat} {x1 : Nat}  (hT : (isT f (.ref x1) ∧ ((tg f x1 = some (.inl 32) → (tg f x1 = some (.inl 32) ∧ (oc f x1 32 ∧ (∃ v2 : Int32, vl f x1 209 = .int v2 ∧ (oc f x0 32 ∧ (∃ v3 : Int32, vl f x0 209 = .int v3 ∧ ((¬ v2 = v3 → Q (.inl (some (.int 0))) s f) ∧ (v2 = v3 → Q (.inl (some (.int 1))) s f)))))))) ∧ (¬ tg f x1 = some (.inl 32) → Q (.inl (some (.int 0))) s f)))) : ExC l E w d MX35_same 0 [some (.ref x0), some (.ref x1), none] [] s f Q := by
  intro f0 h hW hF
  refine x_aload_n dX35_same_0 rfl rfl rfl ?_
  obtain ⟨ht, hT⟩ := hT
  refine c_inst (K := 32) dX35_same_1 (by decide) q1923 ht hW (fun hi1 => ?_) (fun hi1 => ?_)
  · replace hT := hT.1 hi1
    refine x_if_eq (tgt := 27) dX35_same_4 rfl (fun c => absurd c (by decide)) (fun _ => ?_)
    refine x_aload_n dX35_same_7 rfl rfl rfl ?_
    obtain ⟨hc, hT⟩ := hT
    refine c_cast (K := 32) dX35_same_8 q1923 hc hW ?_
    refine x_astore_n (lo' := [some (.ref x0), some (.ref x1), some (.ref x1)]) dX35_same_11 rfl (Nat.le_of_ble_eq_true rfl) rfl rfl ?_
    refine x_aload_n dX35_same_12 rfl rfl rfl ?_
    obtain ⟨hc, hT⟩ := hT
    obtain ⟨v2, ev, hT⟩ := hT
    refine c_fgetG dX35_same_13 f_TallySlate_Whole_9 hc (by decide) (by decide) hW ev ?_
    refine x_aload_n dX35_same_16 rfl rfl rfl ?_
    obtain ⟨hc, hT⟩ := hT
    obtain ⟨v3, ev, hT⟩ := hT
    refine c_fgetG dX35_same_17 f_TallySlate_Whole_9 hc (by decide) (by decide) hW ev ?_
    refine x_icmp_ne (tgt := 27) dX35_same_20 rfl (fun c => ?_) (fun c => ?_)
    · replace hT := hT.1 c
      refine x_iconst (v := 0) dX35_same_27 rfl ?_
      exact x_iret dX35_same_28 rfl rfl ⟨_, _, hW, hF, Or.inl ⟨_, rfl, hT⟩⟩
    · replace hT := hT.2 c
      refine x_iconst (v := 1) dX35_same_23 rfl ?_
      refine x_goto (tgt := 28) dX35_same_24 rfl ?_
      exact x_iret dX35_same_28 rfl rfl ⟨_, _, hW, hF, Or.inl ⟨_, rfl, hT⟩⟩
  · replace hT := hT.2 hi1
    refine x_if_eq (tgt := 27) dX35_same_4 rfl (fun _ => ?_) (fun c => absurd c (by decide))
    refine x_iconst (v := 0) dX35_same_27 rfl ?_
    exact x_iret dX35_same_28 rfl rfl ⟨_, _, hW, hF, Or.inl ⟨_, rfl, hT⟩⟩
theorem eX35_same {l : Launch} {E : EN} {w : CO} {d : Nat} {s : CS} {f : RH} {Q : KO → CS → RH → Prop} {x0 : Nat} {x1 : Nat}  (hst : l.stackTraces = false) (hT : (isT f (.ref x1) ∧ ((tg f x1 = some (.inl 32) → (tg f x1 = some (.inl 32) ∧ (oc f x1 32 ∧ (∃ v2 : Int32, vl f x1 209 = .int v2 ∧ (oc f x0 32 ∧ (∃ v3 : Int32, vl f x0 209 = .int v3 ∧ ((¬ v2 = v3 → Q (.inl (some (.int 0))) s f) ∧ (v2 = v3 → Q (.inl (some (.int 1))) s f)))))))) ∧ (¬ tg f x1 = some (.inl 32) → Q (.inl (some (.int 0))) s f)))) : EvC l E w d MX35_same [.ref x0, .ref x1] s f Q :=
  EvC.of hst (by decide) (Nat.le_of_ble_eq_true rfl) (vX35_same_0  hT)
theorem vX35_form_0 {l : Launch} {E : EN} {w : CO} {d : Nat} {s : CS} {f : RH} {Q : KO → CS → RH → Prop} {x0 : Nat}  (hT : (oc f x0 32 ∧ (∃ v1 : Int32, vl f x0 209 = .int v1 ∧ (EvC l E w d MX8_number [.ref (w.1 8), .int v1] s f (fun o s2 f3 => KP o (fun r => r = none ∧ Q (.inl none) s2 f3) (fun k => Q (.inr k) s2 f3)))))) : ExC l E w (d + 1) MX35_form 0 [some (.ref x0), some (.ref (w.1 8))] [] s f Q := by
  intro f0 h hW hF
  refine x_aload_n dX35_form_0 rfl rfl rfl ?_
  refine x_aload_n dX35_form_1 rfl rfl rfl ?_
  obtain ⟨hc, hT⟩ := hT
  obtain ⟨v1, ev, hT⟩ := hT
  refine c_fgetG dX35_form_2 f_TallySlate_Whole_9 hc (by decide) (by decide) hW ev ?_
  obtain ⟨-, -, cc, hcc, -⟩ := hW.ob 8 (by decide)
  refine c_invV (vs := [.int v1]) dX35_form_5 oX8_number q1995 q2026 hcc q1996 (Or.inl rfl) rfl rfl (Nat.le_of_ble_eq_true rfl) rfl hW hF hT ?_ ?_
  · intro _ s2 f3 hT h hW hF
    obtain ⟨rfl, hT⟩ := hT
    exact x_vret dX35_form_8 rfl ⟨_, _, hW, hF, Or.inl ⟨_, rfl, hT⟩⟩
  · intro k s2 f3 hT h a hW hx hF
    exact c_out (rfl) hW hx hF hT
theorem eX35_form {l : Launch} {E : EN} {w : CO} {d : Nat} {s : CS} {f : RH} {Q : KO → CS → RH → Prop} {x0 : Nat}  (hst : l.stackTraces = false) (hT : (oc f x0 32 ∧ (∃ v1 : Int32, vl f x0 209 = .int v1 ∧ (EvC l E w d MX8_number [.ref (w.1 8), .int v1] s f (fun o s2 f3 => KP o (fun r => r = none ∧ Q (.inl none) s2 f3) (fun k => Q (.inr k) s2 f3)))))) : EvC l E w (d + 1) MX35_form [.ref x0, .ref (w.1 8)] s f Q :=
  EvC.of hst (by decide) (Nat.le_of_ble_eq_true rfl) (vX35_form_0  hT)
theorem vX35_sum_0 {l : Launch} {E : EN} {w : CO} {d : Nat} {s : CS} {f : RH} {Q : KO → CS → RH → Prop} {x0 : Nat} {x1 : Int64}  (hT : (EvC l E w d MX0_joined [.long x1, .long 0] s f (fun o s1 f2 => KP o (fun r => ∃ v3 : Int64, r = some (.long v3) ∧ (oc f2 x0 32 ∧ (∃ v4 : Int32, vl f2 x0 209 = .int v4 ∧ (EvC l E w d MX0_joined [.long v3, .long v4.toInt64] s1 f2 (fun o s5 f6 => KP o (fun r => ∃ v7 : Int64, r = some (.long v7) ∧ Q (.inl (some (.long v7))) s5 f6) (fun k => Q (.inr k) s5 f6)))))) (fun k => Q (.inr k) s1 f2)))) : ExC l E w (d + 1) MX35_sum 0 [some (.ref x0), some (.long x1), none] [] s f Q := by
  intro f0 h hW hF
  refine x_lload_n dX35_sum_0 rfl rfl ?_
  refine x_lconst (v := 0) dX35_sum_1 rfl ?_
  refine c_invS (vs := [.long x1, .long 0]) dX35_sum_2 oX0_joined q2150 (Or.inr ⟨_, q2175⟩) rfl rfl (Nat.le_of_ble_eq_true rfl) rfl hW hF hT ?_ ?_
  · intro _ s1 f2 hT h hW hF
    obtain ⟨v3, rfl, hT⟩ := hT
    refine x_aload_n dX35_sum_5 rfl rfl rfl ?_
    obtain ⟨hc, hT⟩ := hT
    obtain ⟨v4, ev, hT⟩ := hT
    refine c_fgetG dX35_sum_6 f_TallySlate_Whole_9 hc (by decide) (by decide) hW ev ?_
    refine x_i2l dX35_sum_9 ?_
    refine c_invS (vs := [.long v3, .long v4.toInt64]) dX35_sum_10 oX0_joined q2150 (Or.inr ⟨_, q2175⟩) rfl rfl (Nat.le_of_ble_eq_true rfl) rfl hW hF hT ?_ ?_
    · intro _ s5 f6 hT h hW hF
      obtain ⟨v7, rfl, hT⟩ := hT
      exact x_lret dX35_sum_13 rfl ⟨_, _, hW, hF, Or.inl ⟨_, rfl, hT⟩⟩
    · intro k s5 f6 hT h a hW hx hF
      exact c_out (rfl) hW hx hF hT
  · intro k s1 f2 hT h a hW hx hF
    exact c_out (rfl) hW hx hF hT
theorem eX35_sum {l : Launch} {E : EN} {w : CO} {d : Nat} {s : CS} {f : RH} {Q : KO → CS → RH → Prop} {x0 : Nat} {x1 : Int64}  (hst : l.stackTraces = false) (hT : (EvC l E w d MX0_joined [.long x1, .long 0] s f (fun o s1 f2 => KP o (fun r => ∃ v3 : Int64, r = some (.long v3) ∧ (oc f2 x0 32 ∧ (∃ v4 : Int32, vl f2 x0 209 = .int v4 ∧ (EvC l E w d MX0_joined [.long v3, .long v4.toInt64] s1 f2 (fun o s5 f6 => KP o (fun r => ∃ v7 : Int64, r = some (.long v7) ∧ Q (.inl (some (.long v7))) s5 f6) (fun k => Q (.inr k) s5 f6)))))) (fun k => Q (.inr k) s1 f2)))) : EvC l E w (d + 1) MX35_sum [.ref x0, .long x1] s f Q :=
  EvC.of hst (by decide) (Nat.le_of_ble_eq_true rfl) (vX35_sum_0  hT)
theorem vX4_put_0 {l : Launch} {E : EN} {w : CO} {d : Nat} {s : CS} {f : RH} {Q : KO → CS → RH → Prop} {x1 : Int32} {x2 : Int32} {x3 : Value} (ix3 : isR x3 = true) (hT : (inB x1 8 ∧ (inB x1 8 ∧ isT f x3 ∧ (inB x1 8 ∧ Q (.inl none) (uA (uT (uA s 42 x1.toNatClampNeg x2) 44 x1.toNatClampNeg x3) 46 x1.toNatClampNeg 1) f)))) : ExC l E w d MX4_put 0 [some (.ref (w.1 4)), some (.int x1), some (.int x2), some (x3)] [] s f Q := by
  intro f0 h hW hF
  refine x_aload_n dX4_put_0 rfl rfl rfl ?_
  refine c_getA dX4_put_1 f_TallySlate_Shelves_9 (by decide) (by decide) rfl hW ?_
  refine x_iload_n dX4_put_4 rfl rfl ?_
  refine x_iload_n dX4_put_5 rfl rfl ?_
  obtain ⟨hb, hT⟩ := hT
  refine c_iast dX4_put_6 rfl hb hW ?_
  intro h hW
  refine x_aload_n dX4_put_7 rfl rfl rfl ?_
  refine c_getA dX4_put_8 f_TallySlate_Shelves_20 (by decide) (by decide) rfl hW ?_
  refine x_iload_n dX4_put_11 rfl rfl ?_
  refine x_aload_n dX4_put_12 rfl rfl ix3 ?_
  obtain ⟨hb, ht, hT⟩ := hT
  refine c_aast dX4_put_13 rfl hb ht hW ?_
  intro h hW
  refine x_aload_n dX4_put_14 rfl rfl rfl ?_
  refine c_getA dX4_put_15 f_TallySlate_Shelves_27 (by decide) (by decide) rfl hW ?_
  refine x_iload_n dX4_put_18 rfl rfl ?_
  refine x_iconst (v := 1) dX4_put_19 rfl ?_
  obtain ⟨hb, hT⟩ := hT
  refine c_zast dX4_put_20 rfl hb rfl hW ?_
  intro h hW
  exact x_vret dX4_put_21 rfl ⟨_, _, hW, hF, Or.inl ⟨_, rfl, hT⟩⟩
theorem eX4_put {l : Launch} {E : EN} {w : CO} {d : Nat} {s : CS} {f : RH} {Q : KO → CS → RH → Prop} {x1 : Int32} {x2 : Int32} {x3 : Value} (ix3 : isR x3 = true) (hst : l.stackTraces = false) (hT : (inB x1 8 ∧ (inB x1 8 ∧ isT f x3 ∧ (inB x1 8 ∧ Q (.inl none) (uA (uT (uA s 42 x1.toNatClampNeg x2) 44 x1.toNatClampNeg x3) 46 x1.toNatClampNeg 1) f)))) : EvC l E w d MX4_put [.ref (w.1 4), .int x1, .int x2, x3] s f Q :=by
  rcases isR_cases ix3 with rfl | ⟨_, rfl⟩ <;> exact
  
  EvC.of hst (by decide) (Nat.le_of_ble_eq_true rfl) (vX4_put_0 ix3 hT)
set_option maxHeartbeats 16000000 in
theorem vX4_same_0 {l : Launch} {E : EN} {w : CO} {d : Nat} {s : CS} {f : RH} {Q : KO → CS → RH → Prop} {x1 : Int32} {x2 : Int32}  (hT : (inB x1 8 ∧ (((s.2.2.1 46 x1.toNatClampNeg) = 0 → (inB x1 8 ∧ (inB x2 8 ∧ ((¬ (s.2.2.1 46 x1.toNatClampNeg) = (s.2.2.1 46 x2.toNatClampNeg) → Q (.inl (some (.int 0))) s f) ∧ ((s.2.2.1 46 x1.toNatClampNeg) = (s.2.2.1 46 x2.toNatClampNeg) → Q (.inl (some (.int 1))) s f))))) ∧ (¬ (s.2.2.1 46 x1.toNatClampNeg) = 0 → (inB x2 8 ∧ ((¬ (s.2.2.1 46 x2.toNatClampNeg) = 0 → (inB x1 8 ∧ (inB x1 8 ∧ ∃ v1 : Value, (s.2.2.2 44 x1.toNatClampNeg) = v1 ∧ isR v1 = true ∧ (inB x2 8 ∧ (inB x2 8 ∧ ∃ v2 : Value, (s.2.2.2 44 x2.toNatClampNeg) = v2 ∧ isR v2 = true ∧ (EvC l E w d MX0_alike [.int (s.2.2.1 42 x1.toNatClampNeg), v1, .int (s.2.2.1 42 x2.toNatClampNeg), v2] s f (fun o s3 f4 => KP o (fun r => ∃ v5 : Int32, r = some (.int v5) ∧ (narrow .boolean (.int v5) = .int v5 ∧ Q (.inl (some (.int v5))) s3 f4)) (fun k => Q (.inr k) s3 f4)))))))) ∧ ((s.2.2.1 46 x2.toNatClampNeg) = 0 → (inB x1 8 ∧ (inB x2 8 ∧ ((¬ (s.2.2.1 46 x1.toNatClampNeg) = (s.2.2.1 46 x2.toNatClampNeg) → Q (.inl (some (.int 0))) s f) ∧ ((s.2.2.1 46 x1.toNatClampNeg) = (s.2.2.1 46 x2.toNatClampNeg) → Q (.inl (some (.int 1))) s f))))))))))) : ExC l E w (d + 1) MX4_same 0 [some (.ref (w.1 4)), some (.int x1), some (.int x2)] [] s f Q := by
  intro f0 h hW hF
  refine x_aload_n dX4_same_0 rfl rfl rfl ?_
  refine c_getA dX4_same_1 f_TallySlate_Shelves_27 (by decide) (by decide) rfl hW ?_
  refine x_iload_n dX4_same_4 rfl rfl ?_
  obtain ⟨hb, hT⟩ := hT
  refine c_bald (v := (s.2.2.1 46 x1.toNatClampNeg)) dX4_same_5 rfl (by decide) hb hW rfl ?_
  refine x_if_eq (tgt := 18) dX4_same_6 rfl (fun c => ?_) (fun c => ?_)
  · replace hT := hT.1 c
    refine x_aload_n dX4_same_18 rfl rfl rfl ?_
    refine c_getA dX4_same_19 f_TallySlate_Shelves_27 (by decide) (by decide) rfl hW ?_
    refine x_iload_n dX4_same_22 rfl rfl ?_
    obtain ⟨hb, hT⟩ := hT
    refine c_bald (v := (s.2.2.1 46 x1.toNatClampNeg)) dX4_same_23 rfl (by decide) hb hW rfl ?_
    refine x_aload_n dX4_same_24 rfl rfl rfl ?_
    refine c_getA dX4_same_25 f_TallySlate_Shelves_27 (by decide) (by decide) rfl hW ?_
    refine x_iload_n dX4_same_28 rfl rfl ?_
    obtain ⟨hb, hT⟩ := hT
    refine c_bald (v := (s.2.2.1 46 x2.toNatClampNeg)) dX4_same_29 rfl (by decide) hb hW rfl ?_
    refine x_icmp_ne (tgt := 37) dX4_same_30 rfl (fun c => ?_) (fun c => ?_)
    · replace hT := hT.1 c
      refine x_iconst (v := 0) dX4_same_37 rfl ?_
      exact x_iret dX4_same_38 rfl rfl ⟨_, _, hW, hF, Or.inl ⟨_, rfl, hT⟩⟩
    · replace hT := hT.2 c
      refine x_iconst (v := 1) dX4_same_33 rfl ?_
      refine x_goto (tgt := 38) dX4_same_34 rfl ?_
      exact x_iret dX4_same_38 rfl rfl ⟨_, _, hW, hF, Or.inl ⟨_, rfl, hT⟩⟩
  · replace hT := hT.2 c
    refine x_aload_n dX4_same_9 rfl rfl rfl ?_
    refine c_getA dX4_same_10 f_TallySlate_Shelves_27 (by decide) (by decide) rfl hW ?_
    refine x_iload_n dX4_same_13 rfl rfl ?_
    obtain ⟨hb, hT⟩ := hT
    refine c_bald (v := (s.2.2.1 46 x2.toNatClampNeg)) dX4_same_14 rfl (by decide) hb hW rfl ?_
    refine x_if_ne (tgt := 39) dX4_same_15 rfl (fun c => ?_) (fun c => ?_)
    · replace hT := hT.1 c
      refine x_aload_n dX4_same_39 rfl rfl rfl ?_
      refine c_getA dX4_same_40 f_TallySlate_Shelves_9 (by decide) (by decide) rfl hW ?_
      refine x_iload_n dX4_same_43 rfl rfl ?_
      obtain ⟨hb, hT⟩ := hT
      refine c_iald (v := (s.2.2.1 42 x1.toNatClampNeg)) dX4_same_44 rfl hb hW rfl ?_
      refine x_aload_n dX4_same_45 rfl rfl rfl ?_
      refine c_getA dX4_same_46 f_TallySlate_Shelves_20 (by decide) (by decide) rfl hW ?_
      refine x_iload_n dX4_same_49 rfl rfl ?_
      obtain ⟨hb, v1, ev, iv1, hT⟩ := hT
      refine c_aald (v := v1) dX4_same_50 rfl hb hW ev ?_
      refine x_aload_n dX4_same_51 rfl rfl rfl ?_
      refine c_getA dX4_same_52 f_TallySlate_Shelves_9 (by decide) (by decide) rfl hW ?_
      refine x_iload_n dX4_same_55 rfl rfl ?_
      obtain ⟨hb, hT⟩ := hT
      refine c_iald (v := (s.2.2.1 42 x2.toNatClampNeg)) dX4_same_56 rfl hb hW rfl ?_
      refine x_aload_n dX4_same_57 rfl rfl rfl ?_
      refine c_getA dX4_same_58 f_TallySlate_Shelves_20 (by decide) (by decide) rfl hW ?_
      refine x_iload_n dX4_same_61 rfl rfl ?_
      obtain ⟨hb, v2, ev, iv2, hT⟩ := hT
      refine c_aald (v := v2) dX4_same_62 rfl hb hW ev ?_
      refine c_invS (vs := [.int (s.2.2.1 42 x1.toNatClampNeg), v1, .int (s.2.2.1 42 x2.toNatClampNeg), v2]) dX4_same_63 oX0_alike q1901 (Or.inr ⟨_, q2130⟩) rfl rfl (Nat.le_of_ble_eq_true rfl) rfl hW hF hT ?_ ?_
      · intro _ s3 f4 hT h hW hF
        obtain ⟨v5, rfl, hT⟩ := hT
        exact x_iret dX4_same_66 rfl hT.1 ⟨_, _, hW, hF, Or.inl ⟨_, rfl, hT.2⟩⟩
      · intro k s3 f4 hT h a hW hx hF
        exact c_out (rfl) hW hx hF hT
    · replace hT := hT.2 c
      refine x_aload_n dX4_same_18 rfl rfl rfl ?_
      refine c_getA dX4_same_19 f_TallySlate_Shelves_27 (by decide) (by decide) rfl hW ?_
      refine x_iload_n dX4_same_22 rfl rfl ?_
      obtain ⟨hb, hT⟩ := hT
      refine c_bald (v := (s.2.2.1 46 x1.toNatClampNeg)) dX4_same_23 rfl (by decide) hb hW rfl ?_
      refine x_aload_n dX4_same_24 rfl rfl rfl ?_
      refine c_getA dX4_same_25 f_TallySlate_Shelves_27 (by decide) (by decide) rfl hW ?_
      refine x_iload_n dX4_same_28 rfl rfl ?_
      obtain ⟨hb, hT⟩ := hT
      refine c_bald (v := (s.2.2.1 46 x2.toNatClampNeg)) dX4_same_29 rfl (by decide) hb hW rfl ?_
      refine x_icmp_ne (tgt := 37) dX4_same_30 rfl (fun c => ?_) (fun c => ?_)
      · replace hT := hT.1 c
        refine x_iconst (v := 0) dX4_same_37 rfl ?_
        exact x_iret dX4_same_38 rfl rfl ⟨_, _, hW, hF, Or.inl ⟨_, rfl, hT⟩⟩
      · replace hT := hT.2 c
        refine x_iconst (v := 1) dX4_same_33 rfl ?_
        refine x_goto (tgt := 38) dX4_same_34 rfl ?_
        exact x_iret dX4_same_38 rfl rfl ⟨_, _, hW, hF, Or.inl ⟨_, rfl, hT⟩⟩
theorem eX4_same {l : Launch} {E : EN} {w : CO} {d : Nat} {s : CS} {f : RH} {Q : KO → CS → RH → Prop} {x1 : Int32} {x2 : Int32}  (hst : l.stackTraces = false) (hT : (inB x1 8 ∧ (((s.2.2.1 46 x1.toNatClampNeg) = 0 → (inB x1 8 ∧ (inB x2 8 ∧ ((¬ (s.2.2.1 46 x1.toNatClampNeg) = (s.2.2.1 46 x2.toNatClampNeg) → Q (.inl (some (.int 0))) s f) ∧ ((s.2.2.1 46 x1.toNatClampNeg) = (s.2.2.1 46 x2.toNatClampNeg) → Q (.inl (some (.int 1))) s f))))) ∧ (¬ (s.2.2.1 46 x1.toNatClampNeg) = 0 → (inB x2 8 ∧ ((¬ (s.2.2.1 46 x2.toNatClampNeg) = 0 → (inB x1 8 ∧ (inB x1 8 ∧ ∃ v1 : Value, (s.2.2.2 44 x1.toNatClampNeg) = v1 ∧ isR v1 = true ∧ (inB x2 8 ∧ (inB x2 8 ∧ ∃ v2 : Value, (s.2.2.2 44 x2.toNatClampNeg) = v2 ∧ isR v2 = true ∧ (EvC l E w d MX0_alike [.int (s.2.2.1 42 x1.toNatClampNeg), v1, .int (s.2.2.1 42 x2.toNatClampNeg), v2] s f (fun o s3 f4 => KP o (fun r => ∃ v5 : Int32, r = some (.int v5) ∧ (narrow .boolean (.int v5) = .int v5 ∧ Q (.inl (some (.int v5))) s3 f4)) (fun k => Q (.inr k) s3 f4)))))))) ∧ ((s.2.2.1 46 x2.toNatClampNeg) = 0 → (inB x1 8 ∧ (inB x2 8 ∧ ((¬ (s.2.2.1 46 x1.toNatClampNeg) = (s.2.2.1 46 x2.toNatClampNeg) → Q (.inl (some (.int 0))) s f) ∧ ((s.2.2.1 46 x1.toNatClampNeg) = (s.2.2.1 46 x2.toNatClampNeg) → Q (.inl (some (.int 1))) s f))))))))))) : EvC l E w (d + 1) MX4_same [.ref (w.1 4), .int x1, .int x2] s f Q :=
  EvC.of hst (by decide) (Nat.le_of_ble_eq_true rfl) (vX4_same_0  hT)
set_option maxHeartbeats 16000000 in
theorem vX5_one_0 {l : Launch} {E : EN} {w : CO} {d : Nat} {s : CS} {f : RH} {Q : KO → CS → RH → Prop} {x1 : Int32} {x2 : Int32}  (hT : (∀ y1 : Int32, y1 = ((s.1 26) - 1) → (inB y1 8400 ∧ ∃ v2 : Value, (s.2.2.2 25 y1.toNatClampNeg) = v2 ∧ isR v2 = true ∧ (isT f v2 ∧ ((∀ a4 : Nat, v2 = .ref a4 → tg f a4 = some (.inl 31) → (EvC l E w d MX3_wrong [.ref (w.1 3), .int 3, .int x2] s f (fun o s5 f6 => KP o (fun r => r = some (.ref (w.1 9)) ∧ Q (.inr 9) s5 f6) (fun k => Q (.inr k) s5 f6)))) ∧ ((∀ z : Nat, v2 = .ref z → ¬ tg f z = some (.inl 31)) → ((v2 = .null → ((x1 = 0 → (inB y1 8400 ∧ (EvC l E w d MX3_give [.ref (w.1 3), .int (-(s.2.2.1 24 y1.toNatClampNeg)), .int 1] s f (fun o s8 f9 => KP o (fun r => r = none ∧ Q (.inl none) s8 f9) (fun k => Q (.inr k) s8 f9))))) ∧ (¬ x1 = 0 → (inB y1 8400 ∧ ((¬ (s.2.2.1 24 y1.toNatClampNeg) = 0 → (EvC l E w d MX3_give [.ref (w.1 3), .int 0, .int 1] s f (fun o s10 f11 => KP o (fun r => r = none ∧ Q (.inl none) s10 f11) (fun k => Q (.inr k) s10 f11)))) ∧ ((s.2.2.1 24 y1.toNatClampNeg) = 0 → (EvC l E w d MX3_give [.ref (w.1 3), .int 1, .int 1] s f (fun o s12 f13 => KP o (fun r => r = none ∧ Q (.inl none) s12 f13) (fun k => Q (.inr k) s12 f13))))))))) ∧ (∀ a7 : Nat, v2 = .ref a7 → ((x1 = 0 → (isT f (.ref a7) ∧ ((tg f a7 = some (.inl 29) → (tg f a7 = some (.inl 29) ∧ (rmF E f 1 1 ∧ ∀ (a15 : Nat) (f16 : RH), a15 = f.1 → f16 = fnew f 29 → (oc f16 a7 29 ∧ (∃ a17 : Nat, vl f16 a7 203 = .ref a17 ∧ (EvC l E w d MX5_rows [.int 45, .null, .int 0, .ref a17, .int 0] s f16 (fun o s18 f19 => KP o (fun r => ∃ a20 : Nat, r = some (.ref a20) ∧ (EvC l E w d MX32_init [.ref a15, .ref a20] s18 f19 (fun o s21 f22 => KP o (fun r => r = none ∧ (EvC l E w d MX3_give_2 [.ref (w.1 3), .ref a15, .int 1, .int x2] s21 f22 (fun o s23 f24 => KP o (fun r => r = none ∧ Q (.inl none) s23 f24) (fun k => Q (.inr k) s23 f24)))) (fun k => Q (.inr k) s21 f22)))) (fun k => Q (.inr k) s18 f19)))))))) ∧ (¬ tg f a7 = some (.inl 29) → (EvC l E w d MX5_tables [.int 45, .null, .int 0, .ref a7, .int 0] s f (fun o s25 f26 => KP o (fun r => ∃ a27 : Nat, r = some (.ref a27) ∧ (EvC l E w d MX3_give_2 [.ref (w.1 3), .ref a27, .int 1, .int x2] s25 f26 (fun o s28 f29 => KP o (fun r => r = none ∧ Q (.inl none) s28 f29) (fun k => Q (.inr k) s28 f29)))) (fun k => Q (.inr k) s25 f26))))))) ∧ (¬ x1 = 0 → (isT f (.ref a7) ∧ ((tg f a7 = some (.inl 29) → (tg f a7 = some (.inl 29) ∧ (rmF E f 1 1 ∧ ∀ (a31 : Nat) (f32 : RH), a31 = f.1 → f32 = fnew f 29 → (oc f32 a7 29 ∧ (∃ a33 : Nat, vl f32 a7 203 = .ref a33 ∧ (EvC l E w d MX5_rows [.int 317, .null, .int 0, .ref a33, .int 0] s f32 (fun o s34 f35 => KP o (fun r => ∃ a36 : Nat, r = some (.ref a36) ∧ (EvC l E w d MX32_init [.ref a31, .ref a36] s34 f35 (fun o s37 f38 => KP o (fun r => r = none ∧ (EvC l E w d MX3_give_2 [.ref (w.1 3), .ref a31, .int 1, .int x2] s37 f38 (fun o s39 f40 => KP o (fun r => r = none ∧ Q (.inl none) s39 f40) (fun k => Q (.inr k) s39 f40)))) (fun k => Q (.inr k) s37 f38)))) (fun k => Q (.inr k) s34 f35)))))))) ∧ (¬ tg f a7 = some (.inl 29) → (EvC l E w d MX5_tables [.int 317, .null, .int 0, .ref a7, .int 0] s f (fun o s41 f42 => KP o (fun r => ∃ a43 : Nat, r = some (.ref a43) ∧ (EvC l E w d MX3_give_2 [.ref (w.1 3), .ref a43, .int 1, .int x2] s41 f42 (fun o s44 f45 => KP o (fun r => r = none ∧ Q (.inl none) s44 f45) (fun k => Q (.inr k) s44 f45)))) (fun k => Q (.inr k) s41 f42)))))))))))))))) : ExC l E w (d + 1) MX5_one 0 [some (.ref (w.1 5)), some (.int x1), some (.int x2), none, none, none, none] [] s f Q := by
  intro f0 h hW hF
  refine x_aload_n dX5_one_0 rfl rfl rfl ?_
  refine c_getO dX5_one_1 f_TallySlate_Signs_9 (by decide) (by decide) rfl hW ?_
  refine c_getI (v := (s.1 26)) dX5_one_4 f_TallySlate_Signs_36 (by decide) (by decide) rfl hW rfl ?_
  refine x_iconst (v := 1) dX5_one_7 rfl ?_
  refine x_isub dX5_one_8 ?_
  obtain ⟨y1, ey1⟩ : ∃ z : Int32, z = ((s.1 26) - 1) := ⟨_, rfl⟩
  replace hT := hT y1 ey1
  refine x_istore_n (lo' := [some (.ref (w.1 5)), some (.int x1), some (.int x2), some (.int y1), none, none, none]) dX5_one_9 rfl (Nat.le_of_ble_eq_true rfl) (by rw [ey1]; exact rfl) ?_
  refine x_aload_n dX5_one_10 rfl rfl rfl ?_
  refine c_getO dX5_one_11 f_TallySlate_Signs_9 (by decide) (by decide) rfl hW ?_
  refine c_getA dX5_one_14 f_TallySlate_Signs_30 (by decide) (by decide) rfl hW ?_
  refine x_iload_n dX5_one_17 rfl rfl ?_
  obtain ⟨hb, v2, ev, iv2, hT⟩ := hT
  refine c_aald (v := v2) dX5_one_18 rfl hb hW ev ?_
  refine x_astore (lo' := [some (.ref (w.1 5)), some (.int x1), some (.int x2), some (.int y1), some (v2), none, none]) dX5_one_19 (Nat.le_of_ble_eq_true rfl) iv2 rfl ?_
  refine x_aload dX5_one_21 rfl iv2 ?_
  obtain ⟨ht, hT⟩ := hT
  refine c_instV (K := 31) dX5_one_23 (by decide) q1381 ht hW (fun a4 ec hi3 => ?_) (fun hi3 => ?_)
  · subst ec
    replace hT := hT.1 a4 rfl hi3
    refine x_if_eq (tgt := 39) dX5_one_26 rfl (fun c => absurd c (by decide)) (fun _ => ?_)
    refine x_aload_n dX5_one_29 rfl rfl rfl ?_
    refine c_getO dX5_one_30 f_TallySlate_Signs_9 (by decide) (by decide) rfl hW ?_
    refine x_iconst (v := 3) dX5_one_33 rfl ?_
    refine x_iload_n dX5_one_34 rfl rfl ?_
    obtain ⟨-, -, cc, hcc, -⟩ := hW.ob 3 (by decide)
    refine c_invV (vs := [.int 3, .int x2]) dX5_one_35 oX3_wrong q1323 q1382 hcc q1324 (Or.inl rfl) rfl rfl (Nat.le_of_ble_eq_true rfl) rfl hW hF hT ?_ ?_
    · intro _ s5 f6 hT h hW hF
      obtain ⟨rfl, hT⟩ := hT
      refine x_athrow dX5_one_38 ?_
      exact c_out (rfl) hW (Or.inl ⟨rfl, rfl⟩) hF hT
    · intro k s5 f6 hT h a hW hx hF
      exact c_out (rfl) hW hx hF hT
  · replace hT := hT.2 hi3
    refine x_if_eq (tgt := 39) dX5_one_26 rfl (fun _ => ?_) (fun c => absurd c (by decide))
    refine x_aload dX5_one_39 rfl iv2 ?_
    refine x_ifnonnull (tgt := 87) dX5_one_41 rfl iv2 (fun a7 e => ?_) (fun e => ?_)
    · subst e
      replace hT := hT.2 a7 rfl
      refine x_iload_n dX5_one_87 rfl rfl ?_
      refine x_if_eq (tgt := 97) dX5_one_88 rfl (fun c => ?_) (fun c => ?_)
      · replace hT := hT.1 c
        refine x_bipush (v := 45) dX5_one_97 rfl ?_
        refine x_istore (lo' := [some (.ref (w.1 5)), some (.int x1), some (.int x2), some (.int y1), some (.ref a7), some (.int 45), none]) dX5_one_99 (Nat.le_of_ble_eq_true rfl) rfl ?_
        refine x_aload dX5_one_101 rfl rfl ?_
        obtain ⟨ht, hT⟩ := hT
        refine c_inst (K := 29) dX5_one_103 (by decide) q1387 ht hW (fun hi14 => ?_) (fun hi14 => ?_)
        · replace hT := hT.1 hi14
          refine x_if_eq (tgt := 148) dX5_one_106 rfl (fun c => absurd c (by decide)) (fun _ => ?_)
          refine x_aload dX5_one_109 rfl rfl ?_
          obtain ⟨hc, hT⟩ := hT
          refine c_cast (K := 29) dX5_one_111 q1387 hc hW ?_
          refine x_astore (lo' := [some (.ref (w.1 5)), some (.int x1), some (.int x2), some (.int y1), some (.ref a7), some (.int 45), some (.ref a7)]) dX5_one_114 (Nat.le_of_ble_eq_true rfl) rfl rfl ?_
          refine x_aload_n dX5_one_116 rfl rfl rfl ?_
          refine c_getO dX5_one_117 f_TallySlate_Signs_9 (by decide) (by decide) rfl hW ?_
          obtain ⟨hr, hT⟩ := hT
          refine c_newG (k := 29) dX5_one_120 (by decide) q1387 q205 hr hW hF ?_
          intro a15 f16 ea15 ef16 h hW hF
          replace hT := hT a15 f16 ea15 ef16
          refine x_dup dX5_one_123 rfl ?_
          refine x_iload dX5_one_124 rfl ?_
          refine x_null dX5_one_126 ?_
          refine x_iconst (v := 0) dX5_one_127 rfl ?_
          refine x_aload dX5_one_128 rfl rfl ?_
          obtain ⟨hc, hT⟩ := hT
          obtain ⟨a17, ev, hT⟩ := hT
          refine c_fgetG dX5_one_130 f_TallySlate_Signs_27 hc (by decide) (by decide) hW ev ?_
          refine x_iconst (v := 0) dX5_one_133 rfl ?_
          refine c_invS (vs := [.int 45, .null, .int 0, .ref a17, .int 0]) dX5_one_134 oX5_rows q1390 (Or.inl q1389) rfl rfl (Nat.le_of_ble_eq_true rfl) rfl hW hF hT ?_ ?_
          · intro _ s18 f19 hT h hW hF
            obtain ⟨a20, rfl, hT⟩ := hT
            refine c_invI (b := a15) (vs := [.ref a20]) dX5_one_137 oX32_init rfl rfl rfl q1396 (Or.inl q1395) rfl rfl (Nat.le_of_ble_eq_true rfl) rfl hW hF hT ?_ ?_
            · intro _ s21 f22 hT h hW hF
              obtain ⟨rfl, hT⟩ := hT
              refine x_iconst (v := 1) dX5_one_140 rfl ?_
              refine x_iload_n dX5_one_141 rfl rfl ?_
              obtain ⟨-, -, cc, hcc, -⟩ := hW.ob 3 (by decide)
              refine c_invV (vs := [.ref a15, .int 1, .int x2]) dX5_one_142 oX3_give_2 q1412 q1411 hcc q1413 (Or.inl rfl) rfl rfl (Nat.le_of_ble_eq_true rfl) rfl hW hF hT ?_ ?_
              · intro _ s23 f24 hT h hW hF
                obtain ⟨rfl, hT⟩ := hT
                refine x_goto (tgt := 167) dX5_one_145 rfl ?_
                exact x_vret dX5_one_167 rfl ⟨_, _, hW, hF, Or.inl ⟨_, rfl, hT⟩⟩
              · intro k s23 f24 hT h a hW hx hF
                exact c_out (rfl) hW hx hF hT
            · intro k s21 f22 hT h a hW hx hF
              exact c_out (rfl) hW hx hF hT
          · intro k s18 f19 hT h a hW hx hF
            exact c_out (rfl) hW hx hF hT
        · replace hT := hT.2 hi14
          refine x_if_eq (tgt := 148) dX5_one_106 rfl (fun _ => ?_) (fun c => absurd c (by decide))
          refine x_aload_n dX5_one_148 rfl rfl rfl ?_
          refine c_getO dX5_one_149 f_TallySlate_Signs_9 (by decide) (by decide) rfl hW ?_
          refine x_iload dX5_one_152 rfl ?_
          refine x_null dX5_one_154 ?_
          refine x_iconst (v := 0) dX5_one_155 rfl ?_
          refine x_aload dX5_one_156 rfl rfl ?_
          refine x_iconst (v := 0) dX5_one_158 rfl ?_
          refine c_invS (vs := [.int 45, .null, .int 0, .ref a7, .int 0]) dX5_one_159 oX5_tables q1444 (Or.inl q1443) rfl rfl (Nat.le_of_ble_eq_true rfl) rfl hW hF hT ?_ ?_
          · intro _ s25 f26 hT h hW hF
            obtain ⟨a27, rfl, hT⟩ := hT
            refine x_iconst (v := 1) dX5_one_162 rfl ?_
            refine x_iload_n dX5_one_163 rfl rfl ?_
            obtain ⟨-, -, cc, hcc, -⟩ := hW.ob 3 (by decide)
            refine c_invV (vs := [.ref a27, .int 1, .int x2]) dX5_one_164 oX3_give_2 q1412 q1411 hcc q1413 (Or.inl rfl) rfl rfl (Nat.le_of_ble_eq_true rfl) rfl hW hF hT ?_ ?_
            · intro _ s28 f29 hT h hW hF
              obtain ⟨rfl, hT⟩ := hT
              exact x_vret dX5_one_167 rfl ⟨_, _, hW, hF, Or.inl ⟨_, rfl, hT⟩⟩
            · intro k s28 f29 hT h a hW hx hF
              exact c_out (rfl) hW hx hF hT
          · intro k s25 f26 hT h a hW hx hF
            exact c_out (rfl) hW hx hF hT
      · replace hT := hT.2 c
        refine x_sipush (v := 317) dX5_one_91 rfl ?_
        refine x_goto (tgt := 99) dX5_one_94 rfl ?_
        refine x_istore (lo' := [some (.ref (w.1 5)), some (.int x1), some (.int x2), some (.int y1), some (.ref a7), some (.int 317), none]) dX5_one_99 (Nat.le_of_ble_eq_true rfl) rfl ?_
        refine x_aload dX5_one_101 rfl rfl ?_
        obtain ⟨ht, hT⟩ := hT
        refine c_inst (K := 29) dX5_one_103 (by decide) q1387 ht hW (fun hi30 => ?_) (fun hi30 => ?_)
        · replace hT := hT.1 hi30
          refine x_if_eq (tgt := 148) dX5_one_106 rfl (fun c => absurd c (by decide)) (fun _ => ?_)
          refine x_aload dX5_one_109 rfl rfl ?_
          obtain ⟨hc, hT⟩ := hT
          refine c_cast (K := 29) dX5_one_111 q1387 hc hW ?_
          refine x_astore (lo' := [some (.ref (w.1 5)), some (.int x1), some (.int x2), some (.int y1), some (.ref a7), some (.int 317), some (.ref a7)]) dX5_one_114 (Nat.le_of_ble_eq_true rfl) rfl rfl ?_
          refine x_aload_n dX5_one_116 rfl rfl rfl ?_
          refine c_getO dX5_one_117 f_TallySlate_Signs_9 (by decide) (by decide) rfl hW ?_
          obtain ⟨hr, hT⟩ := hT
          refine c_newG (k := 29) dX5_one_120 (by decide) q1387 q205 hr hW hF ?_
          intro a31 f32 ea31 ef32 h hW hF
          replace hT := hT a31 f32 ea31 ef32
          refine x_dup dX5_one_123 rfl ?_
          refine x_iload dX5_one_124 rfl ?_
          refine x_null dX5_one_126 ?_
          refine x_iconst (v := 0) dX5_one_127 rfl ?_
          refine x_aload dX5_one_128 rfl rfl ?_
          obtain ⟨hc, hT⟩ := hT
          obtain ⟨a33, ev, hT⟩ := hT
          refine c_fgetG dX5_one_130 f_TallySlate_Signs_27 hc (by decide) (by decide) hW ev ?_
          refine x_iconst (v := 0) dX5_one_133 rfl ?_
          refine c_invS (vs := [.int 317, .null, .int 0, .ref a33, .int 0]) dX5_one_134 oX5_rows q1390 (Or.inl q1389) rfl rfl (Nat.le_of_ble_eq_true rfl) rfl hW hF hT ?_ ?_
          · intro _ s34 f35 hT h hW hF
            obtain ⟨a36, rfl, hT⟩ := hT
            refine c_invI (b := a31) (vs := [.ref a36]) dX5_one_137 oX32_init rfl rfl rfl q1396 (Or.inl q1395) rfl rfl (Nat.le_of_ble_eq_true rfl) rfl hW hF hT ?_ ?_
            · intro _ s37 f38 hT h hW hF
              obtain ⟨rfl, hT⟩ := hT
              refine x_iconst (v := 1) dX5_one_140 rfl ?_
              refine x_iload_n dX5_one_141 rfl rfl ?_
              obtain ⟨-, -, cc, hcc, -⟩ := hW.ob 3 (by decide)
              refine c_invV (vs := [.ref a31, .int 1, .int x2]) dX5_one_142 oX3_give_2 q1412 q1411 hcc q1413 (Or.inl rfl) rfl rfl (Nat.le_of_ble_eq_true rfl) rfl hW hF hT ?_ ?_
              · intro _ s39 f40 hT h hW hF
                obtain ⟨rfl, hT⟩ := hT
                refine x_goto (tgt := 167) dX5_one_145 rfl ?_
                exact x_vret dX5_one_167 rfl ⟨_, _, hW, hF, Or.inl ⟨_, rfl, hT⟩⟩
              · intro k s39 f40 hT h a hW hx hF
                exact c_out (rfl) hW hx hF hT
            · intro k s37 f38 hT h a hW hx hF
              exact c_out (rfl) hW hx hF hT
          · intro k s34 f35 hT h a hW hx hF
            exact c_out (rfl) hW hx hF hT
        · replace hT := hT.2 hi30
          refine x_if_eq (tgt := 148) dX5_one_106 rfl (fun _ => ?_) (fun c => absurd c (by decide))
          refine x_aload_n dX5_one_148 rfl rfl rfl ?_
          refine c_getO dX5_one_149 f_TallySlate_Signs_9 (by decide) (by decide) rfl hW ?_
          refine x_iload dX5_one_152 rfl ?_
          refine x_null dX5_one_154 ?_
          refine x_iconst (v := 0) dX5_one_155 rfl ?_
          refine x_aload dX5_one_156 rfl rfl ?_
          refine x_iconst (v := 0) dX5_one_158 rfl ?_
          refine c_invS (vs := [.int 317, .null, .int 0, .ref a7, .int 0]) dX5_one_159 oX5_tables q1444 (Or.inl q1443) rfl rfl (Nat.le_of_ble_eq_true rfl) rfl hW hF hT ?_ ?_
          · intro _ s41 f42 hT h hW hF
            obtain ⟨a43, rfl, hT⟩ := hT
            refine x_iconst (v := 1) dX5_one_162 rfl ?_
            refine x_iload_n dX5_one_163 rfl rfl ?_
            obtain ⟨-, -, cc, hcc, -⟩ := hW.ob 3 (by decide)
            refine c_invV (vs := [.ref a43, .int 1, .int x2]) dX5_one_164 oX3_give_2 q1412 q1411 hcc q1413 (Or.inl rfl) rfl rfl (Nat.le_of_ble_eq_true rfl) rfl hW hF hT ?_ ?_
            · intro _ s44 f45 hT h hW hF
              obtain ⟨rfl, hT⟩ := hT
              exact x_vret dX5_one_167 rfl ⟨_, _, hW, hF, Or.inl ⟨_, rfl, hT⟩⟩
            · intro k s44 f45 hT h a hW hx hF
              exact c_out (rfl) hW hx hF hT
          · intro k s41 f42 hT h a hW hx hF
            exact c_out (rfl) hW hx hF hT
    · subst e
      replace hT := hT.1 rfl
      refine x_aload_n dX5_one_44 rfl rfl rfl ?_
      refine c_getO dX5_one_45 f_TallySlate_Signs_9 (by decide) (by decide) rfl hW ?_
      refine x_iload_n dX5_one_48 rfl rfl ?_
      refine x_if_eq (tgt := 72) dX5_one_49 rfl (fun c => ?_) (fun c => ?_)
      · replace hT := hT.1 c
        refine x_aload_n dX5_one_72 rfl rfl rfl ?_
        refine c_getO dX5_one_73 f_TallySlate_Signs_9 (by decide) (by decide) rfl hW ?_
        refine c_getA dX5_one_76 f_TallySlate_Signs_40 (by decide) (by decide) rfl hW ?_
        refine x_iload_n dX5_one_79 rfl rfl ?_
        obtain ⟨hb, hT⟩ := hT
        refine c_iald (v := (s.2.2.1 24 y1.toNatClampNeg)) dX5_one_80 rfl hb hW rfl ?_
        refine x_ineg dX5_one_81 ?_
        refine x_iconst (v := 1) dX5_one_82 rfl ?_
        obtain ⟨-, -, cc, hcc, -⟩ := hW.ob 3 (by decide)
        refine c_invV (vs := [.int (-(s.2.2.1 24 y1.toNatClampNeg)), .int 1]) dX5_one_83 oX3_give q1384 q1383 hcc q1385 (Or.inl rfl) rfl rfl (Nat.le_of_ble_eq_true rfl) rfl hW hF hT ?_ ?_
        · intro _ s8 f9 hT h hW hF
          obtain ⟨rfl, hT⟩ := hT
          exact x_vret dX5_one_86 rfl ⟨_, _, hW, hF, Or.inl ⟨_, rfl, hT⟩⟩
        · intro k s8 f9 hT h a hW hx hF
          exact c_out (rfl) hW hx hF hT
      · replace hT := hT.2 c
        refine x_aload_n dX5_one_52 rfl rfl rfl ?_
        refine c_getO dX5_one_53 f_TallySlate_Signs_9 (by decide) (by decide) rfl hW ?_
        refine c_getA dX5_one_56 f_TallySlate_Signs_40 (by decide) (by decide) rfl hW ?_
        refine x_iload_n dX5_one_59 rfl rfl ?_
        obtain ⟨hb, hT⟩ := hT
        refine c_iald (v := (s.2.2.1 24 y1.toNatClampNeg)) dX5_one_60 rfl hb hW rfl ?_
        refine x_if_ne (tgt := 68) dX5_one_61 rfl (fun c => ?_) (fun c => ?_)
        · replace hT := hT.1 c
          refine x_iconst (v := 0) dX5_one_68 rfl ?_
          refine x_goto (tgt := 82) dX5_one_69 rfl ?_
          refine x_iconst (v := 1) dX5_one_82 rfl ?_
          obtain ⟨-, -, cc, hcc, -⟩ := hW.ob 3 (by decide)
          refine c_invV (vs := [.int 0, .int 1]) dX5_one_83 oX3_give q1384 q1383 hcc q1385 (Or.inl rfl) rfl rfl (Nat.le_of_ble_eq_true rfl) rfl hW hF hT ?_ ?_
          · intro _ s10 f11 hT h hW hF
            obtain ⟨rfl, hT⟩ := hT
            exact x_vret dX5_one_86 rfl ⟨_, _, hW, hF, Or.inl ⟨_, rfl, hT⟩⟩
          · intro k s10 f11 hT h a hW hx hF
            exact c_out (rfl) hW hx hF hT
        · replace hT := hT.2 c
          refine x_iconst (v := 1) dX5_one_64 rfl ?_
          refine x_goto (tgt := 82) dX5_one_65 rfl ?_
          refine x_iconst (v := 1) dX5_one_82 rfl ?_
          obtain ⟨-, -, cc, hcc, -⟩ := hW.ob 3 (by decide)
          refine c_invV (vs := [.int 1, .int 1]) dX5_one_83 oX3_give q1384 q1383 hcc q1385 (Or.inl rfl) rfl rfl (Nat.le_of_ble_eq_true rfl) rfl hW hF hT ?_ ?_
          · intro _ s12 f13 hT h hW hF
            obtain ⟨rfl, hT⟩ := hT
            exact x_vret dX5_one_86 rfl ⟨_, _, hW, hF, Or.inl ⟨_, rfl, hT⟩⟩
          · intro k s12 f13 hT h a hW hx hF
            exact c_out (rfl) hW hx hF hT
theorem eX5_one {l : Launch} {E : EN} {w : CO} {d : Nat} {s : CS} {f : RH} {Q : KO → CS → RH → Prop} {x1 : Int32} {x2 : Int32}  (hst : l.stackTraces = false) (hT : (∀ y1 : Int32, y1 = ((s.1 26) - 1) → (inB y1 8400 ∧ ∃ v2 : Value, (s.2.2.2 25 y1.toNatClampNeg) = v2 ∧ isR v2 = true ∧ (isT f v2 ∧ ((∀ a4 : Nat, v2 = .ref a4 → tg f a4 = some (.inl 31) → (EvC l E w d MX3_wrong [.ref (w.1 3), .int 3, .int x2] s f (fun o s5 f6 => KP o (fun r => r = some (.ref (w.1 9)) ∧ Q (.inr 9) s5 f6) (fun k => Q (.inr k) s5 f6)))) ∧ ((∀ z : Nat, v2 = .ref z → ¬ tg f z = some (.inl 31)) → ((v2 = .null → ((x1 = 0 → (inB y1 8400 ∧ (EvC l E w d MX3_give [.ref (w.1 3), .int (-(s.2.2.1 24 y1.toNatClampNeg)), .int 1] s f (fun o s8 f9 => KP o (fun r => r = none ∧ Q (.inl none) s8 f9) (fun k => Q (.inr k) s8 f9))))) ∧ (¬ x1 = 0 → (inB y1 8400 ∧ ((¬ (s.2.2.1 24 y1.toNatClampNeg) = 0 → (EvC l E w d MX3_give [.ref (w.1 3), .int 0, .int 1] s f (fun o s10 f11 => KP o (fun r => r = none ∧ Q (.inl none) s10 f11) (fun k => Q (.inr k) s10 f11)))) ∧ ((s.2.2.1 24 y1.toNatClampNeg) = 0 → (EvC l E w d MX3_give [.ref (w.1 3), .int 1, .int 1] s f (fun o s12 f13 => KP o (fun r => r = none ∧ Q (.inl none) s12 f13) (fun k => Q (.inr k) s12 f13))))))))) ∧ (∀ a7 : Nat, v2 = .ref a7 → ((x1 = 0 → (isT f (.ref a7) ∧ ((tg f a7 = some (.inl 29) → (tg f a7 = some (.inl 29) ∧ (rmF E f 1 1 ∧ ∀ (a15 : Nat) (f16 : RH), a15 = f.1 → f16 = fnew f 29 → (oc f16 a7 29 ∧ (∃ a17 : Nat, vl f16 a7 203 = .ref a17 ∧ (EvC l E w d MX5_rows [.int 45, .null, .int 0, .ref a17, .int 0] s f16 (fun o s18 f19 => KP o (fun r => ∃ a20 : Nat, r = some (.ref a20) ∧ (EvC l E w d MX32_init [.ref a15, .ref a20] s18 f19 (fun o s21 f22 => KP o (fun r => r = none ∧ (EvC l E w d MX3_give_2 [.ref (w.1 3), .ref a15, .int 1, .int x2] s21 f22 (fun o s23 f24 => KP o (fun r => r = none ∧ Q (.inl none) s23 f24) (fun k => Q (.inr k) s23 f24)))) (fun k => Q (.inr k) s21 f22)))) (fun k => Q (.inr k) s18 f19)))))))) ∧ (¬ tg f a7 = some (.inl 29) → (EvC l E w d MX5_tables [.int 45, .null, .int 0, .ref a7, .int 0] s f (fun o s25 f26 => KP o (fun r => ∃ a27 : Nat, r = some (.ref a27) ∧ (EvC l E w d MX3_give_2 [.ref (w.1 3), .ref a27, .int 1, .int x2] s25 f26 (fun o s28 f29 => KP o (fun r => r = none ∧ Q (.inl none) s28 f29) (fun k => Q (.inr k) s28 f29)))) (fun k => Q (.inr k) s25 f26))))))) ∧ (¬ x1 = 0 → (isT f (.ref a7) ∧ ((tg f a7 = some (.inl 29) → (tg f a7 = some (.inl 29) ∧ (rmF E f 1 1 ∧ ∀ (a31 : Nat) (f32 : RH), a31 = f.1 → f32 = fnew f 29 → (oc f32 a7 29 ∧ (∃ a33 : Nat, vl f32 a7 203 = .ref a33 ∧ (EvC l E w d MX5_rows [.int 317, .null, .int 0, .ref a33, .int 0] s f32 (fun o s34 f35 => KP o (fun r => ∃ a36 : Nat, r = some (.ref a36) ∧ (EvC l E w d MX32_init [.ref a31, .ref a36] s34 f35 (fun o s37 f38 => KP o (fun r => r = none ∧ (EvC l E w d MX3_give_2 [.ref (w.1 3), .ref a31, .int 1, .int x2] s37 f38 (fun o s39 f40 => KP o (fun r => r = none ∧ Q (.inl none) s39 f40) (fun k => Q (.inr k) s39 f40)))) (fun k => Q (.inr k) s37 f38)))) (fun k => Q (.inr k) s34 f35)))))))) ∧ (¬ tg f a7 = some (.inl 29) → (EvC l E w d MX5_tables [.int 317, .null, .int 0, .ref a7, .int 0] s f (fun o s41 f42 => KP o (fun r => ∃ a43 : Nat, r = some (.ref a43) ∧ (EvC l E w d MX3_give_2 [.ref (w.1 3), .ref a43, .int 1, .int x2] s41 f42 (fun o s44 f45 => KP o (fun r => r = none ∧ Q (.inl none) s44 f45) (fun k => Q (.inr k) s44 f45)))) (fun k => Q (.inr k) s41 f42)))))))))))))))) : EvC l E w (d + 1) MX5_one [.ref (w.1 5), .int x1, .int x2] s f Q :=
  EvC.of hst (by decide) (Nat.le_of_ble_eq_true rfl) (vX5_one_0  hT)
theorem vX5_rows_0 {l : Launch} {E : EN} {w : CO} {d : Nat} {s : CS} {f : RH} {Q : KO → CS → RH → Prop} {x1 : Int32} {x2 : Value} {x3 : Int32} {x4 : Value} {x5 : Int32} (ix2 : isR x2 = true) (ix4 : isR x4 = true) (hT : ((x2 = .null → (∃ a2 : Nat, x4 = .ref a2 ∧ (∃ t3 : Nat, tg f a2 = some (.inr t3) ∧ (∀ y4 : Int32, y4 = (nI (ln f a2)) → (¬ y4 < 0 ∧ y4.toNatClampNeg ≤ 60000000 ∧ rmF E f 1 y4.toNatClampNeg ∧ ∀ (a5 : Nat) (f6 : RH), a5 = f.1 → f6 = fnewA f 0 y4.toNatClampNeg → ExC l E w (d + 1) MX5_rows 22 [some (.int x1), some (.null), some (.int x3), some (.ref a2), some (.int x5), some (.int y4), some (.ref a5), some (.int 0)] [] s f6 Q))))) ∧ (∀ a1 : Nat, x2 = .ref a1 → (∃ t7 : Nat, tg f a1 = some (.inr t7) ∧ (∀ y8 : Int32, y8 = (nI (ln f a1)) → (¬ y8 < 0 ∧ y8.toNatClampNeg ≤ 60000000 ∧ rmF E f 1 y8.toNatClampNeg ∧ ∀ (a9 : Nat) (f10 : RH), a9 = f.1 → f10 = fnewA f 0 y8.toNatClampNeg → ExC l E w (d + 1) MX5_rows 22 [some (.int x1), some (.ref a1), some (.int x3), some (x4), some (.int x5), some (.int y8), some (.ref a9), some (.int 0)] [] s f10 Q)))))) : ExC l E w (d + 1) MX5_rows 0 [some (.int x1), some (x2), some (.int x3), some (x4), some (.int x5), none, none, none] [] s f Q := by
  intro f0 h hW hF
  refine x_aload_n dX5_rows_0 rfl rfl ix2 ?_
  refine x_ifnonnull (tgt := 9) dX5_rows_1 rfl ix2 (fun a1 e => ?_) (fun e => ?_)
  · subst e
    replace hT := hT.2 a1 rfl
    refine x_aload_n dX5_rows_9 rfl rfl rfl ?_
    obtain ⟨t7, hc, hT⟩ := hT
    refine c_alen dX5_rows_10 hc hW ?_
    obtain ⟨y8, ey8⟩ : ∃ z : Int32, z = (nI (ln f a1)) := ⟨_, rfl⟩
    replace hT := hT y8 ey8
    refine x_istore (lo' := [some (.int x1), some (.ref a1), some (.int x3), some (x4), some (.int x5), some (.int y8), none, none]) dX5_rows_11 (Nat.le_of_ble_eq_true rfl) (by rw [ey8]; exact rfl) ?_
    refine x_iload dX5_rows_13 rfl ?_
    obtain ⟨hn, hT⟩ := hT
    obtain ⟨hb, hr, hT⟩ := hT
    refine c_newarrayG (t := 0) dX5_rows_15 (by decide) rfl hn hb hr hW hF ?_
    intro a9 f10 ea9 ef10 h hW hF
    replace hT := hT a9 f10 ea9 ef10
    refine x_astore (lo' := [some (.int x1), some (.ref a1), some (.int x3), some (x4), some (.int x5), some (.int y8), some (.ref a9), none]) dX5_rows_17 (Nat.le_of_ble_eq_true rfl) rfl rfl ?_
    refine x_iconst (v := 0) dX5_rows_19 rfl ?_
    refine x_istore (lo' := [some (.int x1), some (.ref a1), some (.int x3), some (x4), some (.int x5), some (.int y8), some (.ref a9), some (.int 0)]) dX5_rows_20 (Nat.le_of_ble_eq_true rfl) rfl ?_
    exact hT f0 h hW hF
  · subst e
    replace hT := hT.1 rfl
    refine x_aload_n dX5_rows_4 rfl rfl ix4 ?_
    obtain ⟨a2, rfl, hT⟩ := hT
    obtain ⟨t3, hc, hT⟩ := hT
    refine c_alen dX5_rows_5 hc hW ?_
    refine x_goto (tgt := 11) dX5_rows_6 rfl ?_
    obtain ⟨y4, ey4⟩ : ∃ z : Int32, z = (nI (ln f a2)) := ⟨_, rfl⟩
    replace hT := hT y4 ey4
    refine x_istore (lo' := [some (.int x1), some (.null), some (.int x3), some (.ref a2), some (.int x5), some (.int y4), none, none]) dX5_rows_11 (Nat.le_of_ble_eq_true rfl) (by rw [ey4]; exact rfl) ?_
    refine x_iload dX5_rows_13 rfl ?_
    obtain ⟨hn, hT⟩ := hT
    obtain ⟨hb, hr, hT⟩ := hT
    refine c_newarrayG (t := 0) dX5_rows_15 (by decide) rfl hn hb hr hW hF ?_
    intro a5 f6 ea5 ef6 h hW hF
    replace hT := hT a5 f6 ea5 ef6
    refine x_astore (lo' := [some (.int x1), some (.null), some (.int x3), some (.ref a2), some (.int x5), some (.int y4), some (.ref a5), none]) dX5_rows_17 (Nat.le_of_ble_eq_true rfl) rfl rfl ?_
    refine x_iconst (v := 0) dX5_rows_19 rfl ?_
    refine x_istore (lo' := [some (.int x1), some (.null), some (.int x3), some (.ref a2), some (.int x5), some (.int y4), some (.ref a5), some (.int 0)]) dX5_rows_20 (Nat.le_of_ble_eq_true rfl) rfl ?_
    exact hT f0 h hW hF
theorem eX5_rows {l : Launch} {E : EN} {w : CO} {d : Nat} {s : CS} {f : RH} {Q : KO → CS → RH → Prop} {x1 : Int32} {x2 : Value} {x3 : Int32} {x4 : Value} {x5 : Int32} (ix2 : isR x2 = true) (ix4 : isR x4 = true) (hst : l.stackTraces = false) (hT : ((x2 = .null → (∃ a2 : Nat, x4 = .ref a2 ∧ (∃ t3 : Nat, tg f a2 = some (.inr t3) ∧ (∀ y4 : Int32, y4 = (nI (ln f a2)) → (¬ y4 < 0 ∧ y4.toNatClampNeg ≤ 60000000 ∧ rmF E f 1 y4.toNatClampNeg ∧ ∀ (a5 : Nat) (f6 : RH), a5 = f.1 → f6 = fnewA f 0 y4.toNatClampNeg → ExC l E w (d + 1) MX5_rows 22 [some (.int x1), some (.null), some (.int x3), some (.ref a2), some (.int x5), some (.int y4), some (.ref a5), some (.int 0)] [] s f6 Q))))) ∧ (∀ a1 : Nat, x2 = .ref a1 → (∃ t7 : Nat, tg f a1 = some (.inr t7) ∧ (∀ y8 : Int32, y8 = (nI (ln f a1)) → (¬ y8 < 0 ∧ y8.toNatClampNeg ≤ 60000000 ∧ rmF E f 1 y8.toNatClampNeg ∧ ∀ (a9 : Nat) (f10 : RH), a9 = f.1 → f10 = fnewA f 0 y8.toNatClampNeg → ExC l E w (d + 1) MX5_rows 22 [some (.int x1), some (.ref a1), some (.int x3), some (x4), some (.int x5), some (.int y8), some (.ref a9), some (.int 0)] [] s f10 Q)))))) : EvC l E w (d + 1) MX5_rows [.int x1, x2, .int x3, x4, .int x5] s f Q :=by
  rcases isR_cases ix2 with rfl | ⟨_, rfl⟩ <;> rcases isR_cases ix4 with rfl | ⟨_, rfl⟩ <;> exact
  
  EvC.of hst (by decide) (Nat.le_of_ble_eq_true rfl) (vX5_rows_0 ix2 ix4 hT)
set_option maxHeartbeats 16000000 in
theorem vX5_rows_22 {l : Launch} {E : EN} {w : CO} {d : Nat} {s : CS} {f : RH} {Q : KO → CS → RH → Prop} {b0 : Int32} {b1 : Value} {b2 : Int32} {b3 : Value} {b4 : Int32} {b5 : Int32} {b6 : Nat} {b7 : Int32} (ib1 : isR b1 = true) (ib3 : isR b3 = true) (hT : ((b5 ≤ b7 → Q (.inl (some (.ref b6))) s f) ∧ (¬ b5 ≤ b7 → ((b1 = .null → ((b3 = .null → (EvC l E w d MX5_of [.int b0, .int b2, .int b4] s f (fun o s13 f14 => KP o (fun r => ∃ v15 : Int32, r = some (.int v15) ∧ (tg f14 b6 = some (.inr 0) ∧ inB b7 (ln f14 b6) ∧ f14.2.2.2 ≤ b6 ∧ ∀ f16 : RH, f16 = fset f14 b6 b7.toNatClampNeg (.int v15) → ExC l E w (d + 1) MX5_rows 22 [some (.int b0), some (.null), some (.int b2), some (.null), some (.int b4), some (.int b5), some (.ref b6), some (.int (b7 + 1))] [] s13 f16 Q)) (fun k => Q (.inr k) s13 f14)))) ∧ (∀ a12 : Nat, b3 = .ref a12 → (tg f a12 = some (.inr 0) ∧ inB b7 (ln f a12) ∧ (∃ v17 : Int32, vl f a12 b7.toNatClampNeg = .int v17 ∧ (EvC l E w d MX5_of [.int b0, .int b2, .int v17] s f (fun o s18 f19 => KP o (fun r => ∃ v20 : Int32, r = some (.int v20) ∧ (tg f19 b6 = some (.inr 0) ∧ inB b7 (ln f19 b6) ∧ f19.2.2.2 ≤ b6 ∧ ∀ f21 : RH, f21 = fset f19 b6 b7.toNatClampNeg (.int v20) → ExC l E w (d + 1) MX5_rows 22 [some (.int b0), some (.null), some (.int b2), some (.ref a12), some (.int b4), some (.int b5), some (.ref b6), some (.int (b7 + 1))] [] s18 f21 Q)) (fun k => Q (.inr k) s18 f19)))))))) ∧ (∀ a11 : Nat, b1 = .ref a11 → (tg f a11 = some (.inr 0) ∧ inB b7 (ln f a11) ∧ (∃ v22 : Int32, vl f a11 b7.toNatClampNeg = .int v22 ∧ ((b3 = .null → (EvC l E w d MX5_of [.int b0, .int v22, .int b4] s f (fun o s24 f25 => KP o (fun r => ∃ v26 : Int32, r = some (.int v26) ∧ (tg f25 b6 = some (.inr 0) ∧ inB b7 (ln f25 b6) ∧ f25.2.2.2 ≤ b6 ∧ ∀ f27 : RH, f27 = fset f25 b6 b7.toNatClampNeg (.int v26) → ExC l E w (d + 1) MX5_rows 22 [some (.int b0), some (.ref a11), some (.int b2), some (.null), some (.int b4), some (.int b5), some (.ref b6), some (.int (b7 + 1))] [] s24 f27 Q)) (fun k => Q (.inr k) s24 f25)))) ∧ (∀ a23 : Nat, b3 = .ref a23 → (tg f a23 = some (.inr 0) ∧ inB b7 (ln f a23) ∧ (∃ v28 : Int32, vl f a23 b7.toNatClampNeg = .int v28 ∧ (EvC l E w d MX5_of [.int b0, .int v22, .int v28] s f (fun o s29 f30 => KP o (fun r => ∃ v31 : Int32, r = some (.int v31) ∧ (tg f30 b6 = some (.inr 0) ∧ inB b7 (ln f30 b6) ∧ f30.2.2.2 ≤ b6 ∧ ∀ f32 : RH, f32 = fset f30 b6 b7.toNatClampNeg (.int v31) → ExC l E w (d + 1) MX5_rows 22 [some (.int b0), some (.ref a11), some (.int b2), some (.ref a23), some (.int b4), some (.int b5), some (.ref b6), some (.int (b7 + 1))] [] s29 f32 Q)) (fun k => Q (.inr k) s29 f30)))))))))))))) : ExC l E w (d + 1) MX5_rows 22 [some (.int b0), some (b1), some (.int b2), some (b3), some (.int b4), some (.int b5), some (.ref b6), some (.int b7)] [] s f Q := by
  intro f0 h hW hF
  refine x_iload dX5_rows_22 rfl ?_
  refine x_iload dX5_rows_24 rfl ?_
  refine x_icmp_ge (tgt := 69) dX5_rows_26 rfl (fun c => ?_) (fun c => ?_)
  · replace hT := hT.1 c
    refine x_aload dX5_rows_69 rfl rfl ?_
    exact x_aret dX5_rows_71 rfl (by first | exact Or.inl ⟨_, rfl⟩ | exact Or.inr ⟨_, rfl⟩) rfl ⟨_, _, hW, hF, Or.inl ⟨_, rfl, hT⟩⟩
  · replace hT := hT.2 c
    refine x_aload dX5_rows_29 rfl rfl ?_
    refine x_iload dX5_rows_31 rfl ?_
    refine x_iload_n dX5_rows_33 rfl rfl ?_
    refine x_aload_n dX5_rows_34 rfl rfl ib1 ?_
    refine x_ifnonnull (tgt := 42) dX5_rows_35 rfl ib1 (fun a11 e => ?_) (fun e => ?_)
    · subst e
      replace hT := hT.2 a11 rfl
      refine x_aload_n dX5_rows_42 rfl rfl rfl ?_
      refine x_iload dX5_rows_43 rfl ?_
      obtain ⟨hc, hT⟩ := hT
      obtain ⟨hb, hT⟩ := hT
      obtain ⟨v22, ev, hT⟩ := hT
      refine c_fiald dX5_rows_45 hc hb hW ev ?_
      refine x_aload_n dX5_rows_46 rfl rfl ib3 ?_
      refine x_ifnonnull (tgt := 55) dX5_rows_47 rfl ib3 (fun a23 e => ?_) (fun e => ?_)
      · subst e
        replace hT := hT.2 a23 rfl
        refine x_aload_n dX5_rows_55 rfl rfl rfl ?_
        refine x_iload dX5_rows_56 rfl ?_
        obtain ⟨hc, hT⟩ := hT
        obtain ⟨hb, hT⟩ := hT
        obtain ⟨v28, ev, hT⟩ := hT
        refine c_fiald dX5_rows_58 hc hb hW ev ?_
        refine c_invS (vs := [.int b0, .int v22, .int v28]) dX5_rows_59 oX5_of q1393 (Or.inl q1392) rfl rfl (Nat.le_of_ble_eq_true rfl) rfl hW hF hT ?_ ?_
        · intro _ s29 f30 hT h hW hF
          obtain ⟨v31, rfl, hT⟩ := hT
          obtain ⟨hc, hT⟩ := hT
          obtain ⟨hb, hz, hT⟩ := hT
          refine c_fiastG dX5_rows_62 hc hb hz hW hF ?_
          intro f32 ef32 h hW hF
          replace hT := hT f32 ef32
          refine x_iinc (lo' := [some (.int b0), some (.ref a11), some (.int b2), some (.ref a23), some (.int b4), some (.int b5), some (.ref b6), some (.int (b7 + 1))]) dX5_rows_63 rfl (show _ = (b7 + 1) from rfl) rfl ?_
          refine x_goto (tgt := 22) dX5_rows_66 rfl ?_
          exact hT f0 h hW hF
        · intro k s29 f30 hT h a hW hx hF
          exact c_out (rfl) hW hx hF hT
      · subst e
        replace hT := hT.1 rfl
        refine x_iload dX5_rows_50 rfl ?_
        refine x_goto (tgt := 59) dX5_rows_52 rfl ?_
        refine c_invS (vs := [.int b0, .int v22, .int b4]) dX5_rows_59 oX5_of q1393 (Or.inl q1392) rfl rfl (Nat.le_of_ble_eq_true rfl) rfl hW hF hT ?_ ?_
        · intro _ s24 f25 hT h hW hF
          obtain ⟨v26, rfl, hT⟩ := hT
          obtain ⟨hc, hT⟩ := hT
          obtain ⟨hb, hz, hT⟩ := hT
          refine c_fiastG dX5_rows_62 hc hb hz hW hF ?_
          intro f27 ef27 h hW hF
          replace hT := hT f27 ef27
          refine x_iinc (lo' := [some (.int b0), some (.ref a11), some (.int b2), some (.null), some (.int b4), some (.int b5), some (.ref b6), some (.int (b7 + 1))]) dX5_rows_63 rfl (show _ = (b7 + 1) from rfl) rfl ?_
          refine x_goto (tgt := 22) dX5_rows_66 rfl ?_
          exact hT f0 h hW hF
        · intro k s24 f25 hT h a hW hx hF
          exact c_out (rfl) hW hx hF hT
    · subst e
      replace hT := hT.1 rfl
      refine x_iload_n dX5_rows_38 rfl rfl ?_
      refine x_goto (tgt := 46) dX5_rows_39 rfl ?_
      refine x_aload_n dX5_rows_46 rfl rfl ib3 ?_
      refine x_ifnonnull (tgt := 55) dX5_rows_47 rfl ib3 (fun a12 e => ?_) (fun e => ?_)
      · subst e
        replace hT := hT.2 a12 rfl
        refine x_aload_n dX5_rows_55 rfl rfl rfl ?_
        refine x_iload dX5_rows_56 rfl ?_
        obtain ⟨hc, hT⟩ := hT
        obtain ⟨hb, hT⟩ := hT
        obtain ⟨v17, ev, hT⟩ := hT
        refine c_fiald dX5_rows_58 hc hb hW ev ?_
        refine c_invS (vs := [.int b0, .int b2, .int v17]) dX5_rows_59 oX5_of q1393 (Or.inl q1392) rfl rfl (Nat.le_of_ble_eq_true rfl) rfl hW hF hT ?_ ?_
        · intro _ s18 f19 hT h hW hF
          obtain ⟨v20, rfl, hT⟩ := hT
          obtain ⟨hc, hT⟩ := hT
          obtain ⟨hb, hz, hT⟩ := hT
          refine c_fiastG dX5_rows_62 hc hb hz hW hF ?_
          intro f21 ef21 h hW hF
          replace hT := hT f21 ef21
          refine x_iinc (lo' := [some (.int b0), some (.null), some (.int b2), some (.ref a12), some (.int b4), some (.int b5), some (.ref b6), some (.int (b7 + 1))]) dX5_rows_63 rfl (show _ = (b7 + 1) from rfl) rfl ?_
          refine x_goto (tgt := 22) dX5_rows_66 rfl ?_
          exact hT f0 h hW hF
        · intro k s18 f19 hT h a hW hx hF
          exact c_out (rfl) hW hx hF hT
      · subst e
        replace hT := hT.1 rfl
        refine x_iload dX5_rows_50 rfl ?_
        refine x_goto (tgt := 59) dX5_rows_52 rfl ?_
        refine c_invS (vs := [.int b0, .int b2, .int b4]) dX5_rows_59 oX5_of q1393 (Or.inl q1392) rfl rfl (Nat.le_of_ble_eq_true rfl) rfl hW hF hT ?_ ?_
        · intro _ s13 f14 hT h hW hF
          obtain ⟨v15, rfl, hT⟩ := hT
          obtain ⟨hc, hT⟩ := hT
          obtain ⟨hb, hz, hT⟩ := hT
          refine c_fiastG dX5_rows_62 hc hb hz hW hF ?_
          intro f16 ef16 h hW hF
          replace hT := hT f16 ef16
          refine x_iinc (lo' := [some (.int b0), some (.null), some (.int b2), some (.null), some (.int b4), some (.int b5), some (.ref b6), some (.int (b7 + 1))]) dX5_rows_63 rfl (show _ = (b7 + 1) from rfl) rfl ?_
          refine x_goto (tgt := 22) dX5_rows_66 rfl ?_
          exact hT f0 h hW hF
        · intro k s13 f14 hT h a hW hx hF
          exact c_out (rfl) hW hx hF hT
