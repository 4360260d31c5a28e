/-! weakest preconditions of methods of the component: printed by wpc.py -/
set_option maxRecDepth 100000
theorem vX3_call_0 {l : Launch} {E : EN} {w : CO} {d : Nat} {s : CS} {f : RH} {Q : KO → CS → RH → Prop} {x1 : Nat} {x2 : Int32}  (hT : ((¬ (s.1 36) = 10 → (∀ y1 : Int32, y1 = (14 * (s.1 36)) → ExC l E w (d + 1) MX3_call 28 [some (.ref (w.1 3)), some (.ref x1), none, some (.int y1), some (.int 0)] [] s f Q)) ∧ ((s.1 36) = 10 → (EvC l E w d MX3_wrong [.ref (w.1 3), .int 8, .int x2] s f (fun o s2 f3 => KP o (fun r => r = some (.ref (w.1 9)) ∧ Q (.inr 9) s2 f3) (fun k => Q (.inr k) s2 f3)))))) : ExC l E w (d + 1) MX3_call 0 [some (.ref (w.1 3)), some (.ref x1), some (.int x2), none, none] [] s f Q := by
  intro f0 h hW hF
  refine x_aload_n dX3_call_0 rfl rfl rfl ?_
  refine c_getI (v := (s.1 36)) dX3_call_1 f_TallySlate_Machine_79 (by decide) (by decide) rfl hW rfl ?_
  refine x_bipush (v := 10) dX3_call_4 rfl ?_
  refine x_icmp_ne (tgt := 17) dX3_call_6 rfl (fun c => ?_) (fun c => ?_)
  · replace hT := hT.1 c
    refine x_bipush (v := 14) dX3_call_17 rfl ?_
    refine x_aload_n dX3_call_19 rfl rfl rfl ?_
    refine c_getI (v := (s.1 36)) dX3_call_20 f_TallySlate_Machine_79 (by decide) (by decide) rfl hW rfl ?_
    refine x_imul dX3_call_23 ?_
    obtain ⟨y1, ey1⟩ : ∃ z : Int32, z = (14 * (s.1 36)) := ⟨_, rfl⟩
    replace hT := hT y1 ey1
    refine x_istore_n (lo' := [some (.ref (w.1 3)), some (.ref x1), some (.int x2), some (.int y1), none]) dX3_call_24 rfl (Nat.le_of_ble_eq_true rfl) (by rw [ey1]; exact rfl) ?_
    refine x_iconst (v := 0) dX3_call_25 rfl ?_
    refine x_istore (lo' := [some (.ref (w.1 3)), some (.ref x1), some (.int x2), some (.int y1), some (.int 0)]) dX3_call_26 (Nat.le_of_ble_eq_true rfl) rfl ?_
    refine Ex.wkl (lo' := [some (.ref (w.1 3)), some (.ref x1), none, some (.int y1), some (.int 0)]) ⟨rfl, rfl, rfl, rfl, trivial⟩ ?_
    exact hT f0 h hW hF
  · replace hT := hT.2 c
    refine x_aload_n dX3_call_9 rfl rfl rfl ?_
    refine x_bipush (v := 8) dX3_call_10 rfl ?_
    refine x_iload_n dX3_call_12 rfl rfl ?_
    obtain ⟨-, -, cc, hcc, -⟩ := hW.ob 3 (by decide)
    refine c_invV (vs := [.int 8, .int x2]) dX3_call_13 oX3_wrong q1323 q1322 hcc q1324 (Or.inl rfl) rfl rfl (Nat.le_of_ble_eq_true rfl) rfl hW hF hT ?_ ?_
    · intro _ s2 f3 hT h hW hF
      obtain ⟨rfl, hT⟩ := hT
      refine x_athrow dX3_call_16 ?_
      exact c_out (rfl) hW (Or.inl ⟨rfl, rfl⟩) hF hT
    · intro k s2 f3 hT h a hW hx hF
      exact c_out (rfl) hW hx hF hT
theorem eX3_call {l : Launch} {E : EN} {w : CO} {d : Nat} {s : CS} {f : RH} {Q : KO → CS → RH → Prop} {x1 : Nat} {x2 : Int32}  (hst : l.stackTraces = false) (hT : ((¬ (s.1 36) = 10 → (∀ y1 : Int32, y1 = (14 * (s.1 36)) → ExC l E w (d + 1) MX3_call 28 [some (.ref (w.1 3)), some (.ref x1), none, some (.int y1), some (.int 0)] [] s f Q)) ∧ ((s.1 36) = 10 → (EvC l E w d MX3_wrong [.ref (w.1 3), .int 8, .int x2] s f (fun o s2 f3 => KP o (fun r => r = some (.ref (w.1 9)) ∧ Q (.inr 9) s2 f3) (fun k => Q (.inr k) s2 f3)))))) : EvC l E w (d + 1) MX3_call [.ref (w.1 3), .ref x1, .int x2] s f Q :=
  EvC.of hst (by decide) (Nat.le_of_ble_eq_true rfl) (vX3_call_0  hT)
theorem vX3_call_28 {l : Launch} {E : EN} {w : CO} {d : Nat} {s : CS} {f : RH} {Q : KO → CS → RH → Prop} {b1 : Nat} {b3 : Int32} {b4 : Int32}  (hT : (oc f b1 12 ∧ (∃ v4 : Int32, vl f b1 156 = .int v4 ∧ ((v4 ≤ b4 → (oc f b1 12 ∧ (∃ v5 : Int32, vl f b1 155 = .int v5 ∧ (∀ y6 : Int32, y6 = (v5 - 1) → ExC l E w (d + 1) MX3_call 74 [some (.ref (w.1 3)), some (.ref b1), none, some (.int b3), some (.int y6)] [] s f Q)))) ∧ (¬ v4 ≤ b4 → (oc f b1 12 ∧ (∃ v7 : Int32, vl f b1 155 = .int v7 ∧ ((v7 ≤ b4 → (inB (b3 + b4) 140 ∧ ExC l E w (d + 1) MX3_call 28 [some (.ref (w.1 3)), some (.ref b1), none, some (.int b3), some (.int (b4 + 1))] [] (uA s 29 (b3 + b4).toNatClampNeg 0) f Q)) ∧ (¬ v7 ≤ b4 → (inB (b3 + b4) 140 ∧ ExC l E w (d + 1) MX3_call 28 [some (.ref (w.1 3)), some (.ref b1), none, some (.int b3), some (.int (b4 + 1))] [] (uA s 29 (b3 + b4).toNatClampNeg 1) f Q)))))))))) : ExC l E w (d + 1) MX3_call 28 [some (.ref (w.1 3)), some (.ref b1), none, some (.int b3), some (.int b4)] [] s f Q := by
  intro f0 h hW hF
  refine x_iload dX3_call_28 rfl ?_
  refine x_aload_n dX3_call_30 rfl rfl rfl ?_
  obtain ⟨hc, hT⟩ := hT
  obtain ⟨v4, ev, hT⟩ := hT
  refine c_fgetG dX3_call_31 f_TallySlate_Machine_175 hc (by decide) (by decide) hW ev ?_
  refine x_icmp_ge (tgt := 66) dX3_call_34 rfl (fun c => ?_) (fun c => ?_)
  · replace hT := hT.1 c
    refine x_aload_n dX3_call_66 rfl rfl rfl ?_
    obtain ⟨hc, hT⟩ := hT
    obtain ⟨v5, ev, hT⟩ := hT
    refine c_fgetG dX3_call_67 f_TallySlate_Machine_180 hc (by decide) (by decide) hW ev ?_
    refine x_iconst (v := 1) dX3_call_70 rfl ?_
    refine x_isub dX3_call_71 ?_
    obtain ⟨y6, ey6⟩ : ∃ z : Int32, z = (v5 - 1) := ⟨_, rfl⟩
    replace hT := hT y6 ey6
    refine x_istore (lo' := [some (.ref (w.1 3)), some (.ref b1), none, some (.int b3), some (.int y6)]) dX3_call_72 (Nat.le_of_ble_eq_true rfl) (by rw [ey6]; exact rfl) ?_
    exact hT f0 h hW hF
  · replace hT := hT.2 c
    refine x_aload_n dX3_call_37 rfl rfl rfl ?_
    refine c_getA dX3_call_38 f_TallySlate_Machine_27 (by decide) (by decide) rfl hW ?_
    refine x_iload_n dX3_call_41 rfl rfl ?_
    refine x_iload dX3_call_42 rfl ?_
    refine x_iadd dX3_call_44 ?_
    refine x_iload dX3_call_45 rfl ?_
    refine x_aload_n dX3_call_47 rfl rfl rfl ?_
    obtain ⟨hc, hT⟩ := hT
    obtain ⟨v7, ev, hT⟩ := hT
    refine c_fgetG dX3_call_48 f_TallySlate_Machine_180 hc (by decide) (by decide) hW ev ?_
    refine x_icmp_ge (tgt := 58) dX3_call_51 rfl (fun c => ?_) (fun c => ?_)
    · replace hT := hT.1 c
      refine x_iconst (v := 0) dX3_call_58 rfl ?_
      obtain ⟨hb, hT⟩ := hT
      refine c_zast dX3_call_59 rfl hb rfl hW ?_
      intro h hW
      refine x_iinc (lo' := [some (.ref (w.1 3)), some (.ref b1), none, some (.int b3), some (.int (b4 + 1))]) dX3_call_60 rfl (show _ = (b4 + 1) from rfl) rfl ?_
      refine x_goto (tgt := 28) dX3_call_63 rfl ?_
      exact hT f0 h hW hF
    · replace hT := hT.2 c
      refine x_iconst (v := 1) dX3_call_54 rfl ?_
      refine x_goto (tgt := 59) dX3_call_55 rfl ?_
      obtain ⟨hb, hT⟩ := hT
      refine c_zast dX3_call_59 rfl hb rfl hW ?_
      intro h hW
      refine x_iinc (lo' := [some (.ref (w.1 3)), some (.ref b1), none, some (.int b3), some (.int (b4 + 1))]) dX3_call_60 rfl (show _ = (b4 + 1) from rfl) rfl ?_
      refine x_goto (tgt := 28) dX3_call_63 rfl ?_
      exact hT f0 h hW hF
set_option maxHeartbeats 16000000 in
theorem vX3_call_74 {l : Launch} {E : EN} {w : CO} {d : Nat} {s : CS} {f : RH} {Q : KO → CS → RH → Prop} {b1 : Nat} {b3 : Int32} {b4 : Int32}  (hT : ((b4 < 0 → (oc f b1 12 ∧ (∃ a8 : Nat, vl f b1 158 = .ref a8 ∧ (oc f a8 13 ∧ EvC l E w d MX13_act [.ref a8, .ref (w.1 3)] (uI (uI s 36 ((s.1 36) + 1)) 37 (if (s.1 37) < ((s.1 36) + 1) then ((s.1 36) + 1) else (s.1 37))) f (fun o s9 f10 => KP o (fun r => ∃ v11 : Int32, r = some (.int v11) ∧ ((¬ v11 = 0 → Q (.inl none) (uI s9 36 ((s9.1 36) - 1)) f10) ∧ (v11 = 0 → (EvC l E w d MX3_push [.ref (w.1 3), .int 0] s9 f10 (fun o s12 f13 => KP o (fun r => r = none ∧ Q (.inl none) (uI s12 36 ((s12.1 36) - 1)) f13) (fun k => Q (.inr k) s12 f13)))))) (fun k => Q (.inr k) s9 f10)))))) ∧ (¬ b4 < 0 → (inB ((s.1 26) - 1) 8400 ∧ (inB (b3 + b4) 140 ∧ (inB ((s.1 26) - 1) 8400 ∧ ∃ v15 : Value, (s.2.2.2 25 ((s.1 26) - 1).toNatClampNeg) = v15 ∧ isR v15 = true ∧ (inB (b3 + b4) 140 ∧ isT f v15 ∧ ExC l E w (d + 1) MX3_call 74 [some (.ref (w.1 3)), some (.ref b1), none, some (.int b3), some (.int (b4 + (-1)))] [] (uT (uA (uI s 26 ((s.1 26) - 1)) 27 (b3 + b4).toNatClampNeg (s.2.2.1 24 ((s.1 26) - 1).toNatClampNeg)) 28 (b3 + b4).toNatClampNeg v15) f Q))))))) : ExC l E w (d + 1) MX3_call 74 [some (.ref (w.1 3)), some (.ref b1), none, some (.int b3), some (.int b4)] [] s f Q := by
  intro f0 h hW hF
  refine x_iload dX3_call_74 rfl ?_
  refine x_if_lt (tgt := 131) dX3_call_76 rfl (fun c => ?_) (fun c => ?_)
  · replace hT := hT.1 c
    refine x_aload_n dX3_call_131 rfl rfl rfl ?_
    refine x_dup dX3_call_132 rfl ?_
    refine c_getI (v := (s.1 36)) dX3_call_133 f_TallySlate_Machine_79 (by decide) (by decide) rfl hW rfl ?_
    refine x_iconst (v := 1) dX3_call_136 rfl ?_
    refine x_iadd dX3_call_137 ?_
    refine c_putI dX3_call_138 f_TallySlate_Machine_79 (by decide) (by decide) rfl rfl rfl rfl hW ?_
    intro h hW
    refine x_aload_n dX3_call_141 rfl rfl rfl ?_
    refine x_aload_n dX3_call_142 rfl rfl rfl ?_
    refine c_getI (v := (s.1 37)) dX3_call_143 f_TallySlate_Machine_82 (by decide) (by decide) rfl hW rfl ?_
    refine x_aload_n dX3_call_146 rfl rfl rfl ?_
    refine c_getI (v := ((s.1 36) + 1)) dX3_call_147 f_TallySlate_Machine_79 (by decide) (by decide) rfl hW rfl ?_
    refine x_mmax dX3_call_150 q1326 q669 q181 mq_max (Nat.le_of_ble_eq_true rfl) rfl ?_
    refine c_putI dX3_call_153 f_TallySlate_Machine_82 (by decide) (by decide) rfl rfl rfl rfl hW ?_
    intro h hW
    refine x_aload_n dX3_call_156 rfl rfl rfl ?_
    obtain ⟨hc, hT⟩ := hT
    obtain ⟨a8, ev, hT⟩ := hT
    refine c_fgetG dX3_call_157 f_TallySlate_Machine_188 hc (by decide) (by decide) hW ev ?_
    refine x_aload_n dX3_call_160 rfl rfl rfl ?_
    obtain ⟨hc, hT⟩ := hT
    obtain ⟨cc, hcc⟩ := hW.ocell hc
    refine c_invV (vs := [.ref (w.1 3)]) dX3_call_161 oX13_act q1328 q1327 hcc q1329 (Or.inl rfl) rfl rfl (Nat.le_of_ble_eq_true rfl) rfl hW hF hT ?_ ?_
    · intro _ s9 f10 hT h hW hF
      obtain ⟨v11, rfl, hT⟩ := hT
      refine x_if_ne (tgt := 172) dX3_call_164 rfl (fun c => ?_) (fun c => ?_)
      · replace hT := hT.1 c
        refine x_aload_n dX3_call_172 rfl rfl rfl ?_
        refine x_dup dX3_call_173 rfl ?_
        refine c_getI (v := (s9.1 36)) dX3_call_174 f_TallySlate_Machine_79 (by decide) (by decide) rfl hW rfl ?_
        refine x_iconst (v := 1) dX3_call_177 rfl ?_
        refine x_isub dX3_call_178 ?_
        refine c_putI dX3_call_179 f_TallySlate_Machine_79 (by decide) (by decide) rfl rfl rfl rfl hW ?_
        intro h hW
        exact x_vret dX3_call_182 rfl ⟨_, _, hW, hF, Or.inl ⟨_, rfl, hT⟩⟩
      · replace hT := hT.2 c
        refine x_aload_n dX3_call_167 rfl rfl rfl ?_
        refine x_iconst (v := 0) dX3_call_168 rfl ?_
        obtain ⟨-, -, cc, hcc, -⟩ := hW.ob 3 (by decide)
        refine c_invV (vs := [.int 0]) dX3_call_169 oX3_push q1364 q1363 hcc q1365 (Or.inl rfl) rfl rfl (Nat.le_of_ble_eq_true rfl) rfl hW hF hT ?_ ?_
        · intro _ s12 f13 hT h hW hF
          obtain ⟨rfl, hT⟩ := hT
          refine x_aload_n dX3_call_172 rfl rfl rfl ?_
          refine x_dup dX3_call_173 rfl ?_
          refine c_getI (v := (s12.1 36)) dX3_call_174 f_TallySlate_Machine_79 (by decide) (by decide) rfl hW rfl ?_
          refine x_iconst (v := 1) dX3_call_177 rfl ?_
          refine x_isub dX3_call_178 ?_
          refine c_putI dX3_call_179 f_TallySlate_Machine_79 (by decide) (by decide) rfl rfl rfl rfl hW ?_
          intro h hW
          exact x_vret dX3_call_182 rfl ⟨_, _, hW, hF, Or.inl ⟨_, rfl, hT⟩⟩
        · intro k s12 f13 hT h a hW hx hF
          exact c_out (rfl) hW hx hF hT
    · intro k s9 f10 hT h a hW hx hF
      exact c_out (rfl) hW hx hF hT
  · replace hT := hT.2 c
    refine x_aload_n dX3_call_79 rfl rfl rfl ?_
    refine x_dup dX3_call_80 rfl ?_
    refine c_getI (v := (s.1 26)) dX3_call_81 f_TallySlate_Machine_75 (by decide) (by decide) rfl hW rfl ?_
    refine x_iconst (v := 1) dX3_call_84 rfl ?_
    refine x_isub dX3_call_85 ?_
    refine c_putI dX3_call_86 f_TallySlate_Machine_75 (by decide) (by decide) rfl rfl rfl rfl hW ?_
    intro h hW
    refine x_aload_n dX3_call_89 rfl rfl rfl ?_
    refine c_getA dX3_call_90 f_TallySlate_Machine_21 (by decide) (by decide) rfl hW ?_
    refine x_iload_n dX3_call_93 rfl rfl ?_
    refine x_iload dX3_call_94 rfl ?_
    refine x_iadd dX3_call_96 ?_
    refine x_aload_n dX3_call_97 rfl rfl rfl ?_
    refine c_getA dX3_call_98 f_TallySlate_Machine_9 (by decide) (by decide) rfl hW ?_
    refine x_aload_n dX3_call_101 rfl rfl rfl ?_
    refine c_getI (v := ((s.1 26) - 1)) dX3_call_102 f_TallySlate_Machine_75 (by decide) (by decide) rfl hW rfl ?_
    obtain ⟨hb, hT⟩ := hT
    refine c_iald (v := (s.2.2.1 24 ((s.1 26) - 1).toNatClampNeg)) dX3_call_105 rfl hb hW rfl ?_
    obtain ⟨hb, hT⟩ := hT
    refine c_iast dX3_call_106 rfl hb hW ?_
    intro h hW
    refine x_aload_n dX3_call_107 rfl rfl rfl ?_
    refine c_getA dX3_call_108 f_TallySlate_Machine_24 (by decide) (by decide) rfl hW ?_
    refine x_iload_n dX3_call_111 rfl rfl ?_
    refine x_iload dX3_call_112 rfl ?_
    refine x_iadd dX3_call_114 ?_
    refine x_aload_n dX3_call_115 rfl rfl rfl ?_
    refine c_getA dX3_call_116 f_TallySlate_Machine_17 (by decide) (by decide) rfl hW ?_
    refine x_aload_n dX3_call_119 rfl rfl rfl ?_
    refine c_getI (v := ((s.1 26) - 1)) dX3_call_120 f_TallySlate_Machine_75 (by decide) (by decide) rfl hW rfl ?_
    obtain ⟨hb, v15, ev, iv15, hT⟩ := hT
    refine c_aald (v := v15) dX3_call_123 rfl hb hW ev ?_
    obtain ⟨hb, ht, hT⟩ := hT
    refine c_aast dX3_call_124 rfl hb ht hW ?_
    intro h hW
    refine x_iinc (lo' := [some (.ref (w.1 3)), some (.ref b1), none, some (.int b3), some (.int (b4 + (-1)))]) dX3_call_125 rfl (show _ = (b4 + (-1)) from rfl) rfl ?_
    refine x_goto (tgt := 74) dX3_call_128 rfl ?_
    exact hT f0 h hW hF
theorem vX3_wrong_0 {l : Launch} {E : EN} {w : CO} {d : Nat} {s : CS} {f : RH} {Q : KO → CS → RH → Prop} {x1 : Int32} {x2 : Int32}  (hT : Q (.inl (some (.ref (w.1 9)))) (uI (uI (uI s 54 x1) 55 x2) 56 0) f) : ExC l E w d MX3_wrong 0 [some (.ref (w.1 3)), some (.int x1), some (.int x2)] [] s f Q := by
  intro f0 h hW hF
  refine x_aload_n dX3_wrong_0 rfl rfl rfl ?_
  refine c_getO dX3_wrong_1 f_TallySlate_Machine_71 (by decide) (by decide) rfl hW ?_
  refine x_iload_n dX3_wrong_4 rfl rfl ?_
  refine c_putI dX3_wrong_5 f_TallySlate_Machine_100 (by decide) (by decide) rfl rfl rfl rfl hW ?_
  intro h hW
  refine x_aload_n dX3_wrong_8 rfl rfl rfl ?_
  refine c_getO dX3_wrong_9 f_TallySlate_Machine_71 (by decide) (by decide) rfl hW ?_
  refine x_iload_n dX3_wrong_12 rfl rfl ?_
  refine c_putI dX3_wrong_13 f_TallySlate_Machine_103 (by decide) (by decide) rfl rfl rfl rfl hW ?_
  intro h hW
  refine x_aload_n dX3_wrong_16 rfl rfl rfl ?_
  refine c_getO dX3_wrong_17 f_TallySlate_Machine_71 (by decide) (by decide) rfl hW ?_
  refine x_iconst (v := 0) dX3_wrong_20 rfl ?_
  refine c_putI dX3_wrong_21 f_TallySlate_Machine_106 (by decide) (by decide) rfl rfl rfl rfl hW ?_
  intro h hW
  refine x_aload_n dX3_wrong_24 rfl rfl rfl ?_
  refine c_getO dX3_wrong_25 f_TallySlate_Machine_71 (by decide) (by decide) rfl hW ?_
  exact x_aret dX3_wrong_28 rfl (by first | exact Or.inl ⟨_, rfl⟩ | exact Or.inr ⟨_, rfl⟩) rfl ⟨_, _, hW, hF, Or.inl ⟨_, rfl, hT⟩⟩
theorem eX3_wrong {l : Launch} {E : EN} {w : CO} {d : Nat} {s : CS} {f : RH} {Q : KO → CS → RH → Prop} {x1 : Int32} {x2 : Int32}  (hst : l.stackTraces = false) (hT : Q (.inl (some (.ref (w.1 9)))) (uI (uI (uI s 54 x1) 55 x2) 56 0) f) : EvC l E w d MX3_wrong [.ref (w.1 3), .int x1, .int x2] s f Q :=
  EvC.of hst (by decide) (Nat.le_of_ble_eq_true rfl) (vX3_wrong_0  hT)
theorem vX3_step_0 {l : Launch} {E : EN} {w : CO} {d : Nat} {s : CS} {f : RH} {Q : KO → CS → RH → Prop} {x1 : Int32}  (hT : ((¬ (s.1 38) = (s.1 39) → Q (.inl none) (uI s 38 ((s.1 38) + 1)) f) ∧ ((s.1 38) = (s.1 39) → (EvC l E w d MX3_wrong [.ref (w.1 3), .int 10, .int x1] s f (fun o s1 f2 => KP o (fun r => r = some (.ref (w.1 9)) ∧ Q (.inr 9) s1 f2) (fun k => Q (.inr k) s1 f2)))))) : ExC l E w (d + 1) MX3_step 0 [some (.ref (w.1 3)), some (.int x1)] [] s f Q := by
  intro f0 h hW hF
  refine x_aload_n dX3_step_0 rfl rfl rfl ?_
  refine c_getI (v := (s.1 38)) dX3_step_1 f_TallySlate_Machine_85 (by decide) (by decide) rfl hW rfl ?_
  refine x_aload_n dX3_step_4 rfl rfl rfl ?_
  refine c_getI (v := (s.1 39)) dX3_step_5 f_TallySlate_Machine_88 (by decide) (by decide) rfl hW rfl ?_
  refine x_icmp_ne (tgt := 19) dX3_step_8 rfl (fun c => ?_) (fun c => ?_)
  · replace hT := hT.1 c
    refine x_aload_n dX3_step_19 rfl rfl rfl ?_
    refine x_dup dX3_step_20 rfl ?_
    refine c_getI (v := (s.1 38)) dX3_step_21 f_TallySlate_Machine_85 (by decide) (by decide) rfl hW rfl ?_
    refine x_iconst (v := 1) dX3_step_24 rfl ?_
    refine x_iadd dX3_step_25 ?_
    refine c_putI dX3_step_26 f_TallySlate_Machine_85 (by decide) (by decide) rfl rfl rfl rfl hW ?_
    intro h hW
    exact x_vret dX3_step_29 rfl ⟨_, _, hW, hF, Or.inl ⟨_, rfl, hT⟩⟩
  · replace hT := hT.2 c
    refine x_aload_n dX3_step_11 rfl rfl rfl ?_
    refine x_bipush (v := 10) dX3_step_12 rfl ?_
    refine x_iload_n dX3_step_14 rfl rfl ?_
    obtain ⟨-, -, cc, hcc, -⟩ := hW.ob 3 (by decide)
    refine c_invV (vs := [.int 10, .int x1]) dX3_step_15 oX3_wrong q1323 q1322 hcc q1324 (Or.inl rfl) rfl rfl (Nat.le_of_ble_eq_true rfl) rfl hW hF hT ?_ ?_
    · intro _ s1 f2 hT h hW hF
      obtain ⟨rfl, hT⟩ := hT
      refine x_athrow dX3_step_18 ?_
      exact c_out (rfl) hW (Or.inl ⟨rfl, rfl⟩) hF hT
    · intro k s1 f2 hT h a hW hx hF
      exact c_out (rfl) hW hx hF hT
theorem eX3_step {l : Launch} {E : EN} {w : CO} {d : Nat} {s : CS} {f : RH} {Q : KO → CS → RH → Prop} {x1 : Int32}  (hst : l.stackTraces = false) (hT : ((¬ (s.1 38) = (s.1 39) → Q (.inl none) (uI s 38 ((s.1 38) + 1)) f) ∧ ((s.1 38) = (s.1 39) → (EvC l E w d MX3_wrong [.ref (w.1 3), .int 10, .int x1] s f (fun o s1 f2 => KP o (fun r => r = some (.ref (w.1 9)) ∧ Q (.inr 9) s1 f2) (fun k => Q (.inr k) s1 f2)))))) : EvC l E w (d + 1) MX3_step [.ref (w.1 3), .int x1] s f Q :=
  EvC.of hst (by decide) (Nat.le_of_ble_eq_true rfl) (vX3_step_0  hT)
set_option maxHeartbeats 16000000 in
theorem vX3_value_0 {l : Launch} {E : EN} {w : CO} {d : Nat} {s : CS} {f : RH} {Q : KO → CS → RH → Prop} {x1 : Int32} {x2 : Int32}  (hT : ((8 ≤ x1 → (∀ y1 : Int32, y1 = (((14 * ((s.1 36) - 1)) + x1) - 8) → (inB y1 140 ∧ ((¬ (s.2.2.1 29 y1.toNatClampNeg) = 0 → (inB y1 140 ∧ (EvC l E w d MX3_push [.ref (w.1 3), .int (s.2.2.1 27 y1.toNatClampNeg)] s f (fun o s2 f3 => KP o (fun r => r = none ∧ (inB y1 140 ∧ ∃ v4 : Value, (s2.2.2.2 28 y1.toNatClampNeg) = v4 ∧ isR v4 = true ∧ (inB ((s2.1 26) - 1) 8400 ∧ isT f3 v4 ∧ Q (.inl none) (uT s2 25 ((s2.1 26) - 1).toNatClampNeg v4) f3))) (fun k => Q (.inr k) s2 f3))))) ∧ ((s.2.2.1 29 y1.toNatClampNeg) = 0 → (EvC l E w d MX3_wrong [.ref (w.1 3), .int 7, .int x2] s f (fun o s5 f6 => KP o (fun r => r = some (.ref (w.1 9)) ∧ Q (.inr 9) s5 f6) (fun k => Q (.inr k) s5 f6)))))))) ∧ (¬ 8 ≤ x1 → (inB x1 8 ∧ ((¬ (s.2.2.1 46 x1.toNatClampNeg) = 0 → (inB x1 8 ∧ (EvC l E w d MX3_push [.ref (w.1 3), .int (s.2.2.1 42 x1.toNatClampNeg)] s f (fun o s7 f8 => KP o (fun r => r = none ∧ (inB x1 8 ∧ ∃ v9 : Value, (s7.2.2.2 44 x1.toNatClampNeg) = v9 ∧ isR v9 = true ∧ (inB ((s7.1 26) - 1) 8400 ∧ isT f8 v9 ∧ Q (.inl none) (uT s7 25 ((s7.1 26) - 1).toNatClampNeg v9) f8))) (fun k => Q (.inr k) s7 f8))))) ∧ ((s.2.2.1 46 x1.toNatClampNeg) = 0 → (EvC l E w d MX3_wrong [.ref (w.1 3), .int 7, .int x2] s f (fun o s10 f11 => KP o (fun r => r = some (.ref (w.1 9)) ∧ Q (.inr 9) s10 f11) (fun k => Q (.inr k) s10 f11))))))))) : ExC l E w (d + 1) MX3_value 0 [some (.ref (w.1 3)), some (.int x1), some (.int x2), none] [] s f Q := by
  intro f0 h hW hF
  refine x_iload_n dX3_value_0 rfl rfl ?_
  refine x_bipush (v := 8) dX3_value_1 rfl ?_
  refine x_icmp_ge (tgt := 60) dX3_value_3 rfl (fun c => ?_) (fun c => ?_)
  · replace hT := hT.1 c
    refine x_bipush (v := 14) dX3_value_60 rfl ?_
    refine x_aload_n dX3_value_62 rfl rfl rfl ?_
    refine c_getI (v := (s.1 36)) dX3_value_63 f_TallySlate_Machine_79 (by decide) (by decide) rfl hW rfl ?_
    refine x_iconst (v := 1) dX3_value_66 rfl ?_
    refine x_isub dX3_value_67 ?_
    refine x_imul dX3_value_68 ?_
    refine x_iload_n dX3_value_69 rfl rfl ?_
    refine x_iadd dX3_value_70 ?_
    refine x_bipush (v := 8) dX3_value_71 rfl ?_
    refine x_isub dX3_value_73 ?_
    obtain ⟨y1, ey1⟩ : ∃ z : Int32, z = (((14 * ((s.1 36) - 1)) + x1) - 8) := ⟨_, rfl⟩
    replace hT := hT y1 ey1
    refine x_istore_n (lo' := [some (.ref (w.1 3)), some (.int x1), some (.int x2), some (.int y1)]) dX3_value_74 rfl (Nat.le_of_ble_eq_true rfl) (by rw [ey1]; exact rfl) ?_
    refine x_aload_n dX3_value_75 rfl rfl rfl ?_
    refine c_getA dX3_value_76 f_TallySlate_Machine_27 (by decide) (by decide) rfl hW ?_
    refine x_iload_n dX3_value_79 rfl rfl ?_
    obtain ⟨hb, hT⟩ := hT
    refine c_bald (v := (s.2.2.1 29 y1.toNatClampNeg)) dX3_value_80 rfl (by decide) hb hW rfl ?_
    refine x_if_ne (tgt := 92) dX3_value_81 rfl (fun c => ?_) (fun c => ?_)
    · replace hT := hT.1 c
      refine x_aload_n dX3_value_92 rfl rfl rfl ?_
      refine x_aload_n dX3_value_93 rfl rfl rfl ?_
      refine c_getA dX3_value_94 f_TallySlate_Machine_21 (by decide) (by decide) rfl hW ?_
      refine x_iload_n dX3_value_97 rfl rfl ?_
      obtain ⟨hb, hT⟩ := hT
      refine c_iald (v := (s.2.2.1 27 y1.toNatClampNeg)) dX3_value_98 rfl hb hW rfl ?_
      obtain ⟨-, -, cc, hcc, -⟩ := hW.ob 3 (by decide)
      refine c_invV (vs := [.int (s.2.2.1 27 y1.toNatClampNeg)]) dX3_value_99 oX3_push q1364 q1363 hcc q1365 (Or.inl rfl) rfl rfl (Nat.le_of_ble_eq_true rfl) rfl hW hF hT ?_ ?_
      · intro _ s2 f3 hT h hW hF
        obtain ⟨rfl, hT⟩ := hT
        refine x_aload_n dX3_value_102 rfl rfl rfl ?_
        refine c_getA dX3_value_103 f_TallySlate_Machine_17 (by decide) (by decide) rfl hW ?_
        refine x_aload_n dX3_value_106 rfl rfl rfl ?_
        refine c_getI (v := (s2.1 26)) dX3_value_107 f_TallySlate_Machine_75 (by decide) (by decide) rfl hW rfl ?_
        refine x_iconst (v := 1) dX3_value_110 rfl ?_
        refine x_isub dX3_value_111 ?_
        refine x_aload_n dX3_value_112 rfl rfl rfl ?_
        refine c_getA dX3_value_113 f_TallySlate_Machine_24 (by decide) (by decide) rfl hW ?_
        refine x_iload_n dX3_value_116 rfl rfl ?_
        obtain ⟨hb, v4, ev, iv4, hT⟩ := hT
        refine c_aald (v := v4) dX3_value_117 rfl hb hW ev ?_
        obtain ⟨hb, ht, hT⟩ := hT
        refine c_aast dX3_value_118 rfl hb ht hW ?_
        intro h hW
        exact x_vret dX3_value_119 rfl ⟨_, _, hW, hF, Or.inl ⟨_, rfl, hT⟩⟩
      · intro k s2 f3 hT h a hW hx hF
        exact c_out (rfl) hW hx hF hT
    · replace hT := hT.2 c
      refine x_aload_n dX3_value_84 rfl rfl rfl ?_
      refine x_bipush (v := 7) dX3_value_85 rfl ?_
      refine x_iload_n dX3_value_87 rfl rfl ?_
      obtain ⟨-, -, cc, hcc, -⟩ := hW.ob 3 (by decide)
      refine c_invV (vs := [.int 7, .int x2]) dX3_value_88 oX3_wrong q1323 q1322 hcc q1324 (Or.inl rfl) rfl rfl (Nat.le_of_ble_eq_true rfl) rfl hW hF hT ?_ ?_
      · intro _ s5 f6 hT h hW hF
        obtain ⟨rfl, hT⟩ := hT
        refine x_athrow dX3_value_91 ?_
        exact c_out (rfl) hW (Or.inl ⟨rfl, rfl⟩) hF hT
      · intro k s5 f6 hT h a hW hx hF
        exact c_out (rfl) hW hx hF hT
  · replace hT := hT.2 c
    refine x_aload_n dX3_value_6 rfl rfl rfl ?_
    refine c_getO dX3_value_7 f_TallySlate_Machine_34 (by decide) (by decide) rfl hW ?_
    refine c_getA dX3_value_10 f_TallySlate_Machine_138 (by decide) (by decide) rfl hW ?_
    refine x_iload_n dX3_value_13 rfl rfl ?_
    obtain ⟨hb, hT⟩ := hT
    refine c_bald (v := (s.2.2.1 46 x1.toNatClampNeg)) dX3_value_14 rfl (by decide) hb hW rfl ?_
    refine x_if_ne (tgt := 26) dX3_value_15 rfl (fun c => ?_) (fun c => ?_)
    · replace hT := hT.1 c
      refine x_aload_n dX3_value_26 rfl rfl rfl ?_
      refine x_aload_n dX3_value_27 rfl rfl rfl ?_
      refine c_getO dX3_value_28 f_TallySlate_Machine_34 (by decide) (by decide) rfl hW ?_
      refine c_getA dX3_value_31 f_TallySlate_Machine_141 (by decide) (by decide) rfl hW ?_
      refine x_iload_n dX3_value_34 rfl rfl ?_
      obtain ⟨hb, hT⟩ := hT
      refine c_iald (v := (s.2.2.1 42 x1.toNatClampNeg)) dX3_value_35 rfl hb hW rfl ?_
      obtain ⟨-, -, cc, hcc, -⟩ := hW.ob 3 (by decide)
      refine c_invV (vs := [.int (s.2.2.1 42 x1.toNatClampNeg)]) dX3_value_36 oX3_push q1364 q1363 hcc q1365 (Or.inl rfl) rfl rfl (Nat.le_of_ble_eq_true rfl) rfl hW hF hT ?_ ?_
      · intro _ s7 f8 hT h hW hF
        obtain ⟨rfl, hT⟩ := hT
        refine x_aload_n dX3_value_39 rfl rfl rfl ?_
        refine c_getA dX3_value_40 f_TallySlate_Machine_17 (by decide) (by decide) rfl hW ?_
        refine x_aload_n dX3_value_43 rfl rfl rfl ?_
        refine c_getI (v := (s7.1 26)) dX3_value_44 f_TallySlate_Machine_75 (by decide) (by decide) rfl hW rfl ?_
        refine x_iconst (v := 1) dX3_value_47 rfl ?_
        refine x_isub dX3_value_48 ?_
        refine x_aload_n dX3_value_49 rfl rfl rfl ?_
        refine c_getO dX3_value_50 f_TallySlate_Machine_34 (by decide) (by decide) rfl hW ?_
        refine c_getA dX3_value_53 f_TallySlate_Machine_142 (by decide) (by decide) rfl hW ?_
        refine x_iload_n dX3_value_56 rfl rfl ?_
        obtain ⟨hb, v9, ev, iv9, hT⟩ := hT
        refine c_aald (v := v9) dX3_value_57 rfl hb hW ev ?_
        obtain ⟨hb, ht, hT⟩ := hT
        refine c_aast dX3_value_58 rfl hb ht hW ?_
        intro h hW
        exact x_vret dX3_value_59 rfl ⟨_, _, hW, hF, Or.inl ⟨_, rfl, hT⟩⟩
      · intro k s7 f8 hT h a hW hx hF
        exact c_out (rfl) hW hx hF hT
    · replace hT := hT.2 c
      refine x_aload_n dX3_value_18 rfl rfl rfl ?_
      refine x_bipush (v := 7) dX3_value_19 rfl ?_
      refine x_iload_n dX3_value_21 rfl rfl ?_
      obtain ⟨-, -, cc, hcc, -⟩ := hW.ob 3 (by decide)
      refine c_invV (vs := [.int 7, .int x2]) dX3_value_22 oX3_wrong q1323 q1322 hcc q1324 (Or.inl rfl) rfl rfl (Nat.le_of_ble_eq_true rfl) rfl hW hF hT ?_ ?_
      · intro _ s10 f11 hT h hW hF
        obtain ⟨rfl, hT⟩ := hT
        refine x_athrow dX3_value_25 ?_
        exact c_out (rfl) hW (Or.inl ⟨rfl, rfl⟩) hF hT
      · intro k s10 f11 hT h a hW hx hF
        exact c_out (rfl) hW hx hF hT
theorem eX3_value {l : Launch} {E : EN} {w : CO} {d : Nat} {s : CS} {f : RH} {Q : KO → CS → RH → Prop} {x1 : Int32} {x2 : Int32}  (hst : l.stackTraces = false) (hT : ((8 ≤ x1 → (∀ y1 : Int32, y1 = (((14 * ((s.1 36) - 1)) + x1) - 8) → (inB y1 140 ∧ ((¬ (s.2.2.1 29 y1.toNatClampNeg) = 0 → (inB y1 140 ∧ (EvC l E w d MX3_push [.ref (w.1 3), .int (s.2.2.1 27 y1.toNatClampNeg)] s f (fun o s2 f3 => KP o (fun r => r = none ∧ (inB y1 140 ∧ ∃ v4 : Value, (s2.2.2.2 28 y1.toNatClampNeg) = v4 ∧ isR v4 = true ∧ (inB ((s2.1 26) - 1) 8400 ∧ isT f3 v4 ∧ Q (.inl none) (uT s2 25 ((s2.1 26) - 1).toNatClampNeg v4) f3))) (fun k => Q (.inr k) s2 f3))))) ∧ ((s.2.2.1 29 y1.toNatClampNeg) = 0 → (EvC l E w d MX3_wrong [.ref (w.1 3), .int 7, .int x2] s f (fun o s5 f6 => KP o (fun r => r = some (.ref (w.1 9)) ∧ Q (.inr 9) s5 f6) (fun k => Q (.inr k) s5 f6)))))))) ∧ (¬ 8 ≤ x1 → (inB x1 8 ∧ ((¬ (s.2.2.1 46 x1.toNatClampNeg) = 0 → (inB x1 8 ∧ (EvC l E w d MX3_push [.ref (w.1 3), .int (s.2.2.1 42 x1.toNatClampNeg)] s f (fun o s7 f8 => KP o (fun r => r = none ∧ (inB x1 8 ∧ ∃ v9 : Value, (s7.2.2.2 44 x1.toNatClampNeg) = v9 ∧ isR v9 = true ∧ (inB ((s7.1 26) - 1) 8400 ∧ isT f8 v9 ∧ Q (.inl none) (uT s7 25 ((s7.1 26) - 1).toNatClampNeg v9) f8))) (fun k => Q (.inr k) s7 f8))))) ∧ ((s.2.2.1 46 x1.toNatClampNeg) = 0 → (EvC l E w d MX3_wrong [.ref (w.1 3), .int 7, .int x2] s f (fun o s10 f11 => KP o (fun r => r = some (.ref (w.1 9)) ∧ Q (.inr 9) s10 f11) (fun k => Q (.inr k) s10 f11))))))))) : EvC l E w (d + 1) MX3_value [.ref (w.1 3), .int x1, .int x2] s f Q :=
  EvC.of hst (by decide) (Nat.le_of_ble_eq_true rfl) (vX3_value_0  hT)
theorem vX3_push_0 {l : Launch} {E : EN} {w : CO} {d : Nat} {s : CS} {f : RH} {Q : KO → CS → RH → Prop} {x1 : Int32}  (hT : (inB (s.1 26) 8400 ∧ (inB (s.1 26) 8400 ∧ isT f (.null) ∧ Q (.inl none) (uI (uT (uA s 24 (s.1 26).toNatClampNeg x1) 25 (s.1 26).toNatClampNeg (.null)) 26 ((s.1 26) + 1)) f))) : ExC l E w d MX3_push 0 [some (.ref (w.1 3)), some (.int x1)] [] s f Q := by
  intro f0 h hW hF
  refine x_aload_n dX3_push_0 rfl rfl rfl ?_
  refine c_getA dX3_push_1 f_TallySlate_Machine_9 (by decide) (by decide) rfl hW ?_
  refine x_aload_n dX3_push_4 rfl rfl rfl ?_
  refine c_getI (v := (s.1 26)) dX3_push_5 f_TallySlate_Machine_75 (by decide) (by decide) rfl hW rfl ?_
  refine x_iload_n dX3_push_8 rfl rfl ?_
  obtain ⟨hb, hT⟩ := hT
  refine c_iast dX3_push_9 rfl hb hW ?_
  intro h hW
  refine x_aload_n dX3_push_10 rfl rfl rfl ?_
  refine c_getA dX3_push_11 f_TallySlate_Machine_17 (by decide) (by decide) rfl hW ?_
  refine x_aload_n dX3_push_14 rfl rfl rfl ?_
  refine c_getI (v := (s.1 26)) dX3_push_15 f_TallySlate_Machine_75 (by decide) (by decide) rfl hW rfl ?_
  refine x_null dX3_push_18 ?_
  obtain ⟨hb, ht, hT⟩ := hT
  refine c_aast dX3_push_19 rfl hb ht hW ?_
  intro h hW
  refine x_aload_n dX3_push_20 rfl rfl rfl ?_
  refine x_dup dX3_push_21 rfl ?_
  refine c_getI (v := (s.1 26)) dX3_push_22 f_TallySlate_Machine_75 (by decide) (by decide) rfl hW rfl ?_
  refine x_iconst (v := 1) dX3_push_25 rfl ?_
  refine x_iadd dX3_push_26 ?_
  refine c_putI dX3_push_27 f_TallySlate_Machine_75 (by decide) (by decide) rfl rfl rfl rfl hW ?_
  intro h hW
  exact x_vret dX3_push_30 rfl ⟨_, _, hW, hF, Or.inl ⟨_, rfl, hT⟩⟩
theorem eX3_push {l : Launch} {E : EN} {w : CO} {d : Nat} {s : CS} {f : RH} {Q : KO → CS → RH → Prop} {x1 : Int32}  (hst : l.stackTraces = false) (hT : (inB (s.1 26) 8400 ∧ (inB (s.1 26) 8400 ∧ isT f (.null) ∧ Q (.inl none) (uI (uT (uA s 24 (s.1 26).toNatClampNeg x1) 25 (s.1 26).toNatClampNeg (.null)) 26 ((s.1 26) + 1)) f))) : EvC l E w d MX3_push [.ref (w.1 3), .int x1] s f Q :=
  EvC.of hst (by decide) (Nat.le_of_ble_eq_true rfl) (vX3_push_0  hT)
theorem vX3_give_0 {l : Launch} {E : EN} {w : CO} {d : Nat} {s : CS} {f : RH} {Q : KO → CS → RH → Prop} {x1 : Int32} {x2 : Int32}  (hT : (EvC l E w d MX3_push [.ref (w.1 3), .int x1] (uI s 26 ((s.1 26) - x2)) f (fun o s1 f2 => KP o (fun r => r = none ∧ Q (.inl none) s1 f2) (fun k => Q (.inr k) s1 f2)))) : ExC l E w (d + 1) MX3_give 0 [some (.ref (w.1 3)), some (.int x1), some (.int x2)] [] s f Q := by
  intro f0 h hW hF
  refine x_aload_n dX3_give_0 rfl rfl rfl ?_
  refine x_dup dX3_give_1 rfl ?_
  refine c_getI (v := (s.1 26)) dX3_give_2 f_TallySlate_Machine_75 (by decide) (by decide) rfl hW rfl ?_
  refine x_iload_n dX3_give_5 rfl rfl ?_
  refine x_isub dX3_give_6 ?_
  refine c_putI dX3_give_7 f_TallySlate_Machine_75 (by decide) (by decide) rfl rfl rfl rfl hW ?_
  intro h hW
  refine x_aload_n dX3_give_10 rfl rfl rfl ?_
  refine x_iload_n dX3_give_11 rfl rfl ?_
  obtain ⟨-, -, cc, hcc, -⟩ := hW.ob 3 (by decide)
  refine c_invV (vs := [.int x1]) dX3_give_12 oX3_push q1364 q1363 hcc q1365 (Or.inl rfl) rfl rfl (Nat.le_of_ble_eq_true rfl) rfl hW hF hT ?_ ?_
  · intro _ s1 f2 hT h hW hF
    obtain ⟨rfl, hT⟩ := hT
    exact x_vret dX3_give_15 rfl ⟨_, _, hW, hF, Or.inl ⟨_, rfl, hT⟩⟩
  · intro k s1 f2 hT h a hW hx hF
    exact c_out (rfl) hW hx hF hT
theorem eX3_give {l : Launch} {E : EN} {w : CO} {d : Nat} {s : CS} {f : RH} {Q : KO → CS → RH → Prop} {x1 : Int32} {x2 : Int32}  (hst : l.stackTraces = false) (hT : (EvC l E w d MX3_push [.ref (w.1 3), .int x1] (uI s 26 ((s.1 26) - x2)) f (fun o s1 f2 => KP o (fun r => r = none ∧ Q (.inl none) s1 f2) (fun k => Q (.inr k) s1 f2)))) : EvC l E w (d + 1) MX3_give [.ref (w.1 3), .int x1, .int x2] s f Q :=
  EvC.of hst (by decide) (Nat.le_of_ble_eq_true rfl) (vX3_give_0  hT)
theorem vX3_give_2_0 {l : Launch} {E : EN} {w : CO} {d : Nat} {s : CS} {f : RH} {Q : KO → CS → RH → Prop} {x1 : Nat} {x2 : Int32} {x3 : Int32}  (hT : (∃ P9 : KO → CS → RH → Prop, (∀ o s1 f2, P9 o s1 f2 → KP o (fun r => ∃ v3 : Int32, r = some (.int v3) ∧ (EvC l E w d MX3_makes [.ref (w.1 3), .int v3, .int x3] s1 f2 (fun o s4 f5 => KP o (fun r => r = none ∧ (EvC l E w d MX3_push_2 [.ref (w.1 3), .ref x1] (uI s4 26 ((s4.1 26) - x2)) f5 (fun o s6 f7 => KP o (fun r => r = none ∧ Q (.inl none) s6 f7) (fun k => Q (.inr k) s6 f7)))) (fun k => Q (.inr k) s4 f5)))) (fun k => Q (.inr k) s1 f2)) ∧ ∃ k8 : Nat, oc f x1 k8 ∧ ((k8 = 29 ∧ EvC l E w d MX32_made [.ref x1] s f P9) ∨ (k8 = 30 ∧ EvC l E w d MX33_made [.ref x1] s f P9) ∨ (k8 = 31 ∧ EvC l E w d MX34_made [.ref x1] s f P9) ∨ (k8 = 32 ∧ EvC l E w d MX35_made [.ref x1] s f P9)))) : ExC l E w (d + 1) MX3_give_2 0 [some (.ref (w.1 3)), some (.ref x1), some (.int x2), some (.int x3)] [] s f Q := by
  intro f0 h hW hF
  refine x_aload_n dX3_give_2_0 rfl rfl rfl ?_
  refine x_aload_n dX3_give_2_1 rfl rfl rfl ?_
  obtain ⟨P9, hP, k8, hc, hT⟩ := hT
  have kr : ∀ r s1 f2, P9 (.inl r) s1 f2 → ∀ h, CW E w s1 f2 h → Frz f0 f2 → Ex l E (d + 1) MX3_give_2 (2 + 3) [some (.ref (w.1 3)), some (.ref x1), some (.int x2), some (.int x3)] (r.toList ++ [.ref (w.1 3)]) h (PoC E w f0 Q) := by
    intro r s1 f2 h0 h hW hF
    have hT := hP _ _ _ h0
    clear h0
    obtain ⟨v3, rfl, hT⟩ := hT
    refine x_iload_n dX3_give_2_5 rfl rfl ?_
    obtain ⟨-, -, cc, hcc, -⟩ := hW.ob 3 (by decide)
    refine c_invV (vs := [.int v3, .int x3]) dX3_give_2_6 oX3_makes q1435 q1434 hcc q1436 (Or.inl rfl) rfl rfl (Nat.le_of_ble_eq_true rfl) rfl hW hF hT ?_ ?_
    · intro _ s4 f5 hT h hW hF
      obtain ⟨rfl, hT⟩ := hT
      refine x_aload_n dX3_give_2_9 rfl rfl rfl ?_
      refine x_dup dX3_give_2_10 rfl ?_
      refine c_getI (v := (s4.1 26)) dX3_give_2_11 f_TallySlate_Machine_75 (by decide) (by decide) rfl hW rfl ?_
      refine x_iload_n dX3_give_2_14 rfl rfl ?_
      refine x_isub dX3_give_2_15 ?_
      refine c_putI dX3_give_2_16 f_TallySlate_Machine_75 (by decide) (by decide) rfl rfl rfl rfl hW ?_
      intro h hW
      refine x_aload_n dX3_give_2_19 rfl rfl rfl ?_
      refine x_aload_n dX3_give_2_20 rfl rfl rfl ?_
      obtain ⟨-, -, cc, hcc, -⟩ := hW.ob 3 (by decide)
      refine c_invV (vs := [.ref x1]) dX3_give_2_21 oX3_push_2 q1439 q1438 hcc q1440 (Or.inl rfl) rfl rfl (Nat.le_of_ble_eq_true rfl) rfl hW hF hT ?_ ?_
      · intro _ s6 f7 hT h hW hF
        obtain ⟨rfl, hT⟩ := hT
        exact x_vret dX3_give_2_24 rfl ⟨_, _, hW, hF, Or.inl ⟨_, rfl, hT⟩⟩
      · intro k s6 f7 hT h a hW hx hF
        exact c_out (rfl) hW hx hF hT
    · intro k s4 f5 hT h a hW hx hF
      exact c_out (rfl) hW hx hF hT
  have kt : ∀ k s1 f2, P9 (.inr k) s1 f2 → ∀ h a, CW E w s1 f2 h → xA w h k a → Frz f0 f2 → ExT l E (d + 1) MX3_give_2 2 [some (.ref (w.1 3)), some (.ref x1), some (.int x2), some (.int x3)] [.ref (w.1 3)] a h (PoC E w f0 Q) := by
    intro k s1 f2 h0 h a hW hx hF
    have hT := hP _ _ _ h0
    clear h0
    exact c_out (rfl) hW hx hF hT
  obtain ⟨cc, hcc⟩ := hW.ocell hc
  rcases hT with ⟨rfl, hT⟩ | ⟨rfl, hT⟩ | ⟨rfl, hT⟩ | ⟨rfl, hT⟩
  · exact c_invV (vs := []) dX3_give_2_2 oX32_made q1422 q1415 hcc q1421 (Or.inr hy_Thing_made) rfl rfl (Nat.le_of_ble_eq_true rfl) rfl hW hF hT kr kt
  · exact c_invV (vs := []) dX3_give_2_2 oX33_made q1425 q1415 hcc q1424 (Or.inr hy_Thing_made) rfl rfl (Nat.le_of_ble_eq_true rfl) rfl hW hF hT kr kt
  · exact c_invV (vs := []) dX3_give_2_2 oX34_made q1419 q1415 hcc q1418 (Or.inr hy_Thing_made) rfl rfl (Nat.le_of_ble_eq_true rfl) rfl hW hF hT kr kt
  · exact c_invV (vs := []) dX3_give_2_2 oX35_made q1432 q1415 hcc q1431 (Or.inr hy_Thing_made) rfl rfl (Nat.le_of_ble_eq_true rfl) rfl hW hF hT kr kt
theorem eX3_give_2 {l : Launch} {E : EN} {w : CO} {d : Nat} {s : CS} {f : RH} {Q : KO → CS → RH → Prop} {x1 : Nat} {x2 : Int32} {x3 : Int32}  (hst : l.stackTraces = false) (hT : (∃ P9 : KO → CS → RH → Prop, (∀ o s1 f2, P9 o s1 f2 → KP o (fun r => ∃ v3 : Int32, r = some (.int v3) ∧ (EvC l E w d MX3_makes [.ref (w.1 3), .int v3, .int x3] s1 f2 (fun o s4 f5 => KP o (fun r => r = none ∧ (EvC l E w d MX3_push_2 [.ref (w.1 3), .ref x1] (uI s4 26 ((s4.1 26) - x2)) f5 (fun o s6 f7 => KP o (fun r => r = none ∧ Q (.inl none) s6 f7) (fun k => Q (.inr k) s6 f7)))) (fun k => Q (.inr k) s4 f5)))) (fun k => Q (.inr k) s1 f2)) ∧ ∃ k8 : Nat, oc f x1 k8 ∧ ((k8 = 29 ∧ EvC l E w d MX32_made [.ref x1] s f P9) ∨ (k8 = 30 ∧ EvC l E w d MX33_made [.ref x1] s f P9) ∨ (k8 = 31 ∧ EvC l E w d MX34_made [.ref x1] s f P9) ∨ (k8 = 32 ∧ EvC l E w d MX35_made [.ref x1] s f P9)))) : EvC l E w (d + 1) MX3_give_2 [.ref (w.1 3), .ref x1, .int x2, .int x3] s f Q :=
  EvC.of hst (by decide) (Nat.le_of_ble_eq_true rfl) (vX3_give_2_0  hT)
theorem vX3_makes_0 {l : Launch} {E : EN} {w : CO} {d : Nat} {s : CS} {f : RH} {Q : KO → CS → RH → Prop} {x1 : Int32} {x2 : Int32}  (hT : ((((s.1 40) + x1) ≤ 3000 → Q (.inl none) (uI s 40 ((s.1 40) + x1)) f) ∧ (¬ ((s.1 40) + x1) ≤ 3000 → (EvC l E w d MX3_wrong [.ref (w.1 3), .int 11, .int x2] (uI s 40 ((s.1 40) + x1)) f (fun o s1 f2 => KP o (fun r => r = some (.ref (w.1 9)) ∧ Q (.inr 9) s1 f2) (fun k => Q (.inr k) s1 f2)))))) : ExC l E w (d + 1) MX3_makes 0 [some (.ref (w.1 3)), some (.int x1), some (.int x2)] [] s f Q := by
  intro f0 h hW hF
  refine x_aload_n dX3_makes_0 rfl rfl rfl ?_
  refine x_dup dX3_makes_1 rfl ?_
  refine c_getI (v := (s.1 40)) dX3_makes_2 f_TallySlate_Machine_91 (by decide) (by decide) rfl hW rfl ?_
  refine x_iload_n dX3_makes_5 rfl rfl ?_
  refine x_iadd dX3_makes_6 ?_
  refine c_putI dX3_makes_7 f_TallySlate_Machine_91 (by decide) (by decide) rfl rfl rfl rfl hW ?_
  intro h hW
  refine x_aload_n dX3_makes_10 rfl rfl rfl ?_
  refine c_getI (v := ((s.1 40) + x1)) dX3_makes_11 f_TallySlate_Machine_91 (by decide) (by decide) rfl hW rfl ?_
  refine x_sipush (v := 3000) dX3_makes_14 rfl ?_
  refine x_icmp_le (tgt := 28) dX3_makes_17 rfl (fun c => ?_) (fun c => ?_)
  · replace hT := hT.1 c
    exact x_vret dX3_makes_28 rfl ⟨_, _, hW, hF, Or.inl ⟨_, rfl, hT⟩⟩
  · replace hT := hT.2 c
    refine x_aload_n dX3_makes_20 rfl rfl rfl ?_
    refine x_bipush (v := 11) dX3_makes_21 rfl ?_
    refine x_iload_n dX3_makes_23 rfl rfl ?_
    obtain ⟨-, -, cc, hcc, -⟩ := hW.ob 3 (by decide)
    refine c_invV (vs := [.int 11, .int x2]) dX3_makes_24 oX3_wrong q1323 q1322 hcc q1324 (Or.inl rfl) rfl rfl (Nat.le_of_ble_eq_true rfl) rfl hW hF hT ?_ ?_
    · intro _ s1 f2 hT h hW hF
      obtain ⟨rfl, hT⟩ := hT
      refine x_athrow dX3_makes_27 ?_
      exact c_out (rfl) hW (Or.inl ⟨rfl, rfl⟩) hF hT
    · intro k s1 f2 hT h a hW hx hF
      exact c_out (rfl) hW hx hF hT
theorem eX3_makes {l : Launch} {E : EN} {w : CO} {d : Nat} {s : CS} {f : RH} {Q : KO → CS → RH → Prop} {x1 : Int32} {x2 : Int32}  (hst : l.stackTraces = false) (hT : ((((s.1 40) + x1) ≤ 3000 → Q (.inl none) (uI s 40 ((s.1 40) + x1)) f) ∧ (¬ ((s.1 40) + x1) ≤ 3000 → (EvC l E w d MX3_wrong [.ref (w.1 3), .int 11, .int x2] (uI s 40 ((s.1 40) + x1)) f (fun o s1 f2 => KP o (fun r => r = some (.ref (w.1 9)) ∧ Q (.inr 9) s1 f2) (fun k => Q (.inr k) s1 f2)))))) : EvC l E w (d + 1) MX3_makes [.ref (w.1 3), .int x1, .int x2] s f Q :=
  EvC.of hst (by decide) (Nat.le_of_ble_eq_true rfl) (vX3_makes_0  hT)
set_option maxHeartbeats 16000000 in
theorem vX3_push_2_0 {l : Launch} {E : EN} {w : CO} {d : Nat} {s : CS} {f : RH} {Q : KO → CS → RH → Prop} {x1 : Nat}  (hT : (isT f (.ref x1) ∧ ((tg f x1 = some (.inl 32) → (tg f x1 = some (.inl 32) ∧ (oc f x1 32 ∧ (∃ v2 : Int32, vl f x1 209 = .int v2 ∧ (inB (s.1 26) 8400 ∧ (isT f (.ref x1) ∧ ((tg f x1 = some (.inl 32) → (inB (s.1 26) 8400 ∧ isT f (.null) ∧ Q (.inl none) (uI (uT (uA s 24 (s.1 26).toNatClampNeg v2) 25 (s.1 26).toNatClampNeg (.null)) 26 ((s.1 26) + 1)) f)) ∧ (¬ tg f x1 = some (.inl 32) → (inB (s.1 26) 8400 ∧ isT f (.ref x1) ∧ Q (.inl none) (uI (uT (uA s 24 (s.1 26).toNatClampNeg v2) 25 (s.1 26).toNatClampNeg (.ref x1)) 26 ((s.1 26) + 1)) f))))))))) ∧ (¬ tg f x1 = some (.inl 32) → (inB (s.1 26) 8400 ∧ (isT f (.ref x1) ∧ ((tg f x1 = some (.inl 32) → (inB (s.1 26) 8400 ∧ isT f (.null) ∧ Q (.inl none) (uI (uT (uA s 24 (s.1 26).toNatClampNeg 0) 25 (s.1 26).toNatClampNeg (.null)) 26 ((s.1 26) + 1)) f)) ∧ (¬ tg f x1 = some (.inl 32) → (inB (s.1 26) 8400 ∧ isT f (.ref x1) ∧ Q (.inl none) (uI (uT (uA s 24 (s.1 26).toNatClampNeg 0) 25 (s.1 26).toNatClampNeg (.ref x1)) 26 ((s.1 26) + 1)) f))))))))) : ExC l E w d MX3_push_2 0 [some (.ref (w.1 3)), some (.ref x1), none] [] s f Q := by
  intro f0 h hW hF
  refine x_aload_n dX3_push_2_0 rfl rfl rfl ?_
  refine c_getA dX3_push_2_1 f_TallySlate_Machine_9 (by decide) (by decide) rfl hW ?_
  refine x_aload_n dX3_push_2_4 rfl rfl rfl ?_
  refine c_getI (v := (s.1 26)) dX3_push_2_5 f_TallySlate_Machine_75 (by decide) (by decide) rfl hW rfl ?_
  refine x_aload_n dX3_push_2_8 rfl rfl rfl ?_
  obtain ⟨ht, hT⟩ := hT
  refine c_inst (K := 32) dX3_push_2_9 (by decide) q1442 ht hW (fun hi1 => ?_) (fun hi1 => ?_)
  · replace hT := hT.1 hi1
    refine x_if_eq (tgt := 27) dX3_push_2_12 rfl (fun c => absurd c (by decide)) (fun _ => ?_)
    refine x_aload_n dX3_push_2_15 rfl rfl rfl ?_
    obtain ⟨hc, hT⟩ := hT
    refine c_cast (K := 32) dX3_push_2_16 q1442 hc hW ?_
    refine x_astore_n (lo' := [some (.ref (w.1 3)), some (.ref x1), some (.ref x1)]) dX3_push_2_19 rfl (Nat.le_of_ble_eq_true rfl) rfl rfl ?_
    refine x_aload_n dX3_push_2_20 rfl rfl rfl ?_
    obtain ⟨hc, hT⟩ := hT
    obtain ⟨v2, ev, hT⟩ := hT
    refine c_fgetG dX3_push_2_21 f_TallySlate_Machine_115 hc (by decide) (by decide) hW ev ?_
    refine x_goto (tgt := 28) dX3_push_2_24 rfl ?_
    obtain ⟨hb, hT⟩ := hT
    refine c_iast dX3_push_2_28 rfl hb hW ?_
    intro h hW
    refine x_aload_n dX3_push_2_29 rfl rfl rfl ?_
    refine c_getA dX3_push_2_30 f_TallySlate_Machine_17 (by decide) (by decide) rfl hW ?_
    refine x_aload_n dX3_push_2_33 rfl rfl rfl ?_
    refine c_getI (v := (s.1 26)) dX3_push_2_34 f_TallySlate_Machine_75 (by decide) (by decide) rfl hW rfl ?_
    refine x_aload_n dX3_push_2_37 rfl rfl rfl ?_
    obtain ⟨ht, hT⟩ := hT
    refine c_inst (K := 32) dX3_push_2_38 (by decide) q1442 ht hW (fun hi3 => ?_) (fun hi3 => ?_)
    · replace hT := hT.1 hi3
      refine x_if_eq (tgt := 48) dX3_push_2_41 rfl (fun c => absurd c (by decide)) (fun _ => ?_)
      refine x_null dX3_push_2_44 ?_
      refine x_goto (tgt := 49) dX3_push_2_45 rfl ?_
      obtain ⟨hb, ht, hT⟩ := hT
      refine c_aast dX3_push_2_49 rfl hb ht hW ?_
      intro h hW
      refine x_aload_n dX3_push_2_50 rfl rfl rfl ?_
      refine x_dup dX3_push_2_51 rfl ?_
      refine c_getI (v := (s.1 26)) dX3_push_2_52 f_TallySlate_Machine_75 (by decide) (by decide) rfl hW rfl ?_
      refine x_iconst (v := 1) dX3_push_2_55 rfl ?_
      refine x_iadd dX3_push_2_56 ?_
      refine c_putI dX3_push_2_57 f_TallySlate_Machine_75 (by decide) (by decide) rfl rfl rfl rfl hW ?_
      intro h hW
      exact x_vret dX3_push_2_60 rfl ⟨_, _, hW, hF, Or.inl ⟨_, rfl, hT⟩⟩
    · replace hT := hT.2 hi3
      refine x_if_eq (tgt := 48) dX3_push_2_41 rfl (fun _ => ?_) (fun c => absurd c (by decide))
      refine x_aload_n dX3_push_2_48 rfl rfl rfl ?_
      obtain ⟨hb, ht, hT⟩ := hT
      refine c_aast dX3_push_2_49 rfl hb ht hW ?_
      intro h hW
      refine x_aload_n dX3_push_2_50 rfl rfl rfl ?_
      refine x_dup dX3_push_2_51 rfl ?_
      refine c_getI (v := (s.1 26)) dX3_push_2_52 f_TallySlate_Machine_75 (by decide) (by decide) rfl hW rfl ?_
      refine x_iconst (v := 1) dX3_push_2_55 rfl ?_
      refine x_iadd dX3_push_2_56 ?_
      refine c_putI dX3_push_2_57 f_TallySlate_Machine_75 (by decide) (by decide) rfl rfl rfl rfl hW ?_
      intro h hW
      exact x_vret dX3_push_2_60 rfl ⟨_, _, hW, hF, Or.inl ⟨_, rfl, hT⟩⟩
  · replace hT := hT.2 hi1
    refine x_if_eq (tgt := 27) dX3_push_2_12 rfl (fun _ => ?_) (fun c => absurd c (by decide))
    refine x_iconst (v := 0) dX3_push_2_27 rfl ?_
    obtain ⟨hb, hT⟩ := hT
    refine c_iast dX3_push_2_28 rfl hb hW ?_
    intro h hW
    refine x_aload_n dX3_push_2_29 rfl rfl rfl ?_
    refine c_getA dX3_push_2_30 f_TallySlate_Machine_17 (by decide) (by decide) rfl hW ?_
    refine x_aload_n dX3_push_2_33 rfl rfl rfl ?_
    refine c_getI (v := (s.1 26)) dX3_push_2_34 f_TallySlate_Machine_75 (by decide) (by decide) rfl hW rfl ?_
    refine x_aload_n dX3_push_2_37 rfl rfl rfl ?_
    obtain ⟨ht, hT⟩ := hT
    refine c_inst (K := 32) dX3_push_2_38 (by decide) q1442 ht hW (fun hi4 => ?_) (fun hi4 => ?_)
    · replace hT := hT.1 hi4
      refine x_if_eq (tgt := 48) dX3_push_2_41 rfl (fun c => absurd c (by decide)) (fun _ => ?_)
      refine x_null dX3_push_2_44 ?_
      refine x_goto (tgt := 49) dX3_push_2_45 rfl ?_
      obtain ⟨hb, ht, hT⟩ := hT
      refine c_aast dX3_push_2_49 rfl hb ht hW ?_
      intro h hW
      refine x_aload_n dX3_push_2_50 rfl rfl rfl ?_
      refine x_dup dX3_push_2_51 rfl ?_
      refine c_getI (v := (s.1 26)) dX3_push_2_52 f_TallySlate_Machine_75 (by decide) (by decide) rfl hW rfl ?_
      refine x_iconst (v := 1) dX3_push_2_55 rfl ?_
      refine x_iadd dX3_push_2_56 ?_
      refine c_putI dX3_push_2_57 f_TallySlate_Machine_75 (by decide) (by decide) rfl rfl rfl rfl hW ?_
      intro h hW
      exact x_vret dX3_push_2_60 rfl ⟨_, _, hW, hF, Or.inl ⟨_, rfl, hT⟩⟩
    · replace hT := hT.2 hi4
      refine x_if_eq (tgt := 48) dX3_push_2_41 rfl (fun _ => ?_) (fun c => absurd c (by decide))
      refine x_aload_n dX3_push_2_48 rfl rfl rfl ?_
      obtain ⟨hb, ht, hT⟩ := hT
      refine c_aast dX3_push_2_49 rfl hb ht hW ?_
      intro h hW
      refine x_aload_n dX3_push_2_50 rfl rfl rfl ?_
      refine x_dup dX3_push_2_51 rfl ?_
      refine c_getI (v := (s.1 26)) dX3_push_2_52 f_TallySlate_Machine_75 (by decide) (by decide) rfl hW rfl ?_
      refine x_iconst (v := 1) dX3_push_2_55 rfl ?_
      refine x_iadd dX3_push_2_56 ?_
      refine c_putI dX3_push_2_57 f_TallySlate_Machine_75 (by decide) (by decide) rfl rfl rfl rfl hW ?_
      intro h hW
      exact x_vret dX3_push_2_60 rfl ⟨_, _, hW, hF, Or.inl ⟨_, rfl, hT⟩⟩
theorem eX3_push_2 {l : Launch} {E : EN} {w : CO} {d : Nat} {s : CS} {f : RH} {Q : KO → CS → RH → Prop} {x1 : Nat}  (hst : l.stackTraces = false) (hT : (isT f (.ref x1) ∧ ((tg f x1 = some (.inl 32) → (tg f x1 = some (.inl 32) ∧ (oc f x1 32 ∧ (∃ v2 : Int32, vl f x1 209 = .int v2 ∧ (inB (s.1 26) 8400 ∧ (isT f (.ref x1) ∧ ((tg f x1 = some (.inl 32) → (inB (s.1 26) 8400 ∧ isT f (.null) ∧ Q (.inl none) (uI (uT (uA s 24 (s.1 26).toNatClampNeg v2) 25 (s.1 26).toNatClampNeg (.null)) 26 ((s.1 26) + 1)) f)) ∧ (¬ tg f x1 = some (.inl 32) → (inB (s.1 26) 8400 ∧ isT f (.ref x1) ∧ Q (.inl none) (uI (uT (uA s 24 (s.1 26).toNatClampNeg v2) 25 (s.1 26).toNatClampNeg (.ref x1)) 26 ((s.1 26) + 1)) f))))))))) ∧ (¬ tg f x1 = some (.inl 32) → (inB (s.1 26) 8400 ∧ (isT f (.ref x1) ∧ ((tg f x1 = some (.inl 32) → (inB (s.1 26) 8400 ∧ isT f (.null) ∧ Q (.inl none) (uI (uT (uA s 24 (s.1 26).toNatClampNeg 0) 25 (s.1 26).toNatClampNeg (.null)) 26 ((s.1 26) + 1)) f)) ∧ (¬ tg f x1 = some (.inl 32) → (inB (s.1 26) 8400 ∧ isT f (.ref x1) ∧ Q (.inl none) (uI (uT (uA s 24 (s.1 26).toNatClampNeg 0) 25 (s.1 26).toNatClampNeg (.ref x1)) 26 ((s.1 26) + 1)) f))))))))) : EvC l E w d MX3_push_2 [.ref (w.1 3), .ref x1] s f Q :=
  EvC.of hst (by decide) (Nat.le_of_ble_eq_true rfl) (vX3_push_2_0  hT)
set_option maxHeartbeats 16000000 in
theorem vX3_at_0 {l : Launch} {E : EN} {w : CO} {d : Nat} {s : CS} {f : RH} {Q : KO → CS → RH → Prop} {x1 : Int32}  (hT : (inB ((s.1 26) - 2) 8400 ∧ ∃ v1 : Value, (s.2.2.2 25 ((s.1 26) - 2).toNatClampNeg) = v1 ∧ isR v1 = true ∧ (inB ((s.1 26) - 1) 8400 ∧ ∃ v2 : Value, (s.2.2.2 25 ((s.1 26) - 1).toNatClampNeg) = v2 ∧ isR v2 = true ∧ ((v1 = .null → (EvC l E w d MX3_wrong [.ref (w.1 3), .int 3, .int x1] s f (fun o s4 f5 => KP o (fun r => r = some (.ref (w.1 9)) ∧ Q (.inr 9) s4 f5) (fun k => Q (.inr k) s4 f5)))) ∧ (∀ a3 : Nat, v1 = .ref a3 → ((v2 = .null → (inB ((s.1 26) - 1) 8400 ∧ (EvC l E w d MX3_one [.ref (w.1 3), .ref a3, .int (s.2.2.1 24 ((s.1 26) - 1).toNatClampNeg), .int x1] s f (fun o s7 f8 => KP o (fun r => r = none ∧ Q (.inl none) s7 f8) (fun k => (k = 35 ∧ (∀ a9 : Nat, (EvC l E w d MX3_wrong [.ref (w.1 3), .int 5, .int x1] s7 f8 (fun o s10 f11 => KP o (fun r => r = some (.ref (w.1 9)) ∧ Q (.inr 9) s10 f11) (fun k => Q (.inr k) s10 f11))))) ∨ (k = 9 ∧ Q (.inr 9) s7 f8)))))) ∧ (∀ a6 : Nat, v2 = .ref a6 → (isT f (.ref a6) ∧ ((tg f a6 = some (.inl 29) → (tg f a6 = some (.inl 29) ∧ (oc f a6 29 ∧ (∃ a13 : Nat, vl f a6 203 = .ref a13 ∧ (EvC l E w d MX6_some [.ref (w.1 6), .ref a3, .ref a13, .int x1] s f (fun o s14 f15 => KP o (fun r => ∃ a16 : Nat, r = some (.ref a16) ∧ (EvC l E w d MX3_give_2 [.ref (w.1 3), .ref a16, .int 2, .int x1] s14 f15 (fun o s17 f18 => KP o (fun r => r = none ∧ Q (.inl none) s17 f18) (fun k => (k = 35 ∧ (∀ a19 : Nat, (EvC l E w d MX3_wrong [.ref (w.1 3), .int 5, .int x1] s17 f18 (fun o s20 f21 => KP o (fun r => r = some (.ref (w.1 9)) ∧ Q (.inr 9) s20 f21) (fun k => Q (.inr k) s20 f21))))) ∨ (k = 9 ∧ Q (.inr 9) s17 f18))))) (fun k => (k = 35 ∧ (∀ a22 : Nat, (EvC l E w d MX3_wrong [.ref (w.1 3), .int 5, .int x1] s14 f15 (fun o s23 f24 => KP o (fun r => r = some (.ref (w.1 9)) ∧ Q (.inr 9) s23 f24) (fun k => Q (.inr k) s23 f24))))) ∨ (k = 9 ∧ Q (.inr 9) s14 f15)))))))) ∧ (¬ tg f a6 = some (.inl 29) → (EvC l E w d MX3_wrong [.ref (w.1 3), .int 3, .int x1] s f (fun o s25 f26 => KP o (fun r => r = some (.ref (w.1 9)) ∧ Q (.inr 9) s25 f26) (fun k => Q (.inr k) s25 f26))))))))))))) : ExC l E w (d + 1) MX3_at 0 [some (.ref (w.1 3)), some (.int x1), none, none, none] [] s f Q := by
  intro f0 h hW hF
  refine x_aload_n dX3_at_0 rfl rfl rfl ?_
  refine c_getA dX3_at_1 f_TallySlate_Machine_17 (by decide) (by decide) rfl hW ?_
  refine x_aload_n dX3_at_4 rfl rfl rfl ?_
  refine c_getI (v := (s.1 26)) dX3_at_5 f_TallySlate_Machine_75 (by decide) (by decide) rfl hW rfl ?_
  refine x_iconst (v := 2) dX3_at_8 rfl ?_
  refine x_isub dX3_at_9 ?_
  obtain ⟨hb, v1, ev, iv1, hT⟩ := hT
  refine c_aald (v := v1) dX3_at_10 rfl hb hW ev ?_
  refine x_astore_n (lo' := [some (.ref (w.1 3)), some (.int x1), some (v1), none, none]) dX3_at_11 rfl (Nat.le_of_ble_eq_true rfl) iv1 rfl ?_
  refine x_aload_n dX3_at_12 rfl rfl rfl ?_
  refine c_getA dX3_at_13 f_TallySlate_Machine_17 (by decide) (by decide) rfl hW ?_
  refine x_aload_n dX3_at_16 rfl rfl rfl ?_
  refine c_getI (v := (s.1 26)) dX3_at_17 f_TallySlate_Machine_75 (by decide) (by decide) rfl hW rfl ?_
  refine x_iconst (v := 1) dX3_at_20 rfl ?_
  refine x_isub dX3_at_21 ?_
  obtain ⟨hb, v2, ev, iv2, hT⟩ := hT
  refine c_aald (v := v2) dX3_at_22 rfl hb hW ev ?_
  refine x_astore_n (lo' := [some (.ref (w.1 3)), some (.int x1), some (v1), some (v2), none]) dX3_at_23 rfl (Nat.le_of_ble_eq_true rfl) iv2 ((st1_V (k := 2) rfl iv1).trans rfl) ?_
  refine x_aload_n dX3_at_24 rfl rfl iv1 ?_
  refine x_ifnull (tgt := 39) dX3_at_25 rfl iv1 (fun e => ?_) (fun a3 e => ?_)
  · subst e
    replace hT := hT.1 rfl
    refine x_aload_n dX3_at_39 rfl rfl rfl ?_
    refine x_iconst (v := 3) dX3_at_40 rfl ?_
    refine x_iload_n dX3_at_41 rfl rfl ?_
    obtain ⟨-, -, cc, hcc, -⟩ := hW.ob 3 (by decide)
    refine c_invV (vs := [.int 3, .int x1]) dX3_at_42 oX3_wrong q1323 q1322 hcc q1324 (Or.inl rfl) rfl rfl (Nat.le_of_ble_eq_true rfl) rfl hW hF hT ?_ ?_
    · intro _ s4 f5 hT h hW hF
      obtain ⟨rfl, hT⟩ := hT
      refine x_athrow dX3_at_45 ?_
      exact c_out (hsr_skip (by decide) (rfl)) hW (Or.inl ⟨rfl, rfl⟩) hF hT
    · intro k s4 f5 hT h a hW hx hF
      exact c_out (hsr_skip (by decide) (rfl)) hW hx hF hT
  · subst e
    replace hT := hT.2 a3 rfl
    refine x_aload_n dX3_at_28 rfl rfl iv2 ?_
    refine x_ifnull (tgt := 46) dX3_at_29 rfl iv2 (fun e => ?_) (fun a6 e => ?_)
    · subst e
      replace hT := hT.1 rfl
      refine x_aload_n dX3_at_46 rfl rfl rfl ?_
      refine x_ifnonnull (tgt := 70) dX3_at_47 rfl rfl (fun _ e => by cases e) (fun _ => ?_)
      refine x_aload_n dX3_at_50 rfl rfl rfl ?_
      refine x_aload_n dX3_at_51 rfl rfl rfl ?_
      refine x_aload_n dX3_at_52 rfl rfl rfl ?_
      refine c_getA dX3_at_53 f_TallySlate_Machine_9 (by decide) (by decide) rfl hW ?_
      refine x_aload_n dX3_at_56 rfl rfl rfl ?_
      refine c_getI (v := (s.1 26)) dX3_at_57 f_TallySlate_Machine_75 (by decide) (by decide) rfl hW rfl ?_
      refine x_iconst (v := 1) dX3_at_60 rfl ?_
      refine x_isub dX3_at_61 ?_
      obtain ⟨hb, hT⟩ := hT
      refine c_iald (v := (s.2.2.1 24 ((s.1 26) - 1).toNatClampNeg)) dX3_at_62 rfl hb hW rfl ?_
      refine x_iload_n dX3_at_63 rfl rfl ?_
      obtain ⟨-, -, cc, hcc, -⟩ := hW.ob 3 (by decide)
      refine c_invV (vs := [.ref a3, .int (s.2.2.1 24 ((s.1 26) - 1).toNatClampNeg), .int x1]) dX3_at_64 oX3_one q1523 q1521 hcc qs36 (Or.inl rfl) rfl rfl (Nat.le_of_ble_eq_true rfl) rfl hW hF hT ?_ ?_
      · intro _ s7 f8 hT h hW hF
        obtain ⟨rfl, hT⟩ := hT
        refine x_goto (tgt := 92) dX3_at_67 rfl ?_
        refine x_goto (tgt := 104) dX3_at_92 rfl ?_
        exact x_vret dX3_at_104 rfl ⟨_, _, hW, hF, Or.inl ⟨_, rfl, hT⟩⟩
      · intro k s7 f8 hT h a9 hW hx hF
        rcases hT with ⟨rfl, hT⟩ | ⟨rfl, hT⟩
        · replace hT := hT a9
          refine c_catch (hsr_yes (by decide) (by decide) q1488 (Or.inl rfl)) hW hx ?_
          refine x_astore (lo' := [some (.ref (w.1 3)), some (.int x1), some (.ref a3), some (.null), some (.ref a9)]) dX3_at_95 (Nat.le_of_ble_eq_true rfl) rfl rfl ?_
          refine x_aload_n dX3_at_97 rfl rfl rfl ?_
          refine x_iconst (v := 5) dX3_at_98 rfl ?_
          refine x_iload_n dX3_at_99 rfl rfl ?_
          obtain ⟨-, -, cc, hcc, -⟩ := hW.ob 3 (by decide)
          refine c_invV (vs := [.int 5, .int x1]) dX3_at_100 oX3_wrong q1323 q1322 hcc q1324 (Or.inl rfl) rfl rfl (Nat.le_of_ble_eq_true rfl) rfl hW hF hT ?_ ?_
          · intro _ s10 f11 hT h hW hF
            obtain ⟨rfl, hT⟩ := hT
            refine x_athrow dX3_at_103 ?_
            exact c_out (hsr_skip (by decide) (rfl)) hW (Or.inl ⟨rfl, rfl⟩) hF hT
          · intro k s10 f11 hT h a hW hx hF
            exact c_out (hsr_skip (by decide) (rfl)) hW hx hF hT
        · exact c_out (hsr_no (by decide) (by decide) q1488 (by decide +kernel) (rfl)) hW hx hF hT
    · subst e
      replace hT := hT.2 a6 rfl
      refine x_aload_n dX3_at_32 rfl rfl rfl ?_
      obtain ⟨ht, hT⟩ := hT
      refine c_inst (K := 29) dX3_at_33 (by decide) q1520 ht hW (fun hi12 => ?_) (fun hi12 => ?_)
      · replace hT := hT.1 hi12
        refine x_if_ne (tgt := 46) dX3_at_36 rfl (fun _ => ?_) (fun c => absurd c (by decide))
        refine x_aload_n dX3_at_46 rfl rfl rfl ?_
        refine x_ifnonnull (tgt := 70) dX3_at_47 rfl rfl (fun _ _ => ?_) (fun e => by cases e)
        refine x_aload_n dX3_at_70 rfl rfl rfl ?_
        refine x_aload_n dX3_at_71 rfl rfl rfl ?_
        refine c_getO dX3_at_72 f_TallySlate_Machine_50 (by decide) (by decide) rfl hW ?_
        refine x_aload_n dX3_at_75 rfl rfl rfl ?_
        refine x_aload_n dX3_at_76 rfl rfl rfl ?_
        obtain ⟨hc, hT⟩ := hT
        refine c_cast (K := 29) dX3_at_77 q1520 hc hW ?_
        obtain ⟨hc, hT⟩ := hT
        obtain ⟨a13, ev, hT⟩ := hT
        refine c_fgetG dX3_at_80 f_TallySlate_Machine_164 hc (by decide) (by decide) hW ev ?_
        refine x_iload_n dX3_at_83 rfl rfl ?_
        obtain ⟨-, -, cc, hcc, -⟩ := hW.ob 6 (by decide)
        refine c_invV (vs := [.ref a3, .ref a13, .int x1]) dX3_at_84 oX6_some q1537 q1536 hcc q1538 (Or.inl rfl) rfl rfl (Nat.le_of_ble_eq_true rfl) rfl hW hF hT ?_ ?_
        · intro _ s14 f15 hT h hW hF
          obtain ⟨a16, rfl, hT⟩ := hT
          refine x_iconst (v := 2) dX3_at_87 rfl ?_
          refine x_iload_n dX3_at_88 rfl rfl ?_
          obtain ⟨-, -, cc, hcc, -⟩ := hW.ob 3 (by decide)
          refine c_invV (vs := [.ref a16, .int 2, .int x1]) dX3_at_89 oX3_give_2 q1412 q1535 hcc q1413 (Or.inl rfl) rfl rfl (Nat.le_of_ble_eq_true rfl) rfl hW hF hT ?_ ?_
          · intro _ s17 f18 hT h hW hF
            obtain ⟨rfl, hT⟩ := hT
            refine x_goto (tgt := 104) dX3_at_92 rfl ?_
            exact x_vret dX3_at_104 rfl ⟨_, _, hW, hF, Or.inl ⟨_, rfl, hT⟩⟩
          · intro k s17 f18 hT h a19 hW hx hF
            rcases hT with ⟨rfl, hT⟩ | ⟨rfl, hT⟩
            · replace hT := hT a19
              refine c_catch (hsr_yes (by decide) (by decide) q1488 (Or.inl rfl)) hW hx ?_
              refine x_astore (lo' := [some (.ref (w.1 3)), some (.int x1), some (.ref a3), some (.ref a6), some (.ref a19)]) dX3_at_95 (Nat.le_of_ble_eq_true rfl) rfl rfl ?_
              refine x_aload_n dX3_at_97 rfl rfl rfl ?_
              refine x_iconst (v := 5) dX3_at_98 rfl ?_
              refine x_iload_n dX3_at_99 rfl rfl ?_
              obtain ⟨-, -, cc, hcc, -⟩ := hW.ob 3 (by decide)
              refine c_invV (vs := [.int 5, .int x1]) dX3_at_100 oX3_wrong q1323 q1322 hcc q1324 (Or.inl rfl) rfl rfl (Nat.le_of_ble_eq_true rfl) rfl hW hF hT ?_ ?_
              · intro _ s20 f21 hT h hW hF
                obtain ⟨rfl, hT⟩ := hT
                refine x_athrow dX3_at_103 ?_
                exact c_out (hsr_skip (by decide) (rfl)) hW (Or.inl ⟨rfl, rfl⟩) hF hT
              · intro k s20 f21 hT h a hW hx hF
                exact c_out (hsr_skip (by decide) (rfl)) hW hx hF hT
            · exact c_out (hsr_no (by decide) (by decide) q1488 (by decide +kernel) (rfl)) hW hx hF hT
        · intro k s14 f15 hT h a22 hW hx hF
          rcases hT with ⟨rfl, hT⟩ | ⟨rfl, hT⟩
          · replace hT := hT a22
            refine c_catch (hsr_yes (by decide) (by decide) q1488 (Or.inl rfl)) hW hx ?_
            refine x_astore (lo' := [some (.ref (w.1 3)), some (.int x1), some (.ref a3), some (.ref a6), some (.ref a22)]) dX3_at_95 (Nat.le_of_ble_eq_true rfl) rfl rfl ?_
            refine x_aload_n dX3_at_97 rfl rfl rfl ?_
            refine x_iconst (v := 5) dX3_at_98 rfl ?_
            refine x_iload_n dX3_at_99 rfl rfl ?_
            obtain ⟨-, -, cc, hcc, -⟩ := hW.ob 3 (by decide)
            refine c_invV (vs := [.int 5, .int x1]) dX3_at_100 oX3_wrong q1323 q1322 hcc q1324 (Or.inl rfl) rfl rfl (Nat.le_of_ble_eq_true rfl) rfl hW hF hT ?_ ?_
            · intro _ s23 f24 hT h hW hF
              obtain ⟨rfl, hT⟩ := hT
              refine x_athrow dX3_at_103 ?_
              exact c_out (hsr_skip (by decide) (rfl)) hW (Or.inl ⟨rfl, rfl⟩) hF hT
            · intro k s23 f24 hT h a hW hx hF
              exact c_out (hsr_skip (by decide) (rfl)) hW hx hF hT
          · exact c_out (hsr_no (by decide) (by decide) q1488 (by decide +kernel) (rfl)) hW hx hF hT
      · replace hT := hT.2 hi12
        refine x_if_ne (tgt := 46) dX3_at_36 rfl (fun c => absurd c (by decide)) (fun _ => ?_)
        refine x_aload_n dX3_at_39 rfl rfl rfl ?_
        refine x_iconst (v := 3) dX3_at_40 rfl ?_
        refine x_iload_n dX3_at_41 rfl rfl ?_
        obtain ⟨-, -, cc, hcc, -⟩ := hW.ob 3 (by decide)
        refine c_invV (vs := [.int 3, .int x1]) dX3_at_42 oX3_wrong q1323 q1322 hcc q1324 (Or.inl rfl) rfl rfl (Nat.le_of_ble_eq_true rfl) rfl hW hF hT ?_ ?_
        · intro _ s25 f26 hT h hW hF
          obtain ⟨rfl, hT⟩ := hT
          refine x_athrow dX3_at_45 ?_
          exact c_out (hsr_skip (by decide) (rfl)) hW (Or.inl ⟨rfl, rfl⟩) hF hT
        · intro k s25 f26 hT h a hW hx hF
          exact c_out (hsr_skip (by decide) (rfl)) hW hx hF hT
theorem eX3_at {l : Launch} {E : EN} {w : CO} {d : Nat} {s : CS} {f : RH} {Q : KO → CS → RH → Prop} {x1 : Int32}  (hst : l.stackTraces = false) (hT : (inB ((s.1 26) - 2) 8400 ∧ ∃ v1 : Value, (s.2.2.2 25 ((s.1 26) - 2).toNatClampNeg) = v1 ∧ isR v1 = true ∧ (inB ((s.1 26) - 1) 8400 ∧ ∃ v2 : Value, (s.2.2.2 25 ((s.1 26) - 1).toNatClampNeg) = v2 ∧ isR v2 = true ∧ ((v1 = .null → (EvC l E w d MX3_wrong [.ref (w.1 3), .int 3, .int x1] s f (fun o s4 f5 => KP o (fun r => r = some (.ref (w.1 9)) ∧ Q (.inr 9) s4 f5) (fun k => Q (.inr k) s4 f5)))) ∧ (∀ a3 : Nat, v1 = .ref a3 → ((v2 = .null → (inB ((s.1 26) - 1) 8400 ∧ (EvC l E w d MX3_one [.ref (w.1 3), .ref a3, .int (s.2.2.1 24 ((s.1 26) - 1).toNatClampNeg), .int x1] s f (fun o s7 f8 => KP o (fun r => r = none ∧ Q (.inl none) s7 f8) (fun k => (k = 35 ∧ (∀ a9 : Nat, (EvC l E w d MX3_wrong [.ref (w.1 3), .int 5, .int x1] s7 f8 (fun o s10 f11 => KP o (fun r => r = some (.ref (w.1 9)) ∧ Q (.inr 9) s10 f11) (fun k => Q (.inr k) s10 f11))))) ∨ (k = 9 ∧ Q (.inr 9) s7 f8)))))) ∧ (∀ a6 : Nat, v2 = .ref a6 → (isT f (.ref a6) ∧ ((tg f a6 = some (.inl 29) → (tg f a6 = some (.inl 29) ∧ (oc f a6 29 ∧ (∃ a13 : Nat, vl f a6 203 = .ref a13 ∧ (EvC l E w d MX6_some [.ref (w.1 6), .ref a3, .ref a13, .int x1] s f (fun o s14 f15 => KP o (fun r => ∃ a16 : Nat, r = some (.ref a16) ∧ (EvC l E w d MX3_give_2 [.ref (w.1 3), .ref a16, .int 2, .int x1] s14 f15 (fun o s17 f18 => KP o (fun r => r = none ∧ Q (.inl none) s17 f18) (fun k => (k = 35 ∧ (∀ a19 : Nat, (EvC l E w d MX3_wrong [.ref (w.1 3), .int 5, .int x1] s17 f18 (fun o s20 f21 => KP o (fun r => r = some (.ref (w.1 9)) ∧ Q (.inr 9) s20 f21) (fun k => Q (.inr k) s20 f21))))) ∨ (k = 9 ∧ Q (.inr 9) s17 f18))))) (fun k => (k = 35 ∧ (∀ a22 : Nat, (EvC l E w d MX3_wrong [.ref (w.1 3), .int 5, .int x1] s14 f15 (fun o s23 f24 => KP o (fun r => r = some (.ref (w.1 9)) ∧ Q (.inr 9) s23 f24) (fun k => Q (.inr k) s23 f24))))) ∨ (k = 9 ∧ Q (.inr 9) s14 f15)))))))) ∧ (¬ tg f a6 = some (.inl 29) → (EvC l E w d MX3_wrong [.ref (w.1 3), .int 3, .int x1] s f (fun o s25 f26 => KP o (fun r => r = some (.ref (w.1 9)) ∧ Q (.inr 9) s25 f26) (fun k => Q (.inr k) s25 f26))))))))))))) : EvC l E w (d + 1) MX3_at [.ref (w.1 3), .int x1] s f Q :=
  EvC.of hst (by decide) (Nat.le_of_ble_eq_true rfl) (vX3_at_0  hT)
set_option maxHeartbeats 16000000 in
theorem vX3_one_0 {l : Launch} {E : EN} {w : CO} {d : Nat} {s : CS} {f : RH} {Q : KO → CS → RH → Prop} {x1 : Nat} {x2 : Int32} {x3 : Int32}  (hT : (isT f (.ref x1) ∧ ((tg f x1 = some (.inl 29) → (tg f x1 = some (.inl 29) ∧ (oc f x1 29 ∧ (∃ a2 : Nat, vl f x1 203 = .ref a2 ∧ (tg f a2 = some (.inr 0) ∧ ((inB x2 (ln f a2) → (∃ v3 : Int32, vl f a2 x2.toNatClampNeg = .int v3 ∧ (EvC l E w d MX3_give [.ref (w.1 3), .int v3, .int 2] s f (fun o s4 f5 => KP o (fun r => r = none ∧ Q (.inl none) s4 f5) (fun k => Q (.inr k) s4 f5))))) ∧ (¬ inB x2 (ln f a2) → (ln f a2 < 2 ^ 31 ∧ rmF E f 3 222 ∧ (∀ (a7 : Nat) (f6 : RH), f6 = fexc f → Q (.inr 35) s f6))))))))) ∧ (¬ tg f x1 = some (.inl 29) → (isT f (.ref x1) ∧ ((tg f x1 = some (.inl 30) → (tg f x1 = some (.inl 30) ∧ (oc f x1 30 ∧ EvC l E w d MX33_row [.ref x1, .int x2] s f (fun o s9 f10 => KP o (fun r => ∃ a11 : Nat, r = some (.ref a11) ∧ (isT f10 (.ref a11) ∧ ((tg f10 a11 = some (.inl 32) → (tg f10 a11 = some (.inl 32) ∧ (oc f10 a11 32 ∧ (∃ v13 : Int32, vl f10 a11 209 = .int v13 ∧ (EvC l E w d MX3_give [.ref (w.1 3), .int v13, .int 2] s9 f10 (fun o s14 f15 => KP o (fun r => r = none ∧ Q (.inl none) s14 f15) (fun k => Q (.inr k) s14 f15))))))) ∧ (¬ tg f10 a11 = some (.inl 32) → (EvC l E w d MX3_give_2 [.ref (w.1 3), .ref a11, .int 2, .int x3] s9 f10 (fun o s16 f17 => KP o (fun r => r = none ∧ Q (.inl none) s16 f17) (fun k => Q (.inr k) s16 f17))))))) (fun k => Q (.inr k) s9 f10))))) ∧ (¬ tg f x1 = some (.inl 30) → (tg f x1 = some (.inl 31) ∧ (oc f x1 31 ∧ (∃ a19 : Nat, vl f x1 206 = .ref a19 ∧ (∃ t20 : Nat, 4 ≤ t20 ∧ (tg f a19 = some (.inr t20) ∧ ((inB x2 (ln f a19) → (∃ a21 : Nat, vl f a19 x2.toNatClampNeg = .ref a21 ∧ (isT f (.ref a21) ∧ ((tg f a21 = some (.inl 32) → (tg f a21 = some (.inl 32) ∧ (oc f a21 32 ∧ (∃ v23 : Int32, vl f a21 209 = .int v23 ∧ (EvC l E w d MX3_give [.ref (w.1 3), .int v23, .int 2] s f (fun o s24 f25 => KP o (fun r => r = none ∧ Q (.inl none) s24 f25) (fun k => Q (.inr k) s24 f25))))))) ∧ (¬ tg f a21 = some (.inl 32) → (EvC l E w d MX3_give_2 [.ref (w.1 3), .ref a21, .int 2, .int x3] s f (fun o s26 f27 => KP o (fun r => r = none ∧ Q (.inl none) s26 f27) (fun k => Q (.inr k) s26 f27)))))))) ∧ (¬ inB x2 (ln f a19) → (ln f a19 < 2 ^ 31 ∧ rmF E f 3 222 ∧ (∀ (a29 : Nat) (f28 : RH), f28 = fexc f → Q (.inr 35) s f28)))))))))))))))) : ExC l E w (d + 1) MX3_one 0 [some (.ref (w.1 3)), some (.ref x1), some (.int x2), some (.int x3), none, none] [] s f Q := by
  intro f0 h hW hF
  refine x_aload_n dX3_one_0 rfl rfl rfl ?_
  obtain ⟨ht, hT⟩ := hT
  refine c_inst (K := 29) dX3_one_1 (by decide) q1520 ht hW (fun hi1 => ?_) (fun hi1 => ?_)
  · replace hT := hT.1 hi1
    refine x_if_eq (tgt := 26) dX3_one_4 rfl (fun c => absurd c (by decide)) (fun _ => ?_)
    refine x_aload_n dX3_one_7 rfl rfl rfl ?_
    obtain ⟨hc, hT⟩ := hT
    refine c_cast (K := 29) dX3_one_8 q1520 hc hW ?_
    refine x_astore (lo' := [some (.ref (w.1 3)), some (.ref x1), some (.int x2), some (.int x3), some (.ref x1), none]) dX3_one_11 (Nat.le_of_ble_eq_true rfl) rfl rfl ?_
    refine x_aload_n dX3_one_13 rfl rfl rfl ?_
    refine x_aload dX3_one_14 rfl rfl ?_
    obtain ⟨hc, hT⟩ := hT
    obtain ⟨a2, ev, hT⟩ := hT
    refine c_fgetG dX3_one_16 f_TallySlate_Machine_164 hc (by decide) (by decide) hW ev ?_
    refine x_iload_n dX3_one_19 rfl rfl ?_
    obtain ⟨hc, hT⟩ := hT
    by_cases hb : inB x2 (ln f a2)
    · replace hT := hT.1 hb
      obtain ⟨v3, ev, hT⟩ := hT
      refine c_fiald dX3_one_20 hc hb hW ev ?_
      refine x_iconst (v := 2) dX3_one_21 rfl ?_
      obtain ⟨-, -, cc, hcc, -⟩ := hW.ob 3 (by decide)
      refine c_invV (vs := [.int v3, .int 2]) dX3_one_22 oX3_give q1384 q1525 hcc q1385 (Or.inl rfl) rfl rfl (Nat.le_of_ble_eq_true rfl) rfl hW hF hT ?_ ?_
      · intro _ s4 f5 hT h hW hF
        obtain ⟨rfl, hT⟩ := hT
        exact x_vret dX3_one_25 rfl ⟨_, _, hW, hF, Or.inl ⟨_, rfl, hT⟩⟩
      · intro k s4 f5 hT h a hW hx hF
        exact c_out (rfl) hW hx hF hT
    · obtain ⟨hn, hr, hT⟩ := hT.2 hb
      refine c_fialdX dX3_one_20 hc hn hb hr (Nat.le_of_ble_eq_true rfl) rfl hW hF ?_
      intro f6 ef6 h a7 hW hx hF
      replace hT := hT a7 f6 ef6
      exact c_out (rfl) hW hx hF hT
  · replace hT := hT.2 hi1
    refine x_if_eq (tgt := 26) dX3_one_4 rfl (fun _ => ?_) (fun c => absurd c (by decide))
    refine x_aload_n dX3_one_26 rfl rfl rfl ?_
    obtain ⟨ht, hT⟩ := hT
    refine c_inst (K := 30) dX3_one_27 (by decide) q1526 ht hW (fun hi8 => ?_) (fun hi8 => ?_)
    · replace hT := hT.1 hi8
      refine x_if_eq (tgt := 48) dX3_one_30 rfl (fun c => absurd c (by decide)) (fun _ => ?_)
      refine x_aload_n dX3_one_33 rfl rfl rfl ?_
      obtain ⟨hc, hT⟩ := hT
      refine c_cast (K := 30) dX3_one_34 q1526 hc hW ?_
      refine x_astore (lo' := [some (.ref (w.1 3)), some (.ref x1), some (.int x2), some (.int x3), none, some (.ref x1)]) dX3_one_37 (Nat.le_of_ble_eq_true rfl) rfl rfl ?_
      refine x_aload dX3_one_39 rfl rfl ?_
      refine x_iload_n dX3_one_41 rfl rfl ?_
      obtain ⟨hc, hT⟩ := hT
      obtain ⟨cc, hcc⟩ := hW.ocell hc
      refine c_invV (vs := [.int x2]) dX3_one_42 oX33_row q1528 q1527 hcc q1529 (Or.inl rfl) rfl rfl (Nat.le_of_ble_eq_true rfl) rfl hW hF hT ?_ ?_
      · intro _ s9 f10 hT h hW hF
        obtain ⟨a11, rfl, hT⟩ := hT
        refine x_goto (tgt := 57) dX3_one_45 rfl ?_
        refine x_astore (lo' := [some (.ref (w.1 3)), some (.ref x1), some (.int x2), some (.int x3), some (.ref a11), some (.ref x1)]) dX3_one_57 (Nat.le_of_ble_eq_true rfl) rfl rfl ?_
        refine x_aload dX3_one_59 rfl rfl ?_
        obtain ⟨ht, hT⟩ := hT
        refine c_inst (K := 32) dX3_one_61 (by decide) q1442 ht hW (fun hi12 => ?_) (fun hi12 => ?_)
        · replace hT := hT.1 hi12
          refine x_if_eq (tgt := 87) dX3_one_64 rfl (fun c => absurd c (by decide)) (fun _ => ?_)
          refine x_aload dX3_one_67 rfl rfl ?_
          obtain ⟨hc, hT⟩ := hT
          refine c_cast (K := 32) dX3_one_69 q1442 hc hW ?_
          refine x_astore (lo' := [some (.ref (w.1 3)), some (.ref x1), some (.int x2), some (.int x3), some (.ref a11), some (.ref a11)]) dX3_one_72 (Nat.le_of_ble_eq_true rfl) rfl rfl ?_
          refine x_aload_n dX3_one_74 rfl rfl rfl ?_
          refine x_aload dX3_one_75 rfl rfl ?_
          obtain ⟨hc, hT⟩ := hT
          obtain ⟨v13, ev, hT⟩ := hT
          refine c_fgetG dX3_one_77 f_TallySlate_Machine_115 hc (by decide) (by decide) hW ev ?_
          refine x_iconst (v := 2) dX3_one_80 rfl ?_
          obtain ⟨-, -, cc, hcc, -⟩ := hW.ob 3 (by decide)
          refine c_invV (vs := [.int v13, .int 2]) dX3_one_81 oX3_give q1384 q1525 hcc q1385 (Or.inl rfl) rfl rfl (Nat.le_of_ble_eq_true rfl) rfl hW hF hT ?_ ?_
          · intro _ s14 f15 hT h hW hF
            obtain ⟨rfl, hT⟩ := hT
            refine x_goto (tgt := 95) dX3_one_84 rfl ?_
            exact x_vret dX3_one_95 rfl ⟨_, _, hW, hF, Or.inl ⟨_, rfl, hT⟩⟩
          · intro k s14 f15 hT h a hW hx hF
            exact c_out (rfl) hW hx hF hT
        · replace hT := hT.2 hi12
          refine x_if_eq (tgt := 87) dX3_one_64 rfl (fun _ => ?_) (fun c => absurd c (by decide))
          refine x_aload_n dX3_one_87 rfl rfl rfl ?_
          refine x_aload dX3_one_88 rfl rfl ?_
          refine x_iconst (v := 2) dX3_one_90 rfl ?_
          refine x_iload_n dX3_one_91 rfl rfl ?_
          obtain ⟨-, -, cc, hcc, -⟩ := hW.ob 3 (by decide)
          refine c_invV (vs := [.ref a11, .int 2, .int x3]) dX3_one_92 oX3_give_2 q1412 q1535 hcc q1413 (Or.inl rfl) rfl rfl (Nat.le_of_ble_eq_true rfl) rfl hW hF hT ?_ ?_
          · intro _ s16 f17 hT h hW hF
            obtain ⟨rfl, hT⟩ := hT
            exact x_vret dX3_one_95 rfl ⟨_, _, hW, hF, Or.inl ⟨_, rfl, hT⟩⟩
          · intro k s16 f17 hT h a hW hx hF
            exact c_out (rfl) hW hx hF hT
      · intro k s9 f10 hT h a hW hx hF
        exact c_out (rfl) hW hx hF hT
    · replace hT := hT.2 hi8
      refine x_if_eq (tgt := 48) dX3_one_30 rfl (fun _ => ?_) (fun c => absurd c (by decide))
      refine x_aload_n dX3_one_48 rfl rfl rfl ?_
      obtain ⟨hc, hT⟩ := hT
      refine c_cast (K := 31) dX3_one_49 q1534 hc hW ?_
      obtain ⟨hc, hT⟩ := hT
      obtain ⟨a19, ev, hT⟩ := hT
      refine c_fgetG dX3_one_52 f_TallySlate_Machine_173 hc (by decide) (by decide) hW ev ?_
      refine x_iload_n dX3_one_55 rfl rfl ?_
      obtain ⟨t20, ht2, hc, hT⟩ := hT
      by_cases hb : inB x2 (ln f a19)
      · replace hT := hT.1 hb
        obtain ⟨a21, ev, hT⟩ := hT
        refine c_faald dX3_one_56 hc ht2 hb hW ev ?_
        refine x_astore (lo' := [some (.ref (w.1 3)), some (.ref x1), some (.int x2), some (.int x3), some (.ref a21), none]) dX3_one_57 (Nat.le_of_ble_eq_true rfl) rfl rfl ?_
        refine x_aload dX3_one_59 rfl rfl ?_
        obtain ⟨ht, hT⟩ := hT
        refine c_inst (K := 32) dX3_one_61 (by decide) q1442 ht hW (fun hi22 => ?_) (fun hi22 => ?_)
        · replace hT := hT.1 hi22
          refine x_if_eq (tgt := 87) dX3_one_64 rfl (fun c => absurd c (by decide)) (fun _ => ?_)
          refine x_aload dX3_one_67 rfl rfl ?_
          obtain ⟨hc, hT⟩ := hT
          refine c_cast (K := 32) dX3_one_69 q1442 hc hW ?_
          refine x_astore (lo' := [some (.ref (w.1 3)), some (.ref x1), some (.int x2), some (.int x3), some (.ref a21), some (.ref a21)]) dX3_one_72 (Nat.le_of_ble_eq_true rfl) rfl rfl ?_
          refine x_aload_n dX3_one_74 rfl rfl rfl ?_
          refine x_aload dX3_one_75 rfl rfl ?_
          obtain ⟨hc, hT⟩ := hT
          obtain ⟨v23, ev, hT⟩ := hT
          refine c_fgetG dX3_one_77 f_TallySlate_Machine_115 hc (by decide) (by decide) hW ev ?_
          refine x_iconst (v := 2) dX3_one_80 rfl ?_
          obtain ⟨-, -, cc, hcc, -⟩ := hW.ob 3 (by decide)
          refine c_invV (vs := [.int v23, .int 2]) dX3_one_81 oX3_give q1384 q1525 hcc q1385 (Or.inl rfl) rfl rfl (Nat.le_of_ble_eq_true rfl) rfl hW hF hT ?_ ?_
          · intro _ s24 f25 hT h hW hF
            obtain ⟨rfl, hT⟩ := hT
            refine x_goto (tgt := 95) dX3_one_84 rfl ?_
            exact x_vret dX3_one_95 rfl ⟨_, _, hW, hF, Or.inl ⟨_, rfl, hT⟩⟩
          · intro k s24 f25 hT h a hW hx hF
            exact c_out (rfl) hW hx hF hT
        · replace hT := hT.2 hi22
          refine x_if_eq (tgt := 87) dX3_one_64 rfl (fun _ => ?_) (fun c => absurd c (by decide))
          refine x_aload_n dX3_one_87 rfl rfl rfl ?_
          refine x_aload dX3_one_88 rfl rfl ?_
          refine x_iconst (v := 2) dX3_one_90 rfl ?_
          refine x_iload_n dX3_one_91 rfl rfl ?_
          obtain ⟨-, -, cc, hcc, -⟩ := hW.ob 3 (by decide)
          refine c_invV (vs := [.ref a21, .int 2, .int x3]) dX3_one_92 oX3_give_2 q1412 q1535 hcc q1413 (Or.inl rfl) rfl rfl (Nat.le_of_ble_eq_true rfl) rfl hW hF hT ?_ ?_
          · intro _ s26 f27 hT h hW hF
            obtain ⟨rfl, hT⟩ := hT
            exact x_vret dX3_one_95 rfl ⟨_, _, hW, hF, Or.inl ⟨_, rfl, hT⟩⟩
          · intro k s26 f27 hT h a hW hx hF
            exact c_out (rfl) hW hx hF hT
      · obtain ⟨hn, hr, hT⟩ := hT.2 hb
        refine c_faaldX dX3_one_56 hc hn hb hr (Nat.le_of_ble_eq_true rfl) rfl hW hF ?_
        intro f28 ef28 h a29 hW hx hF
        replace hT := hT a29 f28 ef28
        exact c_out (rfl) hW hx hF hT
theorem eX3_one {l : Launch} {E : EN} {w : CO} {d : Nat} {s : CS} {f : RH} {Q : KO → CS → RH → Prop} {x1 : Nat} {x2 : Int32} {x3 : Int32}  (hst : l.stackTraces = false) (hT : (isT f (.ref x1) ∧ ((tg f x1 = some (.inl 29) → (tg f x1 = some (.inl 29) ∧ (oc f x1 29 ∧ (∃ a2 : Nat, vl f x1 203 = .ref a2 ∧ (tg f a2 = some (.inr 0) ∧ ((inB x2 (ln f a2) → (∃ v3 : Int32, vl f a2 x2.toNatClampNeg = .int v3 ∧ (EvC l E w d MX3_give [.ref (w.1 3), .int v3, .int 2] s f (fun o s4 f5 => KP o (fun r => r = none ∧ Q (.inl none) s4 f5) (fun k => Q (.inr k) s4 f5))))) ∧ (¬ inB x2 (ln f a2) → (ln f a2 < 2 ^ 31 ∧ rmF E f 3 222 ∧ (∀ (a7 : Nat) (f6 : RH), f6 = fexc f → Q (.inr 35) s f6))))))))) ∧ (¬ tg f x1 = some (.inl 29) → (isT f (.ref x1) ∧ ((tg f x1 = some (.inl 30) → (tg f x1 = some (.inl 30) ∧ (oc f x1 30 ∧ EvC l E w d MX33_row [.ref x1, .int x2] s f (fun o s9 f10 => KP o (fun r => ∃ a11 : Nat, r = some (.ref a11) ∧ (isT f10 (.ref a11) ∧ ((tg f10 a11 = some (.inl 32) → (tg f10 a11 = some (.inl 32) ∧ (oc f10 a11 32 ∧ (∃ v13 : Int32, vl f10 a11 209 = .int v13 ∧ (EvC l E w d MX3_give [.ref (w.1 3), .int v13, .int 2] s9 f10 (fun o s14 f15 => KP o (fun r => r = none ∧ Q (.inl none) s14 f15) (fun k => Q (.inr k) s14 f15))))))) ∧ (¬ tg f10 a11 = some (.inl 32) → (EvC l E w d MX3_give_2 [.ref (w.1 3), .ref a11, .int 2, .int x3] s9 f10 (fun o s16 f17 => KP o (fun r => r = none ∧ Q (.inl none) s16 f17) (fun k => Q (.inr k) s16 f17))))))) (fun k => Q (.inr k) s9 f10))))) ∧ (¬ tg f x1 = some (.inl 30) → (tg f x1 = some (.inl 31) ∧ (oc f x1 31 ∧ (∃ a19 : Nat, vl f x1 206 = .ref a19 ∧ (∃ t20 : Nat, 4 ≤ t20 ∧ (tg f a19 = some (.inr t20) ∧ ((inB x2 (ln f a19) → (∃ a21 : Nat, vl f a19 x2.toNatClampNeg = .ref a21 ∧ (isT f (.ref a21) ∧ ((tg f a21 = some (.inl 32) → (tg f a21 = some (.inl 32) ∧ (oc f a21 32 ∧ (∃ v23 : Int32, vl f a21 209 = .int v23 ∧ (EvC l E w d MX3_give [.ref (w.1 3), .int v23, .int 2] s f (fun o s24 f25 => KP o (fun r => r = none ∧ Q (.inl none) s24 f25) (fun k => Q (.inr k) s24 f25))))))) ∧ (¬ tg f a21 = some (.inl 32) → (EvC l E w d MX3_give_2 [.ref (w.1 3), .ref a21, .int 2, .int x3] s f (fun o s26 f27 => KP o (fun r => r = none ∧ Q (.inl none) s26 f27) (fun k => Q (.inr k) s26 f27)))))))) ∧ (¬ inB x2 (ln f a19) → (ln f a19 < 2 ^ 31 ∧ rmF E f 3 222 ∧ (∀ (a29 : Nat) (f28 : RH), f28 = fexc f → Q (.inr 35) s f28)))))))))))))))) : EvC l E w (d + 1) MX3_one [.ref (w.1 3), .ref x1, .int x2, .int x3] s f Q :=
  EvC.of hst (by decide) (Nat.le_of_ble_eq_true rfl) (vX3_one_0  hT)
theorem vX3_literal_0 {l : Launch} {E : EN} {w : CO} {d : Nat} {s : CS} {f : RH} {Q : KO → CS → RH → Prop} {x1 : Int32} {x2 : Int32}  (hT : ((x1 ≤ 0 → (∀ y1 : Int32, y1 = ((s.1 26) - x1) → ExC l E w (d + 1) MX3_literal 21 [some (.ref (w.1 3)), some (.int x1), some (.int x2), some (.int 1), some (.int 0), some (.int y1)] [] s f Q)) ∧ (¬ x1 ≤ 0 → (∀ y2 : Int32, y2 = ((s.1 26) - x1) → ExC l E w (d + 1) MX3_literal 21 [some (.ref (w.1 3)), some (.int x1), some (.int x2), some (.int 1), some (.int 1), some (.int y2)] [] s f Q)))) : ExC l E w (d + 1) MX3_literal 0 [some (.ref (w.1 3)), some (.int x1), some (.int x2), none, none, none] [] s f Q := by
  intro f0 h hW hF
  refine x_iconst (v := 1) dX3_literal_0 rfl ?_
  refine x_istore_n (lo' := [some (.ref (w.1 3)), some (.int x1), some (.int x2), some (.int 1), none, none]) dX3_literal_1 rfl (Nat.le_of_ble_eq_true rfl) rfl ?_
  refine x_iload_n dX3_literal_2 rfl rfl ?_
  refine x_if_le (tgt := 10) dX3_literal_3 rfl (fun c => ?_) (fun c => ?_)
  · replace hT := hT.1 c
    refine x_iconst (v := 0) dX3_literal_10 rfl ?_
    refine x_istore (lo' := [some (.ref (w.1 3)), some (.int x1), some (.int x2), some (.int 1), some (.int 0), none]) dX3_literal_11 (Nat.le_of_ble_eq_true rfl) rfl ?_
    refine x_aload_n dX3_literal_13 rfl rfl rfl ?_
    refine c_getI (v := (s.1 26)) dX3_literal_14 f_TallySlate_Machine_75 (by decide) (by decide) rfl hW rfl ?_
    refine x_iload_n dX3_literal_17 rfl rfl ?_
    refine x_isub dX3_literal_18 ?_
    obtain ⟨y1, ey1⟩ : ∃ z : Int32, z = ((s.1 26) - x1) := ⟨_, rfl⟩
    replace hT := hT y1 ey1
    refine x_istore (lo' := [some (.ref (w.1 3)), some (.int x1), some (.int x2), some (.int 1), some (.int 0), some (.int y1)]) dX3_literal_19 (Nat.le_of_ble_eq_true rfl) (by rw [ey1]; exact rfl) ?_
    exact hT f0 h hW hF
  · replace hT := hT.2 c
    refine x_iconst (v := 1) dX3_literal_6 rfl ?_
    refine x_goto (tgt := 11) dX3_literal_7 rfl ?_
    refine x_istore (lo' := [some (.ref (w.1 3)), some (.int x1), some (.int x2), some (.int 1), some (.int 1), none]) dX3_literal_11 (Nat.le_of_ble_eq_true rfl) rfl ?_
    refine x_aload_n dX3_literal_13 rfl rfl rfl ?_
    refine c_getI (v := (s.1 26)) dX3_literal_14 f_TallySlate_Machine_75 (by decide) (by decide) rfl hW rfl ?_
    refine x_iload_n dX3_literal_17 rfl rfl ?_
    refine x_isub dX3_literal_18 ?_
    obtain ⟨y2, ey2⟩ : ∃ z : Int32, z = ((s.1 26) - x1) := ⟨_, rfl⟩
    replace hT := hT y2 ey2
    refine x_istore (lo' := [some (.ref (w.1 3)), some (.int x1), some (.int x2), some (.int 1), some (.int 1), some (.int y2)]) dX3_literal_19 (Nat.le_of_ble_eq_true rfl) (by rw [ey2]; exact rfl) ?_
    exact hT f0 h hW hF
theorem eX3_literal {l : Launch} {E : EN} {w : CO} {d : Nat} {s : CS} {f : RH} {Q : KO → CS → RH → Prop} {x1 : Int32} {x2 : Int32}  (hst : l.stackTraces = false) (hT : ((x1 ≤ 0 → (∀ y1 : Int32, y1 = ((s.1 26) - x1) → ExC l E w (d + 1) MX3_literal 21 [some (.ref (w.1 3)), some (.int x1), some (.int x2), some (.int 1), some (.int 0), some (.int y1)] [] s f Q)) ∧ (¬ x1 ≤ 0 → (∀ y2 : Int32, y2 = ((s.1 26) - x1) → ExC l E w (d + 1) MX3_literal 21 [some (.ref (w.1 3)), some (.int x1), some (.int x2), some (.int 1), some (.int 1), some (.int y2)] [] s f Q)))) : EvC l E w (d + 1) MX3_literal [.ref (w.1 3), .int x1, .int x2] s f Q :=
  EvC.of hst (by decide) (Nat.le_of_ble_eq_true rfl) (vX3_literal_0  hT)
set_option maxHeartbeats 16000000 in
theorem vX3_literal_21 {l : Launch} {E : EN} {w : CO} {d : Nat} {s : CS} {f : RH} {Q : KO → CS → RH → Prop} {b1 : Int32} {b2 : Int32} {b3 : Int32} {b4 : Int32} {b5 : Int32}  (hT : (((s.1 26) ≤ b5 → ((b3 = 0 → ((b4 = 0 → (EvC l E w d MX3_wrong [.ref (w.1 3), .int 3, .int b2] s f (fun o s3 f4 => KP o (fun r => r = some (.ref (w.1 9)) ∧ Q (.inr 9) s3 f4) (fun k => Q (.inr k) s3 f4)))) ∧ (¬ b4 = 0 → (EvC l E w d MX6_tableOf [.ref (w.1 6), .int ((s.1 26) - b1), .int b1, .int b2] s f (fun o s5 f6 => KP o (fun r => ∃ a7 : Nat, r = some (.ref a7) ∧ (EvC l E w d MX3_give_2 [.ref (w.1 3), .ref a7, .int b1, .int b2] s5 f6 (fun o s8 f9 => KP o (fun r => r = none ∧ Q (.inl none) s8 f9) (fun k => Q (.inr k) s8 f9)))) (fun k => Q (.inr k) s5 f6)))))) ∧ (¬ b3 = 0 → (EvC l E w d MX6_rowOf [.ref (w.1 6), .int ((s.1 26) - b1), .int b1, .int b2] s f (fun o s10 f11 => KP o (fun r => ∃ a12 : Nat, r = some (.ref a12) ∧ (EvC l E w d MX3_give_2 [.ref (w.1 3), .ref a12, .int b1, .int b2] s10 f11 (fun o s13 f14 => KP o (fun r => r = none ∧ Q (.inl none) s13 f14) (fun k => Q (.inr k) s13 f14)))) (fun k => Q (.inr k) s10 f11)))))) ∧ (¬ (s.1 26) ≤ b5 → ((b3 = 0 → ((b4 = 0 → ExC l E w (d + 1) MX3_literal 21 [some (.ref (w.1 3)), some (.int b1), some (.int b2), some (.int 0), some (.int 0), some (.int (b5 + 1))] [] s f Q) ∧ (¬ b4 = 0 → (inB b5 8400 ∧ ∃ v15 : Value, (s.2.2.2 25 b5.toNatClampNeg) = v15 ∧ isR v15 = true ∧ (isT f v15 ∧ ((∀ a17 : Nat, v15 = .ref a17 → tg f a17 = some (.inl 29) → ExC l E w (d + 1) MX3_literal 21 [some (.ref (w.1 3)), some (.int b1), some (.int b2), some (.int 0), some (.int 1), some (.int (b5 + 1))] [] s f Q) ∧ ((∀ z : Nat, v15 = .ref z → ¬ tg f z = some (.inl 29)) → ExC l E w (d + 1) MX3_literal 21 [some (.ref (w.1 3)), some (.int b1), some (.int b2), some (.int 0), some (.int 0), some (.int (b5 + 1))] [] s f Q))))))) ∧ (¬ b3 = 0 → (EvC l E w d MX3_isInt [.ref (w.1 3), .int b5] s f (fun o s18 f19 => KP o (fun r => ∃ v20 : Int32, r = some (.int v20) ∧ ((v20 = 0 → ((b4 = 0 → ExC l E w (d + 1) MX3_literal 21 [some (.ref (w.1 3)), some (.int b1), some (.int b2), some (.int 0), some (.int 0), some (.int (b5 + 1))] [] s18 f19 Q) ∧ (¬ b4 = 0 → (inB b5 8400 ∧ ∃ v21 : Value, (s18.2.2.2 25 b5.toNatClampNeg) = v21 ∧ isR v21 = true ∧ (isT f19 v21 ∧ ((∀ a23 : Nat, v21 = .ref a23 → tg f19 a23 = some (.inl 29) → ExC l E w (d + 1) MX3_literal 21 [some (.ref (w.1 3)), some (.int b1), some (.int b2), some (.int 0), some (.int 1), some (.int (b5 + 1))] [] s18 f19 Q) ∧ ((∀ z : Nat, v21 = .ref z → ¬ tg f19 z = some (.inl 29)) → ExC l E w (d + 1) MX3_literal 21 [some (.ref (w.1 3)), some (.int b1), some (.int b2), some (.int 0), some (.int 0), some (.int (b5 + 1))] [] s18 f19 Q))))))) ∧ (¬ v20 = 0 → ((b4 = 0 → ExC l E w (d + 1) MX3_literal 21 [some (.ref (w.1 3)), some (.int b1), some (.int b2), some (.int 1), some (.int 0), some (.int (b5 + 1))] [] s18 f19 Q) ∧ (¬ b4 = 0 → (inB b5 8400 ∧ ∃ v24 : Value, (s18.2.2.2 25 b5.toNatClampNeg) = v24 ∧ isR v24 = true ∧ (isT f19 v24 ∧ ((∀ a26 : Nat, v24 = .ref a26 → tg f19 a26 = some (.inl 29) → ExC l E w (d + 1) MX3_literal 21 [some (.ref (w.1 3)), some (.int b1), some (.int b2), some (.int 1), some (.int 1), some (.int (b5 + 1))] [] s18 f19 Q) ∧ ((∀ z : Nat, v24 = .ref z → ¬ tg f19 z = some (.inl 29)) → ExC l E w (d + 1) MX3_literal 21 [some (.ref (w.1 3)), some (.int b1), some (.int b2), some (.int 1), some (.int 0), some (.int (b5 + 1))] [] s18 f19 Q))))))))) (fun k => Q (.inr k) s18 f19)))))))) : ExC l E w (d + 1) MX3_literal 21 [some (.ref (w.1 3)), some (.int b1), some (.int b2), some (.int b3), some (.int b4), some (.int b5)] [] s f Q := by
  intro f0 h hW hF
  refine x_iload dX3_literal_21 rfl ?_
  refine x_aload_n dX3_literal_23 rfl rfl rfl ?_
  refine c_getI (v := (s.1 26)) dX3_literal_24 f_TallySlate_Machine_75 (by decide) (by decide) rfl hW rfl ?_
  refine x_icmp_ge (tgt := 80) dX3_literal_27 rfl (fun c => ?_) (fun c => ?_)
  · replace hT := hT.1 c
    refine x_iload_n dX3_literal_80 rfl rfl ?_
    refine x_if_eq (tgt := 108) dX3_literal_81 rfl (fun c => ?_) (fun c => ?_)
    · replace hT := hT.1 c
      refine x_iload dX3_literal_108 rfl ?_
      refine x_if_eq (tgt := 137) dX3_literal_110 rfl (fun c => ?_) (fun c => ?_)
      · replace hT := hT.1 c
        refine x_aload_n dX3_literal_137 rfl rfl rfl ?_
        refine x_iconst (v := 3) dX3_literal_138 rfl ?_
        refine x_iload_n dX3_literal_139 rfl rfl ?_
        obtain ⟨-, -, cc, hcc, -⟩ := hW.ob 3 (by decide)
        refine c_invV (vs := [.int 3, .int b2]) dX3_literal_140 oX3_wrong q1323 q1322 hcc q1324 (Or.inl rfl) rfl rfl (Nat.le_of_ble_eq_true rfl) rfl hW hF hT ?_ ?_
        · intro _ s3 f4 hT h hW hF
          obtain ⟨rfl, hT⟩ := hT
          refine x_athrow dX3_literal_143 ?_
          exact c_out (rfl) hW (Or.inl ⟨rfl, rfl⟩) hF hT
        · intro k s3 f4 hT h a hW hx hF
          exact c_out (rfl) hW hx hF hT
      · replace hT := hT.2 c
        refine x_aload_n dX3_literal_113 rfl rfl rfl ?_
        refine x_aload_n dX3_literal_114 rfl rfl rfl ?_
        refine c_getO dX3_literal_115 f_TallySlate_Machine_50 (by decide) (by decide) rfl hW ?_
        refine x_aload_n dX3_literal_118 rfl rfl rfl ?_
        refine c_getI (v := (s.1 26)) dX3_literal_119 f_TallySlate_Machine_75 (by decide) (by decide) rfl hW rfl ?_
        refine x_iload_n dX3_literal_122 rfl rfl ?_
        refine x_isub dX3_literal_123 ?_
        refine x_iload_n dX3_literal_124 rfl rfl ?_
        refine x_iload_n dX3_literal_125 rfl rfl ?_
        obtain ⟨-, -, cc, hcc, -⟩ := hW.ob 6 (by decide)
        refine c_invV (vs := [.int ((s.1 26) - b1), .int b1, .int b2]) dX3_literal_126 oX6_tableOf q1618 q1617 hcc q1619 (Or.inl rfl) rfl rfl (Nat.le_of_ble_eq_true rfl) rfl hW hF hT ?_ ?_
        · intro _ s5 f6 hT h hW hF
          obtain ⟨a7, rfl, hT⟩ := hT
          refine x_iload_n dX3_literal_129 rfl rfl ?_
          refine x_iload_n dX3_literal_130 rfl rfl ?_
          obtain ⟨-, -, cc, hcc, -⟩ := hW.ob 3 (by decide)
          refine c_invV (vs := [.ref a7, .int b1, .int b2]) dX3_literal_131 oX3_give_2 q1412 q1535 hcc q1413 (Or.inl rfl) rfl rfl (Nat.le_of_ble_eq_true rfl) rfl hW hF hT ?_ ?_
          · intro _ s8 f9 hT h hW hF
            obtain ⟨rfl, hT⟩ := hT
            refine x_goto (tgt := 144) dX3_literal_134 rfl ?_
            exact x_vret dX3_literal_144 rfl ⟨_, _, hW, hF, Or.inl ⟨_, rfl, hT⟩⟩
          · intro k s8 f9 hT h a hW hx hF
            exact c_out (rfl) hW hx hF hT
        · intro k s5 f6 hT h a hW hx hF
          exact c_out (rfl) hW hx hF hT
    · replace hT := hT.2 c
      refine x_aload_n dX3_literal_84 rfl rfl rfl ?_
      refine x_aload_n dX3_literal_85 rfl rfl rfl ?_
      refine c_getO dX3_literal_86 f_TallySlate_Machine_50 (by decide) (by decide) rfl hW ?_
      refine x_aload_n dX3_literal_89 rfl rfl rfl ?_
      refine c_getI (v := (s.1 26)) dX3_literal_90 f_TallySlate_Machine_75 (by decide) (by decide) rfl hW rfl ?_
      refine x_iload_n dX3_literal_93 rfl rfl ?_
      refine x_isub dX3_literal_94 ?_
      refine x_iload_n dX3_literal_95 rfl rfl ?_
      refine x_iload_n dX3_literal_96 rfl rfl ?_
      obtain ⟨-, -, cc, hcc, -⟩ := hW.ob 6 (by decide)
      refine c_invV (vs := [.int ((s.1 26) - b1), .int b1, .int b2]) dX3_literal_97 oX6_rowOf q1614 q1613 hcc q1615 (Or.inl rfl) rfl rfl (Nat.le_of_ble_eq_true rfl) rfl hW hF hT ?_ ?_
      · intro _ s10 f11 hT h hW hF
        obtain ⟨a12, rfl, hT⟩ := hT
        refine x_iload_n dX3_literal_100 rfl rfl ?_
        refine x_iload_n dX3_literal_101 rfl rfl ?_
        obtain ⟨-, -, cc, hcc, -⟩ := hW.ob 3 (by decide)
        refine c_invV (vs := [.ref a12, .int b1, .int b2]) dX3_literal_102 oX3_give_2 q1412 q1535 hcc q1413 (Or.inl rfl) rfl rfl (Nat.le_of_ble_eq_true rfl) rfl hW hF hT ?_ ?_
        · intro _ s13 f14 hT h hW hF
          obtain ⟨rfl, hT⟩ := hT
          refine x_goto (tgt := 144) dX3_literal_105 rfl ?_
          exact x_vret dX3_literal_144 rfl ⟨_, _, hW, hF, Or.inl ⟨_, rfl, hT⟩⟩
        · intro k s13 f14 hT h a hW hx hF
          exact c_out (rfl) hW hx hF hT
      · intro k s10 f11 hT h a hW hx hF
        exact c_out (rfl) hW hx hF hT
  · replace hT := hT.2 c
    refine x_iload_n dX3_literal_30 rfl rfl ?_
    refine x_if_eq (tgt := 47) dX3_literal_31 rfl (fun c => ?_) (fun c => ?_)
    · replace hT := hT.1 c
      refine x_iconst (v := 0) dX3_literal_47 rfl ?_
      refine x_istore_n (lo' := [some (.ref (w.1 3)), some (.int b1), some (.int b2), some (.int 0), some (.int b4), some (.int b5)]) dX3_literal_48 rfl (Nat.le_of_ble_eq_true rfl) rfl ?_
      refine x_iload dX3_literal_49 rfl ?_
      refine x_if_eq (tgt := 71) dX3_literal_51 rfl (fun c => ?_) (fun c => ?_)
      · replace hT := hT.1 c
        refine x_iconst (v := 0) dX3_literal_71 rfl ?_
        refine x_istore (lo' := [some (.ref (w.1 3)), some (.int b1), some (.int b2), some (.int 0), some (.int 0), some (.int b5)]) dX3_literal_72 (Nat.le_of_ble_eq_true rfl) rfl ?_
        refine x_iinc (lo' := [some (.ref (w.1 3)), some (.int b1), some (.int b2), some (.int 0), some (.int 0), some (.int (b5 + 1))]) dX3_literal_74 rfl (show _ = (b5 + 1) from rfl) rfl ?_
        refine x_goto (tgt := 21) dX3_literal_77 rfl ?_
        exact hT f0 h hW hF
      · replace hT := hT.2 c
        refine x_aload_n dX3_literal_54 rfl rfl rfl ?_
        refine c_getA dX3_literal_55 f_TallySlate_Machine_17 (by decide) (by decide) rfl hW ?_
        refine x_iload dX3_literal_58 rfl ?_
        obtain ⟨hb, v15, ev, iv15, hT⟩ := hT
        refine c_aald (v := v15) dX3_literal_60 rfl hb hW ev ?_
        obtain ⟨ht, hT⟩ := hT
        refine c_instV (K := 29) dX3_literal_61 (by decide) q1520 ht hW (fun a17 ec hi16 => ?_) (fun hi16 => ?_)
        · subst ec
          replace hT := hT.1 a17 rfl hi16
          refine x_if_eq (tgt := 71) dX3_literal_64 rfl (fun c => absurd c (by decide)) (fun _ => ?_)
          refine x_iconst (v := 1) dX3_literal_67 rfl ?_
          refine x_goto (tgt := 72) dX3_literal_68 rfl ?_
          refine x_istore (lo' := [some (.ref (w.1 3)), some (.int b1), some (.int b2), some (.int 0), some (.int 1), some (.int b5)]) dX3_literal_72 (Nat.le_of_ble_eq_true rfl) rfl ?_
          refine x_iinc (lo' := [some (.ref (w.1 3)), some (.int b1), some (.int b2), some (.int 0), some (.int 1), some (.int (b5 + 1))]) dX3_literal_74 rfl (show _ = (b5 + 1) from rfl) rfl ?_
          refine x_goto (tgt := 21) dX3_literal_77 rfl ?_
          exact hT f0 h hW hF
        · replace hT := hT.2 hi16
          refine x_if_eq (tgt := 71) dX3_literal_64 rfl (fun _ => ?_) (fun c => absurd c (by decide))
          refine x_iconst (v := 0) dX3_literal_71 rfl ?_
          refine x_istore (lo' := [some (.ref (w.1 3)), some (.int b1), some (.int b2), some (.int 0), some (.int 0), some (.int b5)]) dX3_literal_72 (Nat.le_of_ble_eq_true rfl) rfl ?_
          refine x_iinc (lo' := [some (.ref (w.1 3)), some (.int b1), some (.int b2), some (.int 0), some (.int 0), some (.int (b5 + 1))]) dX3_literal_74 rfl (show _ = (b5 + 1) from rfl) rfl ?_
          refine x_goto (tgt := 21) dX3_literal_77 rfl ?_
          exact hT f0 h hW hF
    · replace hT := hT.2 c
      refine x_aload_n dX3_literal_34 rfl rfl rfl ?_
      refine x_iload dX3_literal_35 rfl ?_
      obtain ⟨-, -, cc, hcc, -⟩ := hW.ob 3 (by decide)
      refine c_invV (vs := [.int b5]) dX3_literal_37 oX3_isInt q1610 q1609 hcc q1611 (Or.inl rfl) rfl rfl (Nat.le_of_ble_eq_true rfl) rfl hW hF hT ?_ ?_
      · intro _ s18 f19 hT h hW hF
        obtain ⟨v20, rfl, hT⟩ := hT
        refine x_if_eq (tgt := 47) dX3_literal_40 rfl (fun c => ?_) (fun c => ?_)
        · replace hT := hT.1 c
          refine x_iconst (v := 0) dX3_literal_47 rfl ?_
          refine x_istore_n (lo' := [some (.ref (w.1 3)), some (.int b1), some (.int b2), some (.int 0), some (.int b4), some (.int b5)]) dX3_literal_48 rfl (Nat.le_of_ble_eq_true rfl) rfl ?_
          refine x_iload dX3_literal_49 rfl ?_
          refine x_if_eq (tgt := 71) dX3_literal_51 rfl (fun c => ?_) (fun c => ?_)
          · replace hT := hT.1 c
            refine x_iconst (v := 0) dX3_literal_71 rfl ?_
            refine x_istore (lo' := [some (.ref (w.1 3)), some (.int b1), some (.int b2), some (.int 0), some (.int 0), some (.int b5)]) dX3_literal_72 (Nat.le_of_ble_eq_true rfl) rfl ?_
            refine x_iinc (lo' := [some (.ref (w.1 3)), some (.int b1), some (.int b2), some (.int 0), some (.int 0), some (.int (b5 + 1))]) dX3_literal_74 rfl (show _ = (b5 + 1) from rfl) rfl ?_
            refine x_goto (tgt := 21) dX3_literal_77 rfl ?_
            exact hT f0 h hW hF
          · replace hT := hT.2 c
            refine x_aload_n dX3_literal_54 rfl rfl rfl ?_
            refine c_getA dX3_literal_55 f_TallySlate_Machine_17 (by decide) (by decide) rfl hW ?_
            refine x_iload dX3_literal_58 rfl ?_
            obtain ⟨hb, v21, ev, iv21, hT⟩ := hT
            refine c_aald (v := v21) dX3_literal_60 rfl hb hW ev ?_
            obtain ⟨ht, hT⟩ := hT
            refine c_instV (K := 29) dX3_literal_61 (by decide) q1520 ht hW (fun a23 ec hi22 => ?_) (fun hi22 => ?_)
            · subst ec
              replace hT := hT.1 a23 rfl hi22
              refine x_if_eq (tgt := 71) dX3_literal_64 rfl (fun c => absurd c (by decide)) (fun _ => ?_)
              refine x_iconst (v := 1) dX3_literal_67 rfl ?_
              refine x_goto (tgt := 72) dX3_literal_68 rfl ?_
              refine x_istore (lo' := [some (.ref (w.1 3)), some (.int b1), some (.int b2), some (.int 0), some (.int 1), some (.int b5)]) dX3_literal_72 (Nat.le_of_ble_eq_true rfl) rfl ?_
              refine x_iinc (lo' := [some (.ref (w.1 3)), some (.int b1), some (.int b2), some (.int 0), some (.int 1), some (.int (b5 + 1))]) dX3_literal_74 rfl (show _ = (b5 + 1) from rfl) rfl ?_
              refine x_goto (tgt := 21) dX3_literal_77 rfl ?_
              exact hT f0 h hW hF
            · replace hT := hT.2 hi22
              refine x_if_eq (tgt := 71) dX3_literal_64 rfl (fun _ => ?_) (fun c => absurd c (by decide))
              refine x_iconst (v := 0) dX3_literal_71 rfl ?_
              refine x_istore (lo' := [some (.ref (w.1 3)), some (.int b1), some (.int b2), some (.int 0), some (.int 0), some (.int b5)]) dX3_literal_72 (Nat.le_of_ble_eq_true rfl) rfl ?_
              refine x_iinc (lo' := [some (.ref (w.1 3)), some (.int b1), some (.int b2), some (.int 0), some (.int 0), some (.int (b5 + 1))]) dX3_literal_74 rfl (show _ = (b5 + 1) from rfl) rfl ?_
              refine x_goto (tgt := 21) dX3_literal_77 rfl ?_
              exact hT f0 h hW hF
        · replace hT := hT.2 c
          refine x_iconst (v := 1) dX3_literal_43 rfl ?_
          refine x_goto (tgt := 48) dX3_literal_44 rfl ?_
          refine x_istore_n (lo' := [some (.ref (w.1 3)), some (.int b1), some (.int b2), some (.int 1), some (.int b4), some (.int b5)]) dX3_literal_48 rfl (Nat.le_of_ble_eq_true rfl) rfl ?_
          refine x_iload dX3_literal_49 rfl ?_
          refine x_if_eq (tgt := 71) dX3_literal_51 rfl (fun c => ?_) (fun c => ?_)
          · replace hT := hT.1 c
            refine x_iconst (v := 0) dX3_literal_71 rfl ?_
            refine x_istore (lo' := [some (.ref (w.1 3)), some (.int b1), some (.int b2), some (.int 1), some (.int 0), some (.int b5)]) dX3_literal_72 (Nat.le_of_ble_eq_true rfl) rfl ?_
            refine x_iinc (lo' := [some (.ref (w.1 3)), some (.int b1), some (.int b2), some (.int 1), some (.int 0), some (.int (b5 + 1))]) dX3_literal_74 rfl (show _ = (b5 + 1) from rfl) rfl ?_
            refine x_goto (tgt := 21) dX3_literal_77 rfl ?_
            exact hT f0 h hW hF
          · replace hT := hT.2 c
            refine x_aload_n dX3_literal_54 rfl rfl rfl ?_
            refine c_getA dX3_literal_55 f_TallySlate_Machine_17 (by decide) (by decide) rfl hW ?_
            refine x_iload dX3_literal_58 rfl ?_
            obtain ⟨hb, v24, ev, iv24, hT⟩ := hT
            refine c_aald (v := v24) dX3_literal_60 rfl hb hW ev ?_
            obtain ⟨ht, hT⟩ := hT
            refine c_instV (K := 29) dX3_literal_61 (by decide) q1520 ht hW (fun a26 ec hi25 => ?_) (fun hi25 => ?_)
            · subst ec
              replace hT := hT.1 a26 rfl hi25
              refine x_if_eq (tgt := 71) dX3_literal_64 rfl (fun c => absurd c (by decide)) (fun _ => ?_)
              refine x_iconst (v := 1) dX3_literal_67 rfl ?_
              refine x_goto (tgt := 72) dX3_literal_68 rfl ?_
              refine x_istore (lo' := [some (.ref (w.1 3)), some (.int b1), some (.int b2), some (.int 1), some (.int 1), some (.int b5)]) dX3_literal_72 (Nat.le_of_ble_eq_true rfl) rfl ?_
              refine x_iinc (lo' := [some (.ref (w.1 3)), some (.int b1), some (.int b2), some (.int 1), some (.int 1), some (.int (b5 + 1))]) dX3_literal_74 rfl (show _ = (b5 + 1) from rfl) rfl ?_
              refine x_goto (tgt := 21) dX3_literal_77 rfl ?_
              exact hT f0 h hW hF
            · replace hT := hT.2 hi25
              refine x_if_eq (tgt := 71) dX3_literal_64 rfl (fun _ => ?_) (fun c => absurd c (by decide))
              refine x_iconst (v := 0) dX3_literal_71 rfl ?_
              refine x_istore (lo' := [some (.ref (w.1 3)), some (.int b1), some (.int b2), some (.int 1), some (.int 0), some (.int b5)]) dX3_literal_72 (Nat.le_of_ble_eq_true rfl) rfl ?_
              refine x_iinc (lo' := [some (.ref (w.1 3)), some (.int b1), some (.int b2), some (.int 1), some (.int 0), some (.int (b5 + 1))]) dX3_literal_74 rfl (show _ = (b5 + 1) from rfl) rfl ?_
              refine x_goto (tgt := 21) dX3_literal_77 rfl ?_
              exact hT f0 h hW hF
      · intro k s18 f19 hT h a hW hx hF
        exact c_out (rfl) hW hx hF hT
theorem vX3_isInt_0 {l : Launch} {E : EN} {w : CO} {d : Nat} {s : CS} {f : RH} {Q : KO → CS → RH → Prop} {x1 : Int32}  (hT : (inB x1 8400 ∧ ∃ v1 : Value, (s.2.2.2 25 x1.toNatClampNeg) = v1 ∧ isR v1 = true ∧ ((v1 = .null → Q (.inl (some (.int 1))) s f) ∧ (∀ a2 : Nat, v1 = .ref a2 → Q (.inl (some (.int 0))) s f)))) : ExC l E w d MX3_isInt 0 [some (.ref (w.1 3)), some (.int x1)] [] s f Q := by
  intro f0 h hW hF
  refine x_aload_n dX3_isInt_0 rfl rfl rfl ?_
  refine c_getA dX3_isInt_1 f_TallySlate_Machine_17 (by decide) (by decide) rfl hW ?_
  refine x_iload_n dX3_isInt_4 rfl rfl ?_
  obtain ⟨hb, v1, ev, iv1, hT⟩ := hT
  refine c_aald (v := v1) dX3_isInt_5 rfl hb hW ev ?_
  refine x_ifnonnull (tgt := 13) dX3_isInt_6 rfl iv1 (fun a2 e => ?_) (fun e => ?_)
  · subst e
    replace hT := hT.2 a2 rfl
    refine x_iconst (v := 0) dX3_isInt_13 rfl ?_
    exact x_iret dX3_isInt_14 rfl rfl ⟨_, _, hW, hF, Or.inl ⟨_, rfl, hT⟩⟩
  · subst e
    replace hT := hT.1 rfl
    refine x_iconst (v := 1) dX3_isInt_9 rfl ?_
    refine x_goto (tgt := 14) dX3_isInt_10 rfl ?_
    exact x_iret dX3_isInt_14 rfl rfl ⟨_, _, hW, hF, Or.inl ⟨_, rfl, hT⟩⟩
theorem eX3_isInt {l : Launch} {E : EN} {w : CO} {d : Nat} {s : CS} {f : RH} {Q : KO → CS → RH → Prop} {x1 : Int32}  (hst : l.stackTraces = false) (hT : (inB x1 8400 ∧ ∃ v1 : Value, (s.2.2.2 25 x1.toNatClampNeg) = v1 ∧ isR v1 = true ∧ ((v1 = .null → Q (.inl (some (.int 1))) s f) ∧ (∀ a2 : Nat, v1 = .ref a2 → Q (.inl (some (.int 0))) s f)))) : EvC l E w d MX3_isInt [.ref (w.1 3), .int x1] s f Q :=
  EvC.of hst (by decide) (Nat.le_of_ble_eq_true rfl) (vX3_isInt_0  hT)
theorem vX3_each_0 {l : Launch} {E : EN} {w : CO} {d : Nat} {s : CS} {f : RH} {Q : KO → CS → RH → Prop} {x1 : Nat} {x2 : Int32}  (hT : (∀ y1 : Int32, y1 = ((s.1 26) - 1) → (inB y1 8400 ∧ ∃ v2 : Value, (s.2.2.2 25 y1.toNatClampNeg) = v2 ∧ isR v2 = true ∧ ((v2 = .null → (EvC l E w d MX3_wrong [.ref (w.1 3), .int 3, .int x2] s f (fun o s4 f5 => KP o (fun r => r = some (.ref (w.1 9)) ∧ Q (.inr 9) s4 f5) (fun k => Q (.inr k) s4 f5)))) ∧ (∀ a3 : Nat, v2 = .ref a3 → (∃ P10 : KO → CS → RH → Prop, (∀ o s6 f7, P10 o s6 f7 → KP o (fun r => ∃ v8 : Int32, r = some (.int v8) ∧ ExC l E w (d + 1) MX3_each 43 [some (.ref (w.1 3)), some (.ref x1), some (.int x2), some (.int y1), some (.ref a3), some (.int v8), some (.int 1), some (.int 1), some (.int 0)] [] s6 f7 Q) (fun k => Q (.inr k) s6 f7)) ∧ ∃ k9 : Nat, oc f a3 k9 ∧ ((k9 = 29 ∧ EvC l E w d MX32_size [.ref a3] s f P10) ∨ (k9 = 30 ∧ EvC l E w d MX33_size [.ref a3] s f P10) ∨ (k9 = 31 ∧ EvC l E w d MX34_size [.ref a3] s f P10) ∨ (k9 = 32 ∧ EvC l E w d MX35_size [.ref a3] s f P10)))))))) : ExC l E w (d + 1) MX3_each 0 [some (.ref (w.1 3)), some (.ref x1), some (.int x2), none, none, none, none, none, none] [] s f Q := by
  intro f0 h hW hF
  refine x_aload_n dX3_each_0 rfl rfl rfl ?_
  refine c_getI (v := (s.1 26)) dX3_each_1 f_TallySlate_Machine_75 (by decide) (by decide) rfl hW rfl ?_
  refine x_iconst (v := 1) dX3_each_4 rfl ?_
  refine x_isub dX3_each_5 ?_
  obtain ⟨y1, ey1⟩ : ∃ z : Int32, z = ((s.1 26) - 1) := ⟨_, rfl⟩
  replace hT := hT y1 ey1
  refine x_istore_n (lo' := [some (.ref (w.1 3)), some (.ref x1), some (.int x2), some (.int y1), none, none, none, none, none]) dX3_each_6 rfl (Nat.le_of_ble_eq_true rfl) (by rw [ey1]; exact rfl) ?_
  refine x_aload_n dX3_each_7 rfl rfl rfl ?_
  refine c_getA dX3_each_8 f_TallySlate_Machine_17 (by decide) (by decide) rfl hW ?_
  refine x_iload_n dX3_each_11 rfl rfl ?_
  obtain ⟨hb, v2, ev, iv2, hT⟩ := hT
  refine c_aald (v := v2) dX3_each_12 rfl hb hW ev ?_
  refine x_astore (lo' := [some (.ref (w.1 3)), some (.ref x1), some (.int x2), some (.int y1), some (v2), none, none, none, none]) dX3_each_13 (Nat.le_of_ble_eq_true rfl) iv2 rfl ?_
  refine x_aload dX3_each_15 rfl iv2 ?_
  refine x_ifnonnull (tgt := 27) dX3_each_17 rfl iv2 (fun a3 e => ?_) (fun e => ?_)
  · subst e
    replace hT := hT.2 a3 rfl
    refine x_aload dX3_each_27 rfl rfl ?_
    obtain ⟨P10, hP, k9, hc, hT⟩ := hT
    have kr : ∀ r s6 f7, P10 (.inl r) s6 f7 → ∀ h, CW E w s6 f7 h → Frz f0 f7 → Ex l E (d + 1) MX3_each (29 + 3) [some (.ref (w.1 3)), some (.ref x1), some (.int x2), some (.int y1), some (.ref a3), none, none, none, none] (r.toList ++ []) h (PoC E w f0 Q) := by
      intro r s6 f7 h0 h hW hF
      have hT := hP _ _ _ h0
      clear h0
      obtain ⟨v8, rfl, hT⟩ := hT
      refine x_istore (lo' := [some (.ref (w.1 3)), some (.ref x1), some (.int x2), some (.int y1), some (.ref a3), some (.int v8), none, none, none]) dX3_each_32 (Nat.le_of_ble_eq_true rfl) rfl ?_
      refine x_iconst (v := 1) dX3_each_34 rfl ?_
      refine x_istore (lo' := [some (.ref (w.1 3)), some (.ref x1), some (.int x2), some (.int y1), some (.ref a3), some (.int v8), some (.int 1), none, none]) dX3_each_35 (Nat.le_of_ble_eq_true rfl) rfl ?_
      refine x_iconst (v := 1) dX3_each_37 rfl ?_
      refine x_istore (lo' := [some (.ref (w.1 3)), some (.ref x1), some (.int x2), some (.int y1), some (.ref a3), some (.int v8), some (.int 1), some (.int 1), none]) dX3_each_38 (Nat.le_of_ble_eq_true rfl) rfl ?_
      refine x_iconst (v := 0) dX3_each_40 rfl ?_
      refine x_istore (lo' := [some (.ref (w.1 3)), some (.ref x1), some (.int x2), some (.int y1), some (.ref a3), some (.int v8), some (.int 1), some (.int 1), some (.int 0)]) dX3_each_41 (Nat.le_of_ble_eq_true rfl) rfl ?_
      exact hT f0 h hW hF
    have kt : ∀ k s6 f7, P10 (.inr k) s6 f7 → ∀ h a, CW E w s6 f7 h → xA w h k a → Frz f0 f7 → ExT l E (d + 1) MX3_each 29 [some (.ref (w.1 3)), some (.ref x1), some (.int x2), some (.int y1), some (.ref a3), none, none, none, none] [] a h (PoC E w f0 Q) := by
      intro k s6 f7 h0 h a hW hx hF
      have hT := hP _ _ _ h0
      clear h0
      exact c_out (rfl) hW hx hF hT
    obtain ⟨cc, hcc⟩ := hW.ocell hc
    rcases hT with ⟨rfl, hT⟩ | ⟨rfl, hT⟩ | ⟨rfl, hT⟩ | ⟨rfl, hT⟩
    · exact c_invV (vs := []) dX3_each_29 oX32_size q1454 q1649 hcc q1453 (Or.inr hy_Thing_size) rfl rfl (Nat.le_of_ble_eq_true rfl) rfl hW hF hT kr kt
    · exact c_invV (vs := []) dX3_each_29 oX33_size q1457 q1649 hcc q1456 (Or.inr hy_Thing_size) rfl rfl (Nat.le_of_ble_eq_true rfl) rfl hW hF hT kr kt
    · exact c_invV (vs := []) dX3_each_29 oX34_size q1451 q1649 hcc q1450 (Or.inr hy_Thing_size) rfl rfl (Nat.le_of_ble_eq_true rfl) rfl hW hF hT kr kt
    · exact c_invV (vs := []) dX3_each_29 oX35_size q1460 q1649 hcc q1459 (Or.inr hy_Thing_size) rfl rfl (Nat.le_of_ble_eq_true rfl) rfl hW hF hT kr kt
  · subst e
    replace hT := hT.1 rfl
    refine x_aload_n dX3_each_20 rfl rfl rfl ?_
    refine x_iconst (v := 3) dX3_each_21 rfl ?_
    refine x_iload_n dX3_each_22 rfl rfl ?_
    obtain ⟨-, -, cc, hcc, -⟩ := hW.ob 3 (by decide)
    refine c_invV (vs := [.int 3, .int x2]) dX3_each_23 oX3_wrong q1323 q1322 hcc q1324 (Or.inl rfl) rfl rfl (Nat.le_of_ble_eq_true rfl) rfl hW hF hT ?_ ?_
    · intro _ s4 f5 hT h hW hF
      obtain ⟨rfl, hT⟩ := hT
      refine x_athrow dX3_each_26 ?_
      exact c_out (rfl) hW (Or.inl ⟨rfl, rfl⟩) hF hT
    · intro k s4 f5 hT h a hW hx hF
      exact c_out (rfl) hW hx hF hT
theorem eX3_each {l : Launch} {E : EN} {w : CO} {d : Nat} {s : CS} {f : RH} {Q : KO → CS → RH → Prop} {x1 : Nat} {x2 : Int32}  (hst : l.stackTraces = false) (hT : (∀ y1 : Int32, y1 = ((s.1 26) - 1) → (inB y1 8400 ∧ ∃ v2 : Value, (s.2.2.2 25 y1.toNatClampNeg) = v2 ∧ isR v2 = true ∧ ((v2 = .null → (EvC l E w d MX3_wrong [.ref (w.1 3), .int 3, .int x2] s f (fun o s4 f5 => KP o (fun r => r = some (.ref (w.1 9)) ∧ Q (.inr 9) s4 f5) (fun k => Q (.inr k) s4 f5)))) ∧ (∀ a3 : Nat, v2 = .ref a3 → (∃ P10 : KO → CS → RH → Prop, (∀ o s6 f7, P10 o s6 f7 → KP o (fun r => ∃ v8 : Int32, r = some (.int v8) ∧ ExC l E w (d + 1) MX3_each 43 [some (.ref (w.1 3)), some (.ref x1), some (.int x2), some (.int y1), some (.ref a3), some (.int v8), some (.int 1), some (.int 1), some (.int 0)] [] s6 f7 Q) (fun k => Q (.inr k) s6 f7)) ∧ ∃ k9 : Nat, oc f a3 k9 ∧ ((k9 = 29 ∧ EvC l E w d MX32_size [.ref a3] s f P10) ∨ (k9 = 30 ∧ EvC l E w d MX33_size [.ref a3] s f P10) ∨ (k9 = 31 ∧ EvC l E w d MX34_size [.ref a3] s f P10) ∨ (k9 = 32 ∧ EvC l E w d MX35_size [.ref a3] s f P10)))))))) : EvC l E w (d + 1) MX3_each [.ref (w.1 3), .ref x1, .int x2] s f Q :=
  EvC.of hst (by decide) (Nat.le_of_ble_eq_true rfl) (vX3_each_0  hT)
set_option maxHeartbeats 16000000 in
theorem vX3_each_43 {l : Launch} {E : EN} {w : CO} {d : Nat} {s : CS} {f : RH} {Q : KO → CS → RH → Prop} {b1 : Nat} {b2 : Int32} {b3 : Int32} {b4 : Nat} {b5 : Int32} {b6 : Int32} {b7 : Int32} {b8 : Int32}  (hT : ((b5 ≤ b8 → (isT f (.ref b4) ∧ ((tg f b4 = some (.inl 31) → (EvC l E w d MX6_packOf [.ref (w.1 6), .int (b3 + 1), .int b5, .int b2] s f (fun o s12 f13 => KP o (fun r => ∃ a14 : Nat, r = some (.ref a14) ∧ (EvC l E w d MX3_give_2 [.ref (w.1 3), .ref a14, .int (b5 + 1), .int b2] s12 f13 (fun o s15 f16 => KP o (fun r => r = none ∧ Q (.inl none) s15 f16) (fun k => Q (.inr k) s15 f16)))) (fun k => Q (.inr k) s12 f13)))) ∧ (¬ tg f b4 = some (.inl 31) → ((¬ b5 = 0 → ((b6 = 0 → ((b7 = 0 → (EvC l E w d MX3_wrong [.ref (w.1 3), .int 3, .int b2] s f (fun o s17 f18 => KP o (fun r => r = some (.ref (w.1 9)) ∧ Q (.inr 9) s17 f18) (fun k => Q (.inr k) s17 f18)))) ∧ (¬ b7 = 0 → (EvC l E w d MX6_tableOf [.ref (w.1 6), .int (b3 + 1), .int b5, .int b2] s f (fun o s19 f20 => KP o (fun r => ∃ a21 : Nat, r = some (.ref a21) ∧ (EvC l E w d MX3_give_2 [.ref (w.1 3), .ref a21, .int (b5 + 1), .int b2] s19 f20 (fun o s22 f23 => KP o (fun r => r = none ∧ Q (.inl none) s22 f23) (fun k => Q (.inr k) s22 f23)))) (fun k => Q (.inr k) s19 f20)))))) ∧ (¬ b6 = 0 → (EvC l E w d MX6_rowOf [.ref (w.1 6), .int (b3 + 1), .int b5, .int b2] s f (fun o s24 f25 => KP o (fun r => ∃ a26 : Nat, r = some (.ref a26) ∧ (EvC l E w d MX3_give_2 [.ref (w.1 3), .ref a26, .int (b5 + 1), .int b2] s24 f25 (fun o s27 f28 => KP o (fun r => r = none ∧ Q (.inl none) s27 f28) (fun k => Q (.inr k) s27 f28)))) (fun k => Q (.inr k) s24 f25)))))) ∧ (b5 = 0 → (isT f (.ref b4) ∧ ((tg f b4 = some (.inl 29) → (rmF E f 1 1 ∧ ∀ (a30 : Nat) (f31 : RH), a30 = f.1 → f31 = fnew f 29 → ((0 : Int32).toNatClampNeg ≤ 60000000 ∧ rmF E f31 1 (0 : Int32).toNatClampNeg ∧ ∀ (a32 : Nat) (f33 : RH), a32 = f31.1 → f33 = fnewA f31 0 (0 : Int32).toNatClampNeg → (EvC l E w d MX32_init [.ref a30, .ref a32] s f33 (fun o s34 f35 => KP o (fun r => r = none ∧ (EvC l E w d MX3_give_2 [.ref (w.1 3), .ref a30, .int (b5 + 1), .int b2] s34 f35 (fun o s36 f37 => KP o (fun r => r = none ∧ Q (.inl none) s36 f37) (fun k => Q (.inr k) s36 f37)))) (fun k => Q (.inr k) s34 f35)))))) ∧ (¬ tg f b4 = some (.inl 29) → (rmF E f 1 2 ∧ ∀ (a38 : Nat) (f39 : RH), a38 = f.1 → f39 = fnew f 30 → ((0 : Int32).toNatClampNeg ≤ 60000000 ∧ rmF E f39 1 (0 : Int32).toNatClampNeg ∧ ∀ (a40 : Nat) (f41 : RH), a40 = f39.1 → f41 = fnewA f39 11 (0 : Int32).toNatClampNeg → (EvC l E w d MX33_init [.ref a38, .ref a40] s f41 (fun o s42 f43 => KP o (fun r => r = none ∧ (EvC l E w d MX3_give_2 [.ref (w.1 3), .ref a38, .int (b5 + 1), .int b2] s42 f43 (fun o s44 f45 => KP o (fun r => r = none ∧ Q (.inl none) s44 f45) (fun k => Q (.inr k) s44 f45)))) (fun k => Q (.inr k) s42 f43)))))))))))))) ∧ (¬ b5 ≤ b8 → (EvC l E w d MX3_item [.ref (w.1 3), .int b3, .int b8] s f (fun o s46 f47 => KP o (fun r => r = none ∧ (EvC l E w d MX3_step [.ref (w.1 3), .int b2] s46 f47 (fun o s48 f49 => KP o (fun r => r = none ∧ (EvC l E w d MX3_call [.ref (w.1 3), .ref b1, .int b2] s48 f49 (fun o s50 f51 => KP o (fun r => r = none ∧ ((b6 = 0 → ((b7 = 0 → ExC l E w (d + 1) MX3_each 43 [some (.ref (w.1 3)), some (.ref b1), some (.int b2), some (.int b3), some (.ref b4), some (.int b5), some (.int 0), some (.int 0), some (.int (b8 + 1))] [] s50 f51 Q) ∧ (¬ b7 = 0 → (inB ((s50.1 26) - 1) 8400 ∧ ∃ v52 : Value, (s50.2.2.2 25 ((s50.1 26) - 1).toNatClampNeg) = v52 ∧ isR v52 = true ∧ (isT f51 v52 ∧ ((∀ a54 : Nat, v52 = .ref a54 → tg f51 a54 = some (.inl 29) → ExC l E w (d + 1) MX3_each 43 [some (.ref (w.1 3)), some (.ref b1), some (.int b2), some (.int b3), some (.ref b4), some (.int b5), some (.int 0), some (.int 1), some (.int (b8 + 1))] [] s50 f51 Q) ∧ ((∀ z : Nat, v52 = .ref z → ¬ tg f51 z = some (.inl 29)) → ExC l E w (d + 1) MX3_each 43 [some (.ref (w.1 3)), some (.ref b1), some (.int b2), some (.int b3), some (.ref b4), some (.int b5), some (.int 0), some (.int 0), some (.int (b8 + 1))] [] s50 f51 Q))))))) ∧ (¬ b6 = 0 → (EvC l E w d MX3_isInt [.ref (w.1 3), .int ((s50.1 26) - 1)] s50 f51 (fun o s55 f56 => KP o (fun r => ∃ v57 : Int32, r = some (.int v57) ∧ ((v57 = 0 → ((b7 = 0 → ExC l E w (d + 1) MX3_each 43 [some (.ref (w.1 3)), some (.ref b1), some (.int b2), some (.int b3), some (.ref b4), some (.int b5), some (.int 0), some (.int 0), some (.int (b8 + 1))] [] s55 f56 Q) ∧ (¬ b7 = 0 → (inB ((s55.1 26) - 1) 8400 ∧ ∃ v58 : Value, (s55.2.2.2 25 ((s55.1 26) - 1).toNatClampNeg) = v58 ∧ isR v58 = true ∧ (isT f56 v58 ∧ ((∀ a60 : Nat, v58 = .ref a60 → tg f56 a60 = some (.inl 29) → ExC l E w (d + 1) MX3_each 43 [some (.ref (w.1 3)), some (.ref b1), some (.int b2), some (.int b3), some (.ref b4), some (.int b5), some (.int 0), some (.int 1), some (.int (b8 + 1))] [] s55 f56 Q) ∧ ((∀ z : Nat, v58 = .ref z → ¬ tg f56 z = some (.inl 29)) → ExC l E w (d + 1) MX3_each 43 [some (.ref (w.1 3)), some (.ref b1), some (.int b2), some (.int b3), some (.ref b4), some (.int b5), some (.int 0), some (.int 0), some (.int (b8 + 1))] [] s55 f56 Q))))))) ∧ (¬ v57 = 0 → ((b7 = 0 → ExC l E w (d + 1) MX3_each 43 [some (.ref (w.1 3)), some (.ref b1), some (.int b2), some (.int b3), some (.ref b4), some (.int b5), some (.int 1), some (.int 0), some (.int (b8 + 1))] [] s55 f56 Q) ∧ (¬ b7 = 0 → (inB ((s55.1 26) - 1) 8400 ∧ ∃ v61 : Value, (s55.2.2.2 25 ((s55.1 26) - 1).toNatClampNeg) = v61 ∧ isR v61 = true ∧ (isT f56 v61 ∧ ((∀ a63 : Nat, v61 = .ref a63 → tg f56 a63 = some (.inl 29) → ExC l E w (d + 1) MX3_each 43 [some (.ref (w.1 3)), some (.ref b1), some (.int b2), some (.int b3), some (.ref b4), some (.int b5), some (.int 1), some (.int 1), some (.int (b8 + 1))] [] s55 f56 Q) ∧ ((∀ z : Nat, v61 = .ref z → ¬ tg f56 z = some (.inl 29)) → ExC l E w (d + 1) MX3_each 43 [some (.ref (w.1 3)), some (.ref b1), some (.int b2), some (.int b3), some (.ref b4), some (.int b5), some (.int 1), some (.int 0), some (.int (b8 + 1))] [] s55 f56 Q))))))))) (fun k => Q (.inr k) s55 f56)))))) (fun k => Q (.inr k) s50 f51)))) (fun k => Q (.inr k) s48 f49)))) (fun k => Q (.inr k) s46 f47)))))) : ExC l E w (d + 1) MX3_each 43 [some (.ref (w.1 3)), some (.ref b1), some (.int b2), some (.int b3), some (.ref b4), some (.int b5), some (.int b6), some (.int b7), some (.int b8)] [] s f Q := by
  intro f0 h hW hF
  refine x_iload dX3_each_43 rfl ?_
  refine x_iload dX3_each_45 rfl ?_
  refine x_icmp_ge (tgt := 128) dX3_each_47 rfl (fun c => ?_) (fun c => ?_)
  · replace hT := hT.1 c
    refine x_aload dX3_each_128 rfl rfl ?_
    obtain ⟨ht, hT⟩ := hT
    refine c_inst (K := 31) dX3_each_130 (by decide) q1534 ht hW (fun hi11 => ?_) (fun hi11 => ?_)
    · replace hT := hT.1 hi11
      refine x_if_eq (tgt := 154) dX3_each_133 rfl (fun c => absurd c (by decide)) (fun _ => ?_)
      refine x_aload_n dX3_each_136 rfl rfl rfl ?_
      refine c_getO dX3_each_137 f_TallySlate_Machine_50 (by decide) (by decide) rfl hW ?_
      refine x_iload_n dX3_each_140 rfl rfl ?_
      refine x_iconst (v := 1) dX3_each_141 rfl ?_
      refine x_iadd dX3_each_142 ?_
      refine x_iload dX3_each_143 rfl ?_
      refine x_iload_n dX3_each_145 rfl rfl ?_
      obtain ⟨-, -, cc, hcc, -⟩ := hW.ob 6 (by decide)
      refine c_invV (vs := [.int (b3 + 1), .int b5, .int b2]) dX3_each_146 oX6_packOf q1657 q1656 hcc q1658 (Or.inl rfl) rfl rfl (Nat.le_of_ble_eq_true rfl) rfl hW hF hT ?_ ?_
      · intro _ s12 f13 hT h hW hF
        obtain ⟨a14, rfl, hT⟩ := hT
        refine x_astore (lo' := [some (.ref (w.1 3)), some (.ref b1), some (.int b2), some (.int b3), some (.ref b4), some (.int b5), some (.int b6), some (.int b7), some (.ref a14)]) dX3_each_149 (Nat.le_of_ble_eq_true rfl) rfl rfl ?_
        refine x_goto (tgt := 249) dX3_each_151 rfl ?_
        refine x_aload_n dX3_each_249 rfl rfl rfl ?_
        refine x_aload dX3_each_250 rfl rfl ?_
        refine x_iload dX3_each_252 rfl ?_
        refine x_iconst (v := 1) dX3_each_254 rfl ?_
        refine x_iadd dX3_each_255 ?_
        refine x_iload_n dX3_each_256 rfl rfl ?_
        obtain ⟨-, -, cc, hcc, -⟩ := hW.ob 3 (by decide)
        refine c_invV (vs := [.ref a14, .int (b5 + 1), .int b2]) dX3_each_257 oX3_give_2 q1412 q1535 hcc q1413 (Or.inl rfl) rfl rfl (Nat.le_of_ble_eq_true rfl) rfl hW hF hT ?_ ?_
        · intro _ s15 f16 hT h hW hF
          obtain ⟨rfl, hT⟩ := hT
          exact x_vret dX3_each_260 rfl ⟨_, _, hW, hF, Or.inl ⟨_, rfl, hT⟩⟩
        · intro k s15 f16 hT h a hW hx hF
          exact c_out (rfl) hW hx hF hT
      · intro k s12 f13 hT h a hW hx hF
        exact c_out (rfl) hW hx hF hT
    · replace hT := hT.2 hi11
      refine x_if_eq (tgt := 154) dX3_each_133 rfl (fun _ => ?_) (fun c => absurd c (by decide))
      refine x_iload dX3_each_154 rfl ?_
      refine x_if_ne (tgt := 196) dX3_each_156 rfl (fun c => ?_) (fun c => ?_)
      · replace hT := hT.1 c
        refine x_iload dX3_each_196 rfl ?_
        refine x_if_eq (tgt := 219) dX3_each_198 rfl (fun c => ?_) (fun c => ?_)
        · replace hT := hT.1 c
          refine x_iload dX3_each_219 rfl ?_
          refine x_if_eq (tgt := 242) dX3_each_221 rfl (fun c => ?_) (fun c => ?_)
          · replace hT := hT.1 c
            refine x_aload_n dX3_each_242 rfl rfl rfl ?_
            refine x_iconst (v := 3) dX3_each_243 rfl ?_
            refine x_iload_n dX3_each_244 rfl rfl ?_
            obtain ⟨-, -, cc, hcc, -⟩ := hW.ob 3 (by decide)
            refine c_invV (vs := [.int 3, .int b2]) dX3_each_245 oX3_wrong q1323 q1322 hcc q1324 (Or.inl rfl) rfl rfl (Nat.le_of_ble_eq_true rfl) rfl hW hF hT ?_ ?_
            · intro _ s17 f18 hT h hW hF
              obtain ⟨rfl, hT⟩ := hT
              refine x_athrow dX3_each_248 ?_
              exact c_out (rfl) hW (Or.inl ⟨rfl, rfl⟩) hF hT
            · intro k s17 f18 hT h a hW hx hF
              exact c_out (rfl) hW hx hF hT
          · replace hT := hT.2 c
            refine x_aload_n dX3_each_224 rfl rfl rfl ?_
            refine c_getO dX3_each_225 f_TallySlate_Machine_50 (by decide) (by decide) rfl hW ?_
            refine x_iload_n dX3_each_228 rfl rfl ?_
            refine x_iconst (v := 1) dX3_each_229 rfl ?_
            refine x_iadd dX3_each_230 ?_
            refine x_iload dX3_each_231 rfl ?_
            refine x_iload_n dX3_each_233 rfl rfl ?_
            obtain ⟨-, -, cc, hcc, -⟩ := hW.ob 6 (by decide)
            refine c_invV (vs := [.int (b3 + 1), .int b5, .int b2]) dX3_each_234 oX6_tableOf q1618 q1617 hcc q1619 (Or.inl rfl) rfl rfl (Nat.le_of_ble_eq_true rfl) rfl hW hF hT ?_ ?_
            · intro _ s19 f20 hT h hW hF
              obtain ⟨a21, rfl, hT⟩ := hT
              refine x_astore (lo' := [some (.ref (w.1 3)), some (.ref b1), some (.int b2), some (.int b3), some (.ref b4), some (.int b5), some (.int b6), some (.int b7), some (.ref a21)]) dX3_each_237 (Nat.le_of_ble_eq_true rfl) rfl rfl ?_
              refine x_goto (tgt := 249) dX3_each_239 rfl ?_
              refine x_aload_n dX3_each_249 rfl rfl rfl ?_
              refine x_aload dX3_each_250 rfl rfl ?_
              refine x_iload dX3_each_252 rfl ?_
              refine x_iconst (v := 1) dX3_each_254 rfl ?_
              refine x_iadd dX3_each_255 ?_
              refine x_iload_n dX3_each_256 rfl rfl ?_
              obtain ⟨-, -, cc, hcc, -⟩ := hW.ob 3 (by decide)
              refine c_invV (vs := [.ref a21, .int (b5 + 1), .int b2]) dX3_each_257 oX3_give_2 q1412 q1535 hcc q1413 (Or.inl rfl) rfl rfl (Nat.le_of_ble_eq_true rfl) rfl hW hF hT ?_ ?_
              · intro _ s22 f23 hT h hW hF
                obtain ⟨rfl, hT⟩ := hT
                exact x_vret dX3_each_260 rfl ⟨_, _, hW, hF, Or.inl ⟨_, rfl, hT⟩⟩
              · intro k s22 f23 hT h a hW hx hF
                exact c_out (rfl) hW hx hF hT
            · intro k s19 f20 hT h a hW hx hF
              exact c_out (rfl) hW hx hF hT
        · replace hT := hT.2 c
          refine x_aload_n dX3_each_201 rfl rfl rfl ?_
          refine c_getO dX3_each_202 f_TallySlate_Machine_50 (by decide) (by decide) rfl hW ?_
          refine x_iload_n dX3_each_205 rfl rfl ?_
          refine x_iconst (v := 1) dX3_each_206 rfl ?_
          refine x_iadd dX3_each_207 ?_
          refine x_iload dX3_each_208 rfl ?_
          refine x_iload_n dX3_each_210 rfl rfl ?_
          obtain ⟨-, -, cc, hcc, -⟩ := hW.ob 6 (by decide)
          refine c_invV (vs := [.int (b3 + 1), .int b5, .int b2]) dX3_each_211 oX6_rowOf q1614 q1613 hcc q1615 (Or.inl rfl) rfl rfl (Nat.le_of_ble_eq_true rfl) rfl hW hF hT ?_ ?_
          · intro _ s24 f25 hT h hW hF
            obtain ⟨a26, rfl, hT⟩ := hT
            refine x_astore (lo' := [some (.ref (w.1 3)), some (.ref b1), some (.int b2), some (.int b3), some (.ref b4), some (.int b5), some (.int b6), some (.int b7), some (.ref a26)]) dX3_each_214 (Nat.le_of_ble_eq_true rfl) rfl rfl ?_
            refine x_goto (tgt := 249) dX3_each_216 rfl ?_
            refine x_aload_n dX3_each_249 rfl rfl rfl ?_
            refine x_aload dX3_each_250 rfl rfl ?_
            refine x_iload dX3_each_252 rfl ?_
            refine x_iconst (v := 1) dX3_each_254 rfl ?_
            refine x_iadd dX3_each_255 ?_
            refine x_iload_n dX3_each_256 rfl rfl ?_
            obtain ⟨-, -, cc, hcc, -⟩ := hW.ob 3 (by decide)
            refine c_invV (vs := [.ref a26, .int (b5 + 1), .int b2]) dX3_each_257 oX3_give_2 q1412 q1535 hcc q1413 (Or.inl rfl) rfl rfl (Nat.le_of_ble_eq_true rfl) rfl hW hF hT ?_ ?_
            · intro _ s27 f28 hT h hW hF
              obtain ⟨rfl, hT⟩ := hT
              exact x_vret dX3_each_260 rfl ⟨_, _, hW, hF, Or.inl ⟨_, rfl, hT⟩⟩
            · intro k s27 f28 hT h a hW hx hF
              exact c_out (rfl) hW hx hF hT
          · intro k s24 f25 hT h a hW hx hF
            exact c_out (rfl) hW hx hF hT
      · replace hT := hT.2 c
        refine x_aload dX3_each_159 rfl rfl ?_
        obtain ⟨ht, hT⟩ := hT
        refine c_inst (K := 29) dX3_each_161 (by decide) q1520 ht hW (fun hi29 => ?_) (fun hi29 => ?_)
        · replace hT := hT.1 hi29
          refine x_if_eq (tgt := 180) dX3_each_164 rfl (fun c => absurd c (by decide)) (fun _ => ?_)
          obtain ⟨hr, hT⟩ := hT
          refine c_newG (k := 29) dX3_each_167 (by decide) q1520 q205 hr hW hF ?_
          intro a30 f31 ea30 ef31 h hW hF
          replace hT := hT a30 f31 ea30 ef31
          refine x_dup dX3_each_170 rfl ?_
          refine x_iconst (v := 0) dX3_each_171 rfl ?_
          have hn : ¬ ((0 : Int32) < 0) := by decide
          obtain ⟨hb, hr, hT⟩ := hT
          refine c_newarrayG (t := 0) dX3_each_172 (by decide) rfl hn hb hr hW hF ?_
          intro a32 f33 ea32 ef33 h hW hF
          replace hT := hT a32 f33 ea32 ef33
          refine c_invI (b := a30) (vs := [.ref a32]) dX3_each_174 oX32_init rfl rfl rfl q1396 (Or.inl q1676) rfl rfl (Nat.le_of_ble_eq_true rfl) rfl hW hF hT ?_ ?_
          · intro _ s34 f35 hT h hW hF
            obtain ⟨rfl, hT⟩ := hT
            refine x_goto (tgt := 191) dX3_each_177 rfl ?_
            refine x_astore (lo' := [some (.ref (w.1 3)), some (.ref b1), some (.int b2), some (.int b3), some (.ref b4), some (.int b5), some (.int b6), some (.int b7), some (.ref a30)]) dX3_each_191 (Nat.le_of_ble_eq_true rfl) rfl rfl ?_
            refine x_goto (tgt := 249) dX3_each_193 rfl ?_
            refine x_aload_n dX3_each_249 rfl rfl rfl ?_
            refine x_aload dX3_each_250 rfl rfl ?_
            refine x_iload dX3_each_252 rfl ?_
            refine x_iconst (v := 1) dX3_each_254 rfl ?_
            refine x_iadd dX3_each_255 ?_
            refine x_iload_n dX3_each_256 rfl rfl ?_
            obtain ⟨-, -, cc, hcc, -⟩ := hW.ob 3 (by decide)
            refine c_invV (vs := [.ref a30, .int (b5 + 1), .int b2]) dX3_each_257 oX3_give_2 q1412 q1535 hcc q1413 (Or.inl rfl) rfl rfl (Nat.le_of_ble_eq_true rfl) rfl hW hF hT ?_ ?_
            · intro _ s36 f37 hT h hW hF
              obtain ⟨rfl, hT⟩ := hT
              exact x_vret dX3_each_260 rfl ⟨_, _, hW, hF, Or.inl ⟨_, rfl, hT⟩⟩
            · intro k s36 f37 hT h a hW hx hF
              exact c_out (rfl) hW hx hF hT
          · intro k s34 f35 hT h a hW hx hF
            exact c_out (rfl) hW hx hF hT
        · replace hT := hT.2 hi29
          refine x_if_eq (tgt := 180) dX3_each_164 rfl (fun _ => ?_) (fun c => absurd c (by decide))
          obtain ⟨hr, hT⟩ := hT
          refine c_newG (k := 30) dX3_each_180 (by decide) q1526 q206 hr hW hF ?_
          intro a38 f39 ea38 ef39 h hW hF
          replace hT := hT a38 f39 ea38 ef39
          refine x_dup dX3_each_183 rfl ?_
          refine x_iconst (v := 0) dX3_each_184 rfl ?_
          have hn : ¬ ((0 : Int32) < 0) := by decide
          obtain ⟨hb, hr, hT⟩ := hT
          refine c_anewarrayG (t := 11) dX3_each_185 (by decide) (by decide) (by decide) rfl q1463 (Or.inr ⟨_, rfl, q1677⟩) hn hb hr hW hF ?_
          intro a40 f41 ea40 ef41 h hW hF
          replace hT := hT a40 f41 ea40 ef41
          refine c_invI (b := a38) (vs := [.ref a40]) dX3_each_188 oX33_init rfl rfl rfl q1469 (Or.inl q1678) rfl rfl (Nat.le_of_ble_eq_true rfl) rfl hW hF hT ?_ ?_
          · intro _ s42 f43 hT h hW hF
            obtain ⟨rfl, hT⟩ := hT
            refine x_astore (lo' := [some (.ref (w.1 3)), some (.ref b1), some (.int b2), some (.int b3), some (.ref b4), some (.int b5), some (.int b6), some (.int b7), some (.ref a38)]) dX3_each_191 (Nat.le_of_ble_eq_true rfl) rfl rfl ?_
            refine x_goto (tgt := 249) dX3_each_193 rfl ?_
            refine x_aload_n dX3_each_249 rfl rfl rfl ?_
            refine x_aload dX3_each_250 rfl rfl ?_
            refine x_iload dX3_each_252 rfl ?_
            refine x_iconst (v := 1) dX3_each_254 rfl ?_
            refine x_iadd dX3_each_255 ?_
            refine x_iload_n dX3_each_256 rfl rfl ?_
            obtain ⟨-, -, cc, hcc, -⟩ := hW.ob 3 (by decide)
            refine c_invV (vs := [.ref a38, .int (b5 + 1), .int b2]) dX3_each_257 oX3_give_2 q1412 q1535 hcc q1413 (Or.inl rfl) rfl rfl (Nat.le_of_ble_eq_true rfl) rfl hW hF hT ?_ ?_
            · intro _ s44 f45 hT h hW hF
              obtain ⟨rfl, hT⟩ := hT
              exact x_vret dX3_each_260 rfl ⟨_, _, hW, hF, Or.inl ⟨_, rfl, hT⟩⟩
            · intro k s44 f45 hT h a hW hx hF
              exact c_out (rfl) hW hx hF hT
          · intro k s42 f43 hT h a hW hx hF
            exact c_out (rfl) hW hx hF hT
  · replace hT := hT.2 c
    refine x_aload_n dX3_each_50 rfl rfl rfl ?_
    refine x_iload_n dX3_each_51 rfl rfl ?_
    refine x_iload dX3_each_52 rfl ?_
    obtain ⟨-, -, cc, hcc, -⟩ := hW.ob 3 (by decide)
    refine c_invV (vs := [.int b3, .int b8]) dX3_each_54 oX3_item q1651 q1650 hcc q1652 (Or.inl rfl) rfl rfl (Nat.le_of_ble_eq_true rfl) rfl hW hF hT ?_ ?_
    · intro _ s46 f47 hT h hW hF
      obtain ⟨rfl, hT⟩ := hT
      refine x_aload_n dX3_each_57 rfl rfl rfl ?_
      refine x_iload_n dX3_each_58 rfl rfl ?_
      obtain ⟨-, -, cc, hcc, -⟩ := hW.ob 3 (by decide)
      refine c_invV (vs := [.int b2]) dX3_each_59 oX3_step q1332 q1654 hcc q1333 (Or.inl rfl) rfl rfl (Nat.le_of_ble_eq_true rfl) rfl hW hF hT ?_ ?_
      · intro _ s48 f49 hT h hW hF
        obtain ⟨rfl, hT⟩ := hT
        refine x_aload_n dX3_each_62 rfl rfl rfl ?_
        refine x_aload_n dX3_each_63 rfl rfl rfl ?_
        refine x_iload_n dX3_each_64 rfl rfl ?_
        obtain ⟨-, -, cc, hcc, -⟩ := hW.ob 3 (by decide)
        refine c_invV (vs := [.ref b1, .int b2]) dX3_each_65 oX3_call q1319 q1655 hcc q1320 (Or.inl rfl) rfl rfl (Nat.le_of_ble_eq_true rfl) rfl hW hF hT ?_ ?_
        · intro _ s50 f51 hT h hW hF
          obtain ⟨rfl, hT⟩ := hT
          refine x_iload dX3_each_68 rfl ?_
          refine x_if_eq (tgt := 90) dX3_each_70 rfl (fun c => ?_) (fun c => ?_)
          · replace hT := hT.1 c
            refine x_iconst (v := 0) dX3_each_90 rfl ?_
            refine x_istore (lo' := [some (.ref (w.1 3)), some (.ref b1), some (.int b2), some (.int b3), some (.ref b4), some (.int b5), some (.int 0), some (.int b7), some (.int b8)]) dX3_each_91 (Nat.le_of_ble_eq_true rfl) rfl ?_
            refine x_iload dX3_each_93 rfl ?_
            refine x_if_eq (tgt := 119) dX3_each_95 rfl (fun c => ?_) (fun c => ?_)
            · replace hT := hT.1 c
              refine x_iconst (v := 0) dX3_each_119 rfl ?_
              refine x_istore (lo' := [some (.ref (w.1 3)), some (.ref b1), some (.int b2), some (.int b3), some (.ref b4), some (.int b5), some (.int 0), some (.int 0), some (.int b8)]) dX3_each_120 (Nat.le_of_ble_eq_true rfl) rfl ?_
              refine x_iinc (lo' := [some (.ref (w.1 3)), some (.ref b1), some (.int b2), some (.int b3), some (.ref b4), some (.int b5), some (.int 0), some (.int 0), some (.int (b8 + 1))]) dX3_each_122 rfl (show _ = (b8 + 1) from rfl) rfl ?_
              refine x_goto (tgt := 43) dX3_each_125 rfl ?_
              exact hT f0 h hW hF
            · replace hT := hT.2 c
              refine x_aload_n dX3_each_98 rfl rfl rfl ?_
              refine c_getA dX3_each_99 f_TallySlate_Machine_17 (by decide) (by decide) rfl hW ?_
              refine x_aload_n dX3_each_102 rfl rfl rfl ?_
              refine c_getI (v := (s50.1 26)) dX3_each_103 f_TallySlate_Machine_75 (by decide) (by decide) rfl hW rfl ?_
              refine x_iconst (v := 1) dX3_each_106 rfl ?_
              refine x_isub dX3_each_107 ?_
              obtain ⟨hb, v52, ev, iv52, hT⟩ := hT
              refine c_aald (v := v52) dX3_each_108 rfl hb hW ev ?_
              obtain ⟨ht, hT⟩ := hT
              refine c_instV (K := 29) dX3_each_109 (by decide) q1520 ht hW (fun a54 ec hi53 => ?_) (fun hi53 => ?_)
              · subst ec
                replace hT := hT.1 a54 rfl hi53
                refine x_if_eq (tgt := 119) dX3_each_112 rfl (fun c => absurd c (by decide)) (fun _ => ?_)
                refine x_iconst (v := 1) dX3_each_115 rfl ?_
                refine x_goto (tgt := 120) dX3_each_116 rfl ?_
                refine x_istore (lo' := [some (.ref (w.1 3)), some (.ref b1), some (.int b2), some (.int b3), some (.ref b4), some (.int b5), some (.int 0), some (.int 1), some (.int b8)]) dX3_each_120 (Nat.le_of_ble_eq_true rfl) rfl ?_
                refine x_iinc (lo' := [some (.ref (w.1 3)), some (.ref b1), some (.int b2), some (.int b3), some (.ref b4), some (.int b5), some (.int 0), some (.int 1), some (.int (b8 + 1))]) dX3_each_122 rfl (show _ = (b8 + 1) from rfl) rfl ?_
                refine x_goto (tgt := 43) dX3_each_125 rfl ?_
                exact hT f0 h hW hF
              · replace hT := hT.2 hi53
                refine x_if_eq (tgt := 119) dX3_each_112 rfl (fun _ => ?_) (fun c => absurd c (by decide))
                refine x_iconst (v := 0) dX3_each_119 rfl ?_
                refine x_istore (lo' := [some (.ref (w.1 3)), some (.ref b1), some (.int b2), some (.int b3), some (.ref b4), some (.int b5), some (.int 0), some (.int 0), some (.int b8)]) dX3_each_120 (Nat.le_of_ble_eq_true rfl) rfl ?_
                refine x_iinc (lo' := [some (.ref (w.1 3)), some (.ref b1), some (.int b2), some (.int b3), some (.ref b4), some (.int b5), some (.int 0), some (.int 0), some (.int (b8 + 1))]) dX3_each_122 rfl (show _ = (b8 + 1) from rfl) rfl ?_
                refine x_goto (tgt := 43) dX3_each_125 rfl ?_
                exact hT f0 h hW hF
          · replace hT := hT.2 c
            refine x_aload_n dX3_each_73 rfl rfl rfl ?_
            refine x_aload_n dX3_each_74 rfl rfl rfl ?_
            refine c_getI (v := (s50.1 26)) dX3_each_75 f_TallySlate_Machine_75 (by decide) (by decide) rfl hW rfl ?_
            refine x_iconst (v := 1) dX3_each_78 rfl ?_
            refine x_isub dX3_each_79 ?_
            obtain ⟨-, -, cc, hcc, -⟩ := hW.ob 3 (by decide)
            refine c_invV (vs := [.int ((s50.1 26) - 1)]) dX3_each_80 oX3_isInt q1610 q1609 hcc q1611 (Or.inl rfl) rfl rfl (Nat.le_of_ble_eq_true rfl) rfl hW hF hT ?_ ?_
            · intro _ s55 f56 hT h hW hF
              obtain ⟨v57, rfl, hT⟩ := hT
              refine x_if_eq (tgt := 90) dX3_each_83 rfl (fun c => ?_) (fun c => ?_)
              · replace hT := hT.1 c
                refine x_iconst (v := 0) dX3_each_90 rfl ?_
                refine x_istore (lo' := [some (.ref (w.1 3)), some (.ref b1), some (.int b2), some (.int b3), some (.ref b4), some (.int b5), some (.int 0), some (.int b7), some (.int b8)]) dX3_each_91 (Nat.le_of_ble_eq_true rfl) rfl ?_
                refine x_iload dX3_each_93 rfl ?_
                refine x_if_eq (tgt := 119) dX3_each_95 rfl (fun c => ?_) (fun c => ?_)
                · replace hT := hT.1 c
                  refine x_iconst (v := 0) dX3_each_119 rfl ?_
                  refine x_istore (lo' := [some (.ref (w.1 3)), some (.ref b1), some (.int b2), some (.int b3), some (.ref b4), some (.int b5), some (.int 0), some (.int 0), some (.int b8)]) dX3_each_120 (Nat.le_of_ble_eq_true rfl) rfl ?_
                  refine x_iinc (lo' := [some (.ref (w.1 3)), some (.ref b1), some (.int b2), some (.int b3), some (.ref b4), some (.int b5), some (.int 0), some (.int 0), some (.int (b8 + 1))]) dX3_each_122 rfl (show _ = (b8 + 1) from rfl) rfl ?_
                  refine x_goto (tgt := 43) dX3_each_125 rfl ?_
                  exact hT f0 h hW hF
                · replace hT := hT.2 c
                  refine x_aload_n dX3_each_98 rfl rfl rfl ?_
                  refine c_getA dX3_each_99 f_TallySlate_Machine_17 (by decide) (by decide) rfl hW ?_
                  refine x_aload_n dX3_each_102 rfl rfl rfl ?_
                  refine c_getI (v := (s55.1 26)) dX3_each_103 f_TallySlate_Machine_75 (by decide) (by decide) rfl hW rfl ?_
                  refine x_iconst (v := 1) dX3_each_106 rfl ?_
                  refine x_isub dX3_each_107 ?_
                  obtain ⟨hb, v58, ev, iv58, hT⟩ := hT
                  refine c_aald (v := v58) dX3_each_108 rfl hb hW ev ?_
                  obtain ⟨ht, hT⟩ := hT
                  refine c_instV (K := 29) dX3_each_109 (by decide) q1520 ht hW (fun a60 ec hi59 => ?_) (fun hi59 => ?_)
                  · subst ec
                    replace hT := hT.1 a60 rfl hi59
                    refine x_if_eq (tgt := 119) dX3_each_112 rfl (fun c => absurd c (by decide)) (fun _ => ?_)
                    refine x_iconst (v := 1) dX3_each_115 rfl ?_
                    refine x_goto (tgt := 120) dX3_each_116 rfl ?_
                    refine x_istore (lo' := [some (.ref (w.1 3)), some (.ref b1), some (.int b2), some (.int b3), some (.ref b4), some (.int b5), some (.int 0), some (.int 1), some (.int b8)]) dX3_each_120 (Nat.le_of_ble_eq_true rfl) rfl ?_
                    refine x_iinc (lo' := [some (.ref (w.1 3)), some (.ref b1), some (.int b2), some (.int b3), some (.ref b4), some (.int b5), some (.int 0), some (.int 1), some (.int (b8 + 1))]) dX3_each_122 rfl (show _ = (b8 + 1) from rfl) rfl ?_
                    refine x_goto (tgt := 43) dX3_each_125 rfl ?_
                    exact hT f0 h hW hF
                  · replace hT := hT.2 hi59
                    refine x_if_eq (tgt := 119) dX3_each_112 rfl (fun _ => ?_) (fun c => absurd c (by decide))
                    refine x_iconst (v := 0) dX3_each_119 rfl ?_
                    refine x_istore (lo' := [some (.ref (w.1 3)), some (.ref b1), some (.int b2), some (.int b3), some (.ref b4), some (.int b5), some (.int 0), some (.int 0), some (.int b8)]) dX3_each_120 (Nat.le_of_ble_eq_true rfl) rfl ?_
                    refine x_iinc (lo' := [some (.ref (w.1 3)), some (.ref b1), some (.int b2), some (.int b3), some (.ref b4), some (.int b5), some (.int 0), some (.int 0), some (.int (b8 + 1))]) dX3_each_122 rfl (show _ = (b8 + 1) from rfl) rfl ?_
                    refine x_goto (tgt := 43) dX3_each_125 rfl ?_
                    exact hT f0 h hW hF
              · replace hT := hT.2 c
                refine x_iconst (v := 1) dX3_each_86 rfl ?_
                refine x_goto (tgt := 91) dX3_each_87 rfl ?_
                refine x_istore (lo' := [some (.ref (w.1 3)), some (.ref b1), some (.int b2), some (.int b3), some (.ref b4), some (.int b5), some (.int 1), some (.int b7), some (.int b8)]) dX3_each_91 (Nat.le_of_ble_eq_true rfl) rfl ?_
                refine x_iload dX3_each_93 rfl ?_
                refine x_if_eq (tgt := 119) dX3_each_95 rfl (fun c => ?_) (fun c => ?_)
                · replace hT := hT.1 c
                  refine x_iconst (v := 0) dX3_each_119 rfl ?_
                  refine x_istore (lo' := [some (.ref (w.1 3)), some (.ref b1), some (.int b2), some (.int b3), some (.ref b4), some (.int b5), some (.int 1), some (.int 0), some (.int b8)]) dX3_each_120 (Nat.le_of_ble_eq_true rfl) rfl ?_
                  refine x_iinc (lo' := [some (.ref (w.1 3)), some (.ref b1), some (.int b2), some (.int b3), some (.ref b4), some (.int b5), some (.int 1), some (.int 0), some (.int (b8 + 1))]) dX3_each_122 rfl (show _ = (b8 + 1) from rfl) rfl ?_
                  refine x_goto (tgt := 43) dX3_each_125 rfl ?_
                  exact hT f0 h hW hF
                · replace hT := hT.2 c
                  refine x_aload_n dX3_each_98 rfl rfl rfl ?_
                  refine c_getA dX3_each_99 f_TallySlate_Machine_17 (by decide) (by decide) rfl hW ?_
                  refine x_aload_n dX3_each_102 rfl rfl rfl ?_
                  refine c_getI (v := (s55.1 26)) dX3_each_103 f_TallySlate_Machine_75 (by decide) (by decide) rfl hW rfl ?_
                  refine x_iconst (v := 1) dX3_each_106 rfl ?_
                  refine x_isub dX3_each_107 ?_
                  obtain ⟨hb, v61, ev, iv61, hT⟩ := hT
                  refine c_aald (v := v61) dX3_each_108 rfl hb hW ev ?_
                  obtain ⟨ht, hT⟩ := hT
                  refine c_instV (K := 29) dX3_each_109 (by decide) q1520 ht hW (fun a63 ec hi62 => ?_) (fun hi62 => ?_)
                  · subst ec
                    replace hT := hT.1 a63 rfl hi62
                    refine x_if_eq (tgt := 119) dX3_each_112 rfl (fun c => absurd c (by decide)) (fun _ => ?_)
                    refine x_iconst (v := 1) dX3_each_115 rfl ?_
                    refine x_goto (tgt := 120) dX3_each_116 rfl ?_
                    refine x_istore (lo' := [some (.ref (w.1 3)), some (.ref b1), some (.int b2), some (.int b3), some (.ref b4), some (.int b5), some (.int 1), some (.int 1), some (.int b8)]) dX3_each_120 (Nat.le_of_ble_eq_true rfl) rfl ?_
                    refine x_iinc (lo' := [some (.ref (w.1 3)), some (.ref b1), some (.int b2), some (.int b3), some (.ref b4), some (.int b5), some (.int 1), some (.int 1), some (.int (b8 + 1))]) dX3_each_122 rfl (show _ = (b8 + 1) from rfl) rfl ?_
                    refine x_goto (tgt := 43) dX3_each_125 rfl ?_
                    exact hT f0 h hW hF
                  · replace hT := hT.2 hi62
                    refine x_if_eq (tgt := 119) dX3_each_112 rfl (fun _ => ?_) (fun c => absurd c (by decide))
                    refine x_iconst (v := 0) dX3_each_119 rfl ?_
                    refine x_istore (lo' := [some (.ref (w.1 3)), some (.ref b1), some (.int b2), some (.int b3), some (.ref b4), some (.int b5), some (.int 1), some (.int 0), some (.int b8)]) dX3_each_120 (Nat.le_of_ble_eq_true rfl) rfl ?_
                    refine x_iinc (lo' := [some (.ref (w.1 3)), some (.ref b1), some (.int b2), some (.int b3), some (.ref b4), some (.int b5), some (.int 1), some (.int 0), some (.int (b8 + 1))]) dX3_each_122 rfl (show _ = (b8 + 1) from rfl) rfl ?_
                    refine x_goto (tgt := 43) dX3_each_125 rfl ?_
                    exact hT f0 h hW hF
            · intro k s55 f56 hT h a hW hx hF
              exact c_out (rfl) hW hx hF hT
        · intro k s50 f51 hT h a hW hx hF
          exact c_out (rfl) hW hx hF hT
      · intro k s48 f49 hT h a hW hx hF
        exact c_out (rfl) hW hx hF hT
    · intro k s46 f47 hT h a hW hx hF
      exact c_out (rfl) hW hx hF hT
set_option maxHeartbeats 16000000 in
theorem vX3_item_0 {l : Launch} {E : EN} {w : CO} {d : Nat} {s : CS} {f : RH} {Q : KO → CS → RH → Prop} {x1 : Int32} {x2 : Int32}  (hT : (inB x1 8400 ∧ ∃ v1 : Value, (s.2.2.2 25 x1.toNatClampNeg) = v1 ∧ isR v1 = true ∧ ((v1 = .null → (EvC l E w d MX3_push [.ref (w.1 3), .int x2] s f (fun o s3 f4 => KP o (fun r => r = none ∧ Q (.inl none) s3 f4) (fun k => Q (.inr k) s3 f4)))) ∧ (∀ a2 : Nat, v1 = .ref a2 → (isT f (.ref a2) ∧ ((tg f a2 = some (.inl 29) → (tg f a2 = some (.inl 29) ∧ (oc f a2 29 ∧ (∃ a6 : Nat, vl f a2 203 = .ref a6 ∧ (tg f a6 = some (.inr 0) ∧ inB x2 (ln f a6) ∧ (∃ v7 : Int32, vl f a6 x2.toNatClampNeg = .int v7 ∧ (EvC l E w d MX3_push [.ref (w.1 3), .int v7] s f (fun o s8 f9 => KP o (fun r => r = none ∧ Q (.inl none) s8 f9) (fun k => Q (.inr k) s8 f9))))))))) ∧ (¬ tg f a2 = some (.inl 29) → (isT f (.ref a2) ∧ ((tg f a2 = some (.inl 30) → (tg f a2 = some (.inl 30) ∧ (oc f a2 30 ∧ EvC l E w d MX33_row [.ref a2, .int x2] s f (fun o s11 f12 => KP o (fun r => ∃ a13 : Nat, r = some (.ref a13) ∧ (EvC l E w d MX3_push_2 [.ref (w.1 3), .ref a13] s11 f12 (fun o s14 f15 => KP o (fun r => r = none ∧ Q (.inl none) s14 f15) (fun k => Q (.inr k) s14 f15)))) (fun k => Q (.inr k) s11 f12))))) ∧ (¬ tg f a2 = some (.inl 30) → (tg f a2 = some (.inl 31) ∧ (oc f a2 31 ∧ (∃ a17 : Nat, vl f a2 206 = .ref a17 ∧ (∃ t18 : Nat, 4 ≤ t18 ∧ (tg f a17 = some (.inr t18) ∧ inB x2 (ln f a17) ∧ (∃ a19 : Nat, vl f a17 x2.toNatClampNeg = .ref a19 ∧ (EvC l E w d MX3_push_2 [.ref (w.1 3), .ref a19] s f (fun o s20 f21 => KP o (fun r => r = none ∧ Q (.inl none) s20 f21) (fun k => Q (.inr k) s20 f21))))))))))))))))))) : ExC l E w (d + 1) MX3_item 0 [some (.ref (w.1 3)), some (.int x1), some (.int x2), none, none, none] [] s f Q := by
  intro f0 h hW hF
  refine x_aload_n dX3_item_0 rfl rfl rfl ?_
  refine c_getA dX3_item_1 f_TallySlate_Machine_17 (by decide) (by decide) rfl hW ?_
  refine x_iload_n dX3_item_4 rfl rfl ?_
  obtain ⟨hb, v1, ev, iv1, hT⟩ := hT
  refine c_aald (v := v1) dX3_item_5 rfl hb hW ev ?_
  refine x_astore_n (lo' := [some (.ref (w.1 3)), some (.int x1), some (.int x2), some (v1), none, none]) dX3_item_6 rfl (Nat.le_of_ble_eq_true rfl) iv1 rfl ?_
  refine x_aload_n dX3_item_7 rfl rfl iv1 ?_
  refine x_ifnonnull (tgt := 19) dX3_item_8 rfl iv1 (fun a2 e => ?_) (fun e => ?_)
  · subst e
    replace hT := hT.2 a2 rfl
    refine x_aload_n dX3_item_19 rfl rfl rfl ?_
    obtain ⟨ht, hT⟩ := hT
    refine c_inst (K := 29) dX3_item_20 (by decide) q1520 ht hW (fun hi5 => ?_) (fun hi5 => ?_)
    · replace hT := hT.1 hi5
      refine x_if_eq (tgt := 46) dX3_item_23 rfl (fun c => absurd c (by decide)) (fun _ => ?_)
      refine x_aload_n dX3_item_26 rfl rfl rfl ?_
      obtain ⟨hc, hT⟩ := hT
      refine c_cast (K := 29) dX3_item_27 q1520 hc hW ?_
      refine x_astore (lo' := [some (.ref (w.1 3)), some (.int x1), some (.int x2), some (.ref a2), some (.ref a2), none]) dX3_item_30 (Nat.le_of_ble_eq_true rfl) rfl rfl ?_
      refine x_aload_n dX3_item_32 rfl rfl rfl ?_
      refine x_aload dX3_item_33 rfl rfl ?_
      obtain ⟨hc, hT⟩ := hT
      obtain ⟨a6, ev, hT⟩ := hT
      refine c_fgetG dX3_item_35 f_TallySlate_Machine_164 hc (by decide) (by decide) hW ev ?_
      refine x_iload_n dX3_item_38 rfl rfl ?_
      obtain ⟨hc, hT⟩ := hT
      obtain ⟨hb, hT⟩ := hT
      obtain ⟨v7, ev, hT⟩ := hT
      refine c_fiald dX3_item_39 hc hb hW ev ?_
      obtain ⟨-, -, cc, hcc, -⟩ := hW.ob 3 (by decide)
      refine c_invV (vs := [.int v7]) dX3_item_40 oX3_push q1364 q1363 hcc q1365 (Or.inl rfl) rfl rfl (Nat.le_of_ble_eq_true rfl) rfl hW hF hT ?_ ?_
      · intro _ s8 f9 hT h hW hF
        obtain ⟨rfl, hT⟩ := hT
        refine x_goto (tgt := 85) dX3_item_43 rfl ?_
        exact x_vret dX3_item_85 rfl ⟨_, _, hW, hF, Or.inl ⟨_, rfl, hT⟩⟩
      · intro k s8 f9 hT h a hW hx hF
        exact c_out (rfl) hW hx hF hT
    · replace hT := hT.2 hi5
      refine x_if_eq (tgt := 46) dX3_item_23 rfl (fun _ => ?_) (fun c => absurd c (by decide))
      refine x_aload_n dX3_item_46 rfl rfl rfl ?_
      obtain ⟨ht, hT⟩ := hT
      refine c_inst (K := 30) dX3_item_47 (by decide) q1526 ht hW (fun hi10 => ?_) (fun hi10 => ?_)
      · replace hT := hT.1 hi10
        refine x_if_eq (tgt := 72) dX3_item_50 rfl (fun c => absurd c (by decide)) (fun _ => ?_)
        refine x_aload_n dX3_item_53 rfl rfl rfl ?_
        obtain ⟨hc, hT⟩ := hT
        refine c_cast (K := 30) dX3_item_54 q1526 hc hW ?_
        refine x_astore (lo' := [some (.ref (w.1 3)), some (.int x1), some (.int x2), some (.ref a2), none, some (.ref a2)]) dX3_item_57 (Nat.le_of_ble_eq_true rfl) rfl rfl ?_
        refine x_aload_n dX3_item_59 rfl rfl rfl ?_
        refine x_aload dX3_item_60 rfl rfl ?_
        refine x_iload_n dX3_item_62 rfl rfl ?_
        obtain ⟨hc, hT⟩ := hT
        obtain ⟨cc, hcc⟩ := hW.ocell hc
        refine c_invV (vs := [.int x2]) dX3_item_63 oX33_row q1528 q1527 hcc q1529 (Or.inl rfl) rfl rfl (Nat.le_of_ble_eq_true rfl) rfl hW hF hT ?_ ?_
        · intro _ s11 f12 hT h hW hF
          obtain ⟨a13, rfl, hT⟩ := hT
          obtain ⟨-, -, cc, hcc, -⟩ := hW.ob 3 (by decide)
          refine c_invV (vs := [.ref a13]) dX3_item_66 oX3_push_2 q1439 q1438 hcc q1440 (Or.inl rfl) rfl rfl (Nat.le_of_ble_eq_true rfl) rfl hW hF hT ?_ ?_
          · intro _ s14 f15 hT h hW hF
            obtain ⟨rfl, hT⟩ := hT
            refine x_goto (tgt := 85) dX3_item_69 rfl ?_
            exact x_vret dX3_item_85 rfl ⟨_, _, hW, hF, Or.inl ⟨_, rfl, hT⟩⟩
          · intro k s14 f15 hT h a hW hx hF
            exact c_out (rfl) hW hx hF hT
        · intro k s11 f12 hT h a hW hx hF
          exact c_out (rfl) hW hx hF hT
      · replace hT := hT.2 hi10
        refine x_if_eq (tgt := 72) dX3_item_50 rfl (fun _ => ?_) (fun c => absurd c (by decide))
        refine x_aload_n dX3_item_72 rfl rfl rfl ?_
        refine x_aload_n dX3_item_73 rfl rfl rfl ?_
        obtain ⟨hc, hT⟩ := hT
        refine c_cast (K := 31) dX3_item_74 q1534 hc hW ?_
        obtain ⟨hc, hT⟩ := hT
        obtain ⟨a17, ev, hT⟩ := hT
        refine c_fgetG dX3_item_77 f_TallySlate_Machine_173 hc (by decide) (by decide) hW ev ?_
        refine x_iload_n dX3_item_80 rfl rfl ?_
        obtain ⟨t18, ht2, hc, hT⟩ := hT
        obtain ⟨hb, hT⟩ := hT
        obtain ⟨a19, ev, hT⟩ := hT
        refine c_faald dX3_item_81 hc ht2 hb hW ev ?_
        obtain ⟨-, -, cc, hcc, -⟩ := hW.ob 3 (by decide)
        refine c_invV (vs := [.ref a19]) dX3_item_82 oX3_push_2 q1439 q1438 hcc q1440 (Or.inl rfl) rfl rfl (Nat.le_of_ble_eq_true rfl) rfl hW hF hT ?_ ?_
        · intro _ s20 f21 hT h hW hF
          obtain ⟨rfl, hT⟩ := hT
          exact x_vret dX3_item_85 rfl ⟨_, _, hW, hF, Or.inl ⟨_, rfl, hT⟩⟩
        · intro k s20 f21 hT h a hW hx hF
          exact c_out (rfl) hW hx hF hT
  · subst e
    replace hT := hT.1 rfl
    refine x_aload_n dX3_item_11 rfl rfl rfl ?_
    refine x_iload_n dX3_item_12 rfl rfl ?_
    obtain ⟨-, -, cc, hcc, -⟩ := hW.ob 3 (by decide)
    refine c_invV (vs := [.int x2]) dX3_item_13 oX3_push q1364 q1363 hcc q1365 (Or.inl rfl) rfl rfl (Nat.le_of_ble_eq_true rfl) rfl hW hF hT ?_ ?_
    · intro _ s3 f4 hT h hW hF
      obtain ⟨rfl, hT⟩ := hT
      refine x_goto (tgt := 85) dX3_item_16 rfl ?_
      exact x_vret dX3_item_85 rfl ⟨_, _, hW, hF, Or.inl ⟨_, rfl, hT⟩⟩
    · intro k s3 f4 hT h a hW hx hF
      exact c_out (rfl) hW hx hF hT
theorem eX3_item {l : Launch} {E : EN} {w : CO} {d : Nat} {s : CS} {f : RH} {Q : KO → CS → RH → Prop} {x1 : Int32} {x2 : Int32}  (hst : l.stackTraces = false) (hT : (inB x1 8400 ∧ ∃ v1 : Value, (s.2.2.2 25 x1.toNatClampNeg) = v1 ∧ isR v1 = true ∧ ((v1 = .null → (EvC l E w d MX3_push [.ref (w.1 3), .int x2] s f (fun o s3 f4 => KP o (fun r => r = none ∧ Q (.inl none) s3 f4) (fun k => Q (.inr k) s3 f4)))) ∧ (∀ a2 : Nat, v1 = .ref a2 → (isT f (.ref a2) ∧ ((tg f a2 = some (.inl 29) → (tg f a2 = some (.inl 29) ∧ (oc f a2 29 ∧ (∃ a6 : Nat, vl f a2 203 = .ref a6 ∧ (tg f a6 = some (.inr 0) ∧ inB x2 (ln f a6) ∧ (∃ v7 : Int32, vl f a6 x2.toNatClampNeg = .int v7 ∧ (EvC l E w d MX3_push [.ref (w.1 3), .int v7] s f (fun o s8 f9 => KP o (fun r => r = none ∧ Q (.inl none) s8 f9) (fun k => Q (.inr k) s8 f9))))))))) ∧ (¬ tg f a2 = some (.inl 29) → (isT f (.ref a2) ∧ ((tg f a2 = some (.inl 30) → (tg f a2 = some (.inl 30) ∧ (oc f a2 30 ∧ EvC l E w d MX33_row [.ref a2, .int x2] s f (fun o s11 f12 => KP o (fun r => ∃ a13 : Nat, r = some (.ref a13) ∧ (EvC l E w d MX3_push_2 [.ref (w.1 3), .ref a13] s11 f12 (fun o s14 f15 => KP o (fun r => r = none ∧ Q (.inl none) s14 f15) (fun k => Q (.inr k) s14 f15)))) (fun k => Q (.inr k) s11 f12))))) ∧ (¬ tg f a2 = some (.inl 30) → (tg f a2 = some (.inl 31) ∧ (oc f a2 31 ∧ (∃ a17 : Nat, vl f a2 206 = .ref a17 ∧ (∃ t18 : Nat, 4 ≤ t18 ∧ (tg f a17 = some (.inr t18) ∧ inB x2 (ln f a17) ∧ (∃ a19 : Nat, vl f a17 x2.toNatClampNeg = .ref a19 ∧ (EvC l E w d MX3_push_2 [.ref (w.1 3), .ref a19] s f (fun o s20 f21 => KP o (fun r => r = none ∧ Q (.inl none) s20 f21) (fun k => Q (.inr k) s20 f21))))))))))))))))))) : EvC l E w (d + 1) MX3_item [.ref (w.1 3), .int x1, .int x2] s f Q :=
  EvC.of hst (by decide) (Nat.le_of_ble_eq_true rfl) (vX3_item_0  hT)
theorem vX3_asThing_0 {l : Launch} {E : EN} {w : CO} {d : Nat} {s : CS} {f : RH} {Q : KO → CS → RH → Prop} {x1 : Int32}  (hT : (inB x1 8400 ∧ ∃ v1 : Value, (s.2.2.2 25 x1.toNatClampNeg) = v1 ∧ isR v1 = true ∧ ((v1 = .null → (rmF E f 1 1 ∧ ∀ (a3 : Nat) (f4 : RH), a3 = f.1 → f4 = fnew f 32 → (inB x1 8400 ∧ (EvC l E w d MX35_init [.ref a3, .int (s.2.2.1 24 x1.toNatClampNeg)] s f4 (fun o s5 f6 => KP o (fun r => r = none ∧ Q (.inl (some (.ref a3))) s5 f6) (fun k => Q (.inr k) s5 f6)))))) ∧ (∀ a2 : Nat, v1 = .ref a2 → (inB x1 8400 ∧ ∃ v7 : Value, (s.2.2.2 25 x1.toNatClampNeg) = v7 ∧ isR v7 = true ∧ Q (.inl (some v7)) s f))))) : ExC l E w (d + 1) MX3_asThing 0 [some (.ref (w.1 3)), some (.int x1)] [] s f Q := by
  intro f0 h hW hF
  refine x_aload_n dX3_asThing_0 rfl rfl rfl ?_
  refine c_getA dX3_asThing_1 f_TallySlate_Machine_17 (by decide) (by decide) rfl hW ?_
  refine x_iload_n dX3_asThing_4 rfl rfl ?_
  obtain ⟨hb, v1, ev, iv1, hT⟩ := hT
  refine c_aald (v := v1) dX3_asThing_5 rfl hb hW ev ?_
  refine x_ifnonnull (tgt := 25) dX3_asThing_6 rfl iv1 (fun a2 e => ?_) (fun e => ?_)
  · subst e
    replace hT := hT.2 a2 rfl
    refine x_aload_n dX3_asThing_25 rfl rfl rfl ?_
    refine c_getA dX3_asThing_26 f_TallySlate_Machine_17 (by decide) (by decide) rfl hW ?_
    refine x_iload_n dX3_asThing_29 rfl rfl ?_
    obtain ⟨hb, v7, ev, iv7, hT⟩ := hT
    refine c_aald (v := v7) dX3_asThing_30 rfl hb hW ev ?_
    exact x_aret dX3_asThing_31 rfl (by first | exact Or.inl ⟨_, rfl⟩ | exact Or.inr ⟨_, rfl⟩) iv7 ⟨_, _, hW, hF, Or.inl ⟨_, rfl, hT⟩⟩
  · subst e
    replace hT := hT.1 rfl
    obtain ⟨hr, hT⟩ := hT
    refine c_newG (k := 32) dX3_asThing_9 (by decide) q1442 q211 hr hW hF ?_
    intro a3 f4 ea3 ef4 h hW hF
    replace hT := hT a3 f4 ea3 ef4
    refine x_dup dX3_asThing_12 rfl ?_
    refine x_aload_n dX3_asThing_13 rfl rfl rfl ?_
    refine c_getA dX3_asThing_14 f_TallySlate_Machine_9 (by decide) (by decide) rfl hW ?_
    refine x_iload_n dX3_asThing_17 rfl rfl ?_
    obtain ⟨hb, hT⟩ := hT
    refine c_iald (v := (s.2.2.1 24 x1.toNatClampNeg)) dX3_asThing_18 rfl hb hW rfl ?_
    refine c_invI (b := a3) (vs := [.int (s.2.2.1 24 x1.toNatClampNeg)]) dX3_asThing_19 oX35_init rfl rfl rfl q1666 (Or.inl q1665) rfl rfl (Nat.le_of_ble_eq_true rfl) rfl hW hF hT ?_ ?_
    · intro _ s5 f6 hT h hW hF
      obtain ⟨rfl, hT⟩ := hT
      refine x_goto (tgt := 31) dX3_asThing_22 rfl ?_
      exact x_aret dX3_asThing_31 rfl (by first | exact Or.inl ⟨_, rfl⟩ | exact Or.inr ⟨_, rfl⟩) rfl ⟨_, _, hW, hF, Or.inl ⟨_, rfl, hT⟩⟩
    · intro k s5 f6 hT h a hW hx hF
      exact c_out (rfl) hW hx hF hT
theorem eX3_asThing {l : Launch} {E : EN} {w : CO} {d : Nat} {s : CS} {f : RH} {Q : KO → CS → RH → Prop} {x1 : Int32}  (hst : l.stackTraces = false) (hT : (inB x1 8400 ∧ ∃ v1 : Value, (s.2.2.2 25 x1.toNatClampNeg) = v1 ∧ isR v1 = true ∧ ((v1 = .null → (rmF E f 1 1 ∧ ∀ (a3 : Nat) (f4 : RH), a3 = f.1 → f4 = fnew f 32 → (inB x1 8400 ∧ (EvC l E w d MX35_init [.ref a3, .int (s.2.2.1 24 x1.toNatClampNeg)] s f4 (fun o s5 f6 => KP o (fun r => r = none ∧ Q (.inl (some (.ref a3))) s5 f6) (fun k => Q (.inr k) s5 f6)))))) ∧ (∀ a2 : Nat, v1 = .ref a2 → (inB x1 8400 ∧ ∃ v7 : Value, (s.2.2.2 25 x1.toNatClampNeg) = v7 ∧ isR v7 = true ∧ Q (.inl (some v7)) s f))))) : EvC l E w (d + 1) MX3_asThing [.ref (w.1 3), .int x1] s f Q :=
  EvC.of hst (by decide) (Nat.le_of_ble_eq_true rfl) (vX3_asThing_0  hT)
set_option maxHeartbeats 16000000 in
theorem vX3_fold_0 {l : Launch} {E : EN} {w : CO} {d : Nat} {s : CS} {f : RH} {Q : KO → CS → RH → Prop} {x1 : Nat} {x2 : Int32}  (hT : (∀ y1 : Int32, y1 = ((s.1 26) - 1) → (inB y1 8400 ∧ ∃ v2 : Value, (s.2.2.2 25 y1.toNatClampNeg) = v2 ∧ isR v2 = true ∧ ((v2 = .null → (EvC l E w d MX3_wrong [.ref (w.1 3), .int 3, .int x2] s f (fun o s4 f5 => KP o (fun r => r = some (.ref (w.1 9)) ∧ Q (.inr 9) s4 f5) (fun k => Q (.inr k) s4 f5)))) ∧ (∀ a3 : Nat, v2 = .ref a3 → (∃ P13 : KO → CS → RH → Prop, (∀ o s6 f7, P13 o s6 f7 → KP o (fun r => ∃ v8 : Int32, r = some (.int v8) ∧ (inB (y1 - 1) 8400 ∧ (EvC l E w d MX3_push [.ref (w.1 3), .int (s6.2.2.1 24 (y1 - 1).toNatClampNeg)] s6 f7 (fun o s9 f10 => KP o (fun r => r = none ∧ (inB (y1 - 1) 8400 ∧ ∃ v11 : Value, (s9.2.2.2 25 (y1 - 1).toNatClampNeg) = v11 ∧ isR v11 = true ∧ (inB ((s9.1 26) - 1) 8400 ∧ isT f10 v11 ∧ ExC l E w (d + 1) MX3_fold 68 [some (.ref (w.1 3)), some (.ref x1), some (.int x2), some (.int y1), none, some (.int v8), some (.int 0)] [] (uT s9 25 ((s9.1 26) - 1).toNatClampNeg v11) f10 Q))) (fun k => Q (.inr k) s9 f10))))) (fun k => Q (.inr k) s6 f7)) ∧ ∃ k12 : Nat, oc f a3 k12 ∧ ((k12 = 29 ∧ EvC l E w d MX32_size [.ref a3] s f P13) ∨ (k12 = 30 ∧ EvC l E w d MX33_size [.ref a3] s f P13) ∨ (k12 = 31 ∧ EvC l E w d MX34_size [.ref a3] s f P13) ∨ (k12 = 32 ∧ EvC l E w d MX35_size [.ref a3] s f P13)))))))) : ExC l E w (d + 1) MX3_fold 0 [some (.ref (w.1 3)), some (.ref x1), some (.int x2), none, none, none, none] [] s f Q := by
  intro f0 h hW hF
  refine x_aload_n dX3_fold_0 rfl rfl rfl ?_
  refine c_getI (v := (s.1 26)) dX3_fold_1 f_TallySlate_Machine_75 (by decide) (by decide) rfl hW rfl ?_
  refine x_iconst (v := 1) dX3_fold_4 rfl ?_
  refine x_isub dX3_fold_5 ?_
  obtain ⟨y1, ey1⟩ : ∃ z : Int32, z = ((s.1 26) - 1) := ⟨_, rfl⟩
  replace hT := hT y1 ey1
  refine x_istore_n (lo' := [some (.ref (w.1 3)), some (.ref x1), some (.int x2), some (.int y1), none, none, none]) dX3_fold_6 rfl (Nat.le_of_ble_eq_true rfl) (by rw [ey1]; exact rfl) ?_
  refine x_aload_n dX3_fold_7 rfl rfl rfl ?_
  refine c_getA dX3_fold_8 f_TallySlate_Machine_17 (by decide) (by decide) rfl hW ?_
  refine x_iload_n dX3_fold_11 rfl rfl ?_
  obtain ⟨hb, v2, ev, iv2, hT⟩ := hT
  refine c_aald (v := v2) dX3_fold_12 rfl hb hW ev ?_
  refine x_astore (lo' := [some (.ref (w.1 3)), some (.ref x1), some (.int x2), some (.int y1), some (v2), none, none]) dX3_fold_13 (Nat.le_of_ble_eq_true rfl) iv2 rfl ?_
  refine x_aload dX3_fold_15 rfl iv2 ?_
  refine x_ifnonnull (tgt := 27) dX3_fold_17 rfl iv2 (fun a3 e => ?_) (fun e => ?_)
  · subst e
    replace hT := hT.2 a3 rfl
    refine x_aload dX3_fold_27 rfl rfl ?_
    obtain ⟨P13, hP, k12, hc, hT⟩ := hT
    have kr : ∀ r s6 f7, P13 (.inl r) s6 f7 → ∀ h, CW E w s6 f7 h → Frz f0 f7 → Ex l E (d + 1) MX3_fold (29 + 3) [some (.ref (w.1 3)), some (.ref x1), some (.int x2), some (.int y1), some (.ref a3), none, none] (r.toList ++ []) h (PoC E w f0 Q) := by
      intro r s6 f7 h0 h hW hF
      have hT := hP _ _ _ h0
      clear h0
      obtain ⟨v8, rfl, hT⟩ := hT
      refine x_istore (lo' := [some (.ref (w.1 3)), some (.ref x1), some (.int x2), some (.int y1), some (.ref a3), some (.int v8), none]) dX3_fold_32 (Nat.le_of_ble_eq_true rfl) rfl ?_
      refine x_aload_n dX3_fold_34 rfl rfl rfl ?_
      refine x_aload_n dX3_fold_35 rfl rfl rfl ?_
      refine c_getA dX3_fold_36 f_TallySlate_Machine_9 (by decide) (by decide) rfl hW ?_
      refine x_iload_n dX3_fold_39 rfl rfl ?_
      refine x_iconst (v := 1) dX3_fold_40 rfl ?_
      refine x_isub dX3_fold_41 ?_
      obtain ⟨hb, hT⟩ := hT
      refine c_iald (v := (s6.2.2.1 24 (y1 - 1).toNatClampNeg)) dX3_fold_42 rfl hb hW rfl ?_
      obtain ⟨-, -, cc, hcc, -⟩ := hW.ob 3 (by decide)
      refine c_invV (vs := [.int (s6.2.2.1 24 (y1 - 1).toNatClampNeg)]) dX3_fold_43 oX3_push q1364 q1363 hcc q1365 (Or.inl rfl) rfl rfl (Nat.le_of_ble_eq_true rfl) rfl hW hF hT ?_ ?_
      · intro _ s9 f10 hT h hW hF
        obtain ⟨rfl, hT⟩ := hT
        refine x_aload_n dX3_fold_46 rfl rfl rfl ?_
        refine c_getA dX3_fold_47 f_TallySlate_Machine_17 (by decide) (by decide) rfl hW ?_
        refine x_aload_n dX3_fold_50 rfl rfl rfl ?_
        refine c_getI (v := (s9.1 26)) dX3_fold_51 f_TallySlate_Machine_75 (by decide) (by decide) rfl hW rfl ?_
        refine x_iconst (v := 1) dX3_fold_54 rfl ?_
        refine x_isub dX3_fold_55 ?_
        refine x_aload_n dX3_fold_56 rfl rfl rfl ?_
        refine c_getA dX3_fold_57 f_TallySlate_Machine_17 (by decide) (by decide) rfl hW ?_
        refine x_iload_n dX3_fold_60 rfl rfl ?_
        refine x_iconst (v := 1) dX3_fold_61 rfl ?_
        refine x_isub dX3_fold_62 ?_
        obtain ⟨hb, v11, ev, iv11, hT⟩ := hT
        refine c_aald (v := v11) dX3_fold_63 rfl hb hW ev ?_
        obtain ⟨hb, ht, hT⟩ := hT
        refine c_aast dX3_fold_64 rfl hb ht hW ?_
        intro h hW
        refine x_iconst (v := 0) dX3_fold_65 rfl ?_
        refine x_istore (lo' := [some (.ref (w.1 3)), some (.ref x1), some (.int x2), some (.int y1), some (.ref a3), some (.int v8), some (.int 0)]) dX3_fold_66 (Nat.le_of_ble_eq_true rfl) rfl ?_
        refine Ex.wkl (lo' := [some (.ref (w.1 3)), some (.ref x1), some (.int x2), some (.int y1), none, some (.int v8), some (.int 0)]) ⟨rfl, rfl, rfl, rfl, rfl, rfl, trivial⟩ ?_
        exact hT f0 h hW hF
      · intro k s9 f10 hT h a hW hx hF
        exact c_out (rfl) hW hx hF hT
    have kt : ∀ k s6 f7, P13 (.inr k) s6 f7 → ∀ h a, CW E w s6 f7 h → xA w h k a → Frz f0 f7 → ExT l E (d + 1) MX3_fold 29 [some (.ref (w.1 3)), some (.ref x1), some (.int x2), some (.int y1), some (.ref a3), none, none] [] a h (PoC E w f0 Q) := by
      intro k s6 f7 h0 h a hW hx hF
      have hT := hP _ _ _ h0
      clear h0
      exact c_out (rfl) hW hx hF hT
    obtain ⟨cc, hcc⟩ := hW.ocell hc
    rcases hT with ⟨rfl, hT⟩ | ⟨rfl, hT⟩ | ⟨rfl, hT⟩ | ⟨rfl, hT⟩
    · exact c_invV (vs := []) dX3_fold_29 oX32_size q1454 q1649 hcc q1453 (Or.inr hy_Thing_size) rfl rfl (Nat.le_of_ble_eq_true rfl) rfl hW hF hT kr kt
    · exact c_invV (vs := []) dX3_fold_29 oX33_size q1457 q1649 hcc q1456 (Or.inr hy_Thing_size) rfl rfl (Nat.le_of_ble_eq_true rfl) rfl hW hF hT kr kt
    · exact c_invV (vs := []) dX3_fold_29 oX34_size q1451 q1649 hcc q1450 (Or.inr hy_Thing_size) rfl rfl (Nat.le_of_ble_eq_true rfl) rfl hW hF hT kr kt
    · exact c_invV (vs := []) dX3_fold_29 oX35_size q1460 q1649 hcc q1459 (Or.inr hy_Thing_size) rfl rfl (Nat.le_of_ble_eq_true rfl) rfl hW hF hT kr kt
  · subst e
    replace hT := hT.1 rfl
    refine x_aload_n dX3_fold_20 rfl rfl rfl ?_
    refine x_iconst (v := 3) dX3_fold_21 rfl ?_
    refine x_iload_n dX3_fold_22 rfl rfl ?_
    obtain ⟨-, -, cc, hcc, -⟩ := hW.ob 3 (by decide)
    refine c_invV (vs := [.int 3, .int x2]) dX3_fold_23 oX3_wrong q1323 q1322 hcc q1324 (Or.inl rfl) rfl rfl (Nat.le_of_ble_eq_true rfl) rfl hW hF hT ?_ ?_
    · intro _ s4 f5 hT h hW hF
      obtain ⟨rfl, hT⟩ := hT
      refine x_athrow dX3_fold_26 ?_
      exact c_out (rfl) hW (Or.inl ⟨rfl, rfl⟩) hF hT
    · intro k s4 f5 hT h a hW hx hF
      exact c_out (rfl) hW hx hF hT
theorem eX3_fold {l : Launch} {E : EN} {w : CO} {d : Nat} {s : CS} {f : RH} {Q : KO → CS → RH → Prop} {x1 : Nat} {x2 : Int32}  (hst : l.stackTraces = false) (hT : (∀ y1 : Int32, y1 = ((s.1 26) - 1) → (inB y1 8400 ∧ ∃ v2 : Value, (s.2.2.2 25 y1.toNatClampNeg) = v2 ∧ isR v2 = true ∧ ((v2 = .null → (EvC l E w d MX3_wrong [.ref (w.1 3), .int 3, .int x2] s f (fun o s4 f5 => KP o (fun r => r = some (.ref (w.1 9)) ∧ Q (.inr 9) s4 f5) (fun k => Q (.inr k) s4 f5)))) ∧ (∀ a3 : Nat, v2 = .ref a3 → (∃ P13 : KO → CS → RH → Prop, (∀ o s6 f7, P13 o s6 f7 → KP o (fun r => ∃ v8 : Int32, r = some (.int v8) ∧ (inB (y1 - 1) 8400 ∧ (EvC l E w d MX3_push [.ref (w.1 3), .int (s6.2.2.1 24 (y1 - 1).toNatClampNeg)] s6 f7 (fun o s9 f10 => KP o (fun r => r = none ∧ (inB (y1 - 1) 8400 ∧ ∃ v11 : Value, (s9.2.2.2 25 (y1 - 1).toNatClampNeg) = v11 ∧ isR v11 = true ∧ (inB ((s9.1 26) - 1) 8400 ∧ isT f10 v11 ∧ ExC l E w (d + 1) MX3_fold 68 [some (.ref (w.1 3)), some (.ref x1), some (.int x2), some (.int y1), none, some (.int v8), some (.int 0)] [] (uT s9 25 ((s9.1 26) - 1).toNatClampNeg v11) f10 Q))) (fun k => Q (.inr k) s9 f10))))) (fun k => Q (.inr k) s6 f7)) ∧ ∃ k12 : Nat, oc f a3 k12 ∧ ((k12 = 29 ∧ EvC l E w d MX32_size [.ref a3] s f P13) ∨ (k12 = 30 ∧ EvC l E w d MX33_size [.ref a3] s f P13) ∨ (k12 = 31 ∧ EvC l E w d MX34_size [.ref a3] s f P13) ∨ (k12 = 32 ∧ EvC l E w d MX35_size [.ref a3] s f P13)))))))) : EvC l E w (d + 1) MX3_fold [.ref (w.1 3), .ref x1, .int x2] s f Q :=
  EvC.of hst (by decide) (Nat.le_of_ble_eq_true rfl) (vX3_fold_0  hT)
theorem vX3_fold_68 {l : Launch} {E : EN} {w : CO} {d : Nat} {s : CS} {f : RH} {Q : KO → CS → RH → Prop} {b1 : Nat} {b2 : Int32} {b3 : Int32} {b5 : Int32} {b6 : Int32}  (hT : ((b5 ≤ b6 → (EvC l E w d MX3_down [.ref (w.1 3), .int (b3 - 1)] s f (fun o s14 f15 => KP o (fun r => r = none ∧ Q (.inl none) s14 f15) (fun k => Q (.inr k) s14 f15)))) ∧ (¬ b5 ≤ b6 → (EvC l E w d MX3_item [.ref (w.1 3), .int b3, .int b6] s f (fun o s16 f17 => KP o (fun r => r = none ∧ (EvC l E w d MX3_step [.ref (w.1 3), .int b2] s16 f17 (fun o s18 f19 => KP o (fun r => r = none ∧ (EvC l E w d MX3_call [.ref (w.1 3), .ref b1, .int b2] s18 f19 (fun o s20 f21 => KP o (fun r => r = none ∧ ExC l E w (d + 1) MX3_fold 68 [some (.ref (w.1 3)), some (.ref b1), some (.int b2), some (.int b3), none, some (.int b5), some (.int (b6 + 1))] [] s20 f21 Q) (fun k => Q (.inr k) s20 f21)))) (fun k => Q (.inr k) s18 f19)))) (fun k => Q (.inr k) s16 f17)))))) : ExC l E w (d + 1) MX3_fold 68 [some (.ref (w.1 3)), some (.ref b1), some (.int b2), some (.int b3), none, some (.int b5), some (.int b6)] [] s f Q := by
  intro f0 h hW hF
  refine x_iload dX3_fold_68 rfl ?_
  refine x_iload dX3_fold_70 rfl ?_
  refine x_icmp_ge (tgt := 99) dX3_fold_72 rfl (fun c => ?_) (fun c => ?_)
  · replace hT := hT.1 c
    refine x_aload_n dX3_fold_99 rfl rfl rfl ?_
    refine x_iload_n dX3_fold_100 rfl rfl ?_
    refine x_iconst (v := 1) dX3_fold_101 rfl ?_
    refine x_isub dX3_fold_102 ?_
    obtain ⟨-, -, cc, hcc, -⟩ := hW.ob 3 (by decide)
    refine c_invV (vs := [.int (b3 - 1)]) dX3_fold_103 oX3_down q1684 q1683 hcc q1685 (Or.inl rfl) rfl rfl (Nat.le_of_ble_eq_true rfl) rfl hW hF hT ?_ ?_
    · intro _ s14 f15 hT h hW hF
      obtain ⟨rfl, hT⟩ := hT
      exact x_vret dX3_fold_106 rfl ⟨_, _, hW, hF, Or.inl ⟨_, rfl, hT⟩⟩
    · intro k s14 f15 hT h a hW hx hF
      exact c_out (rfl) hW hx hF hT
  · replace hT := hT.2 c
    refine x_aload_n dX3_fold_75 rfl rfl rfl ?_
    refine x_iload_n dX3_fold_76 rfl rfl ?_
    refine x_iload dX3_fold_77 rfl ?_
    obtain ⟨-, -, cc, hcc, -⟩ := hW.ob 3 (by decide)
    refine c_invV (vs := [.int b3, .int b6]) dX3_fold_79 oX3_item q1651 q1650 hcc q1652 (Or.inl rfl) rfl rfl (Nat.le_of_ble_eq_true rfl) rfl hW hF hT ?_ ?_
    · intro _ s16 f17 hT h hW hF
      obtain ⟨rfl, hT⟩ := hT
      refine x_aload_n dX3_fold_82 rfl rfl rfl ?_
      refine x_iload_n dX3_fold_83 rfl rfl ?_
      obtain ⟨-, -, cc, hcc, -⟩ := hW.ob 3 (by decide)
      refine c_invV (vs := [.int b2]) dX3_fold_84 oX3_step q1332 q1654 hcc q1333 (Or.inl rfl) rfl rfl (Nat.le_of_ble_eq_true rfl) rfl hW hF hT ?_ ?_
      · intro _ s18 f19 hT h hW hF
        obtain ⟨rfl, hT⟩ := hT
        refine x_aload_n dX3_fold_87 rfl rfl rfl ?_
        refine x_aload_n dX3_fold_88 rfl rfl rfl ?_
        refine x_iload_n dX3_fold_89 rfl rfl ?_
        obtain ⟨-, -, cc, hcc, -⟩ := hW.ob 3 (by decide)
        refine c_invV (vs := [.ref b1, .int b2]) dX3_fold_90 oX3_call q1319 q1655 hcc q1320 (Or.inl rfl) rfl rfl (Nat.le_of_ble_eq_true rfl) rfl hW hF hT ?_ ?_
        · intro _ s20 f21 hT h hW hF
          obtain ⟨rfl, hT⟩ := hT
          refine x_iinc (lo' := [some (.ref (w.1 3)), some (.ref b1), some (.int b2), some (.int b3), none, some (.int b5), some (.int (b6 + 1))]) dX3_fold_93 rfl (show _ = (b6 + 1) from rfl) rfl ?_
          refine x_goto (tgt := 68) dX3_fold_96 rfl ?_
          exact hT f0 h hW hF
        · intro k s20 f21 hT h a hW hx hF
          exact c_out (rfl) hW hx hF hT
      · intro k s18 f19 hT h a hW hx hF
        exact c_out (rfl) hW hx hF hT
    · intro k s16 f17 hT h a hW hx hF
      exact c_out (rfl) hW hx hF hT
theorem vX3_down_0 {l : Launch} {E : EN} {w : CO} {d : Nat} {s : CS} {f : RH} {Q : KO → CS → RH → Prop} {x1 : Int32}  (hT : (inB ((s.1 26) - 1) 8400 ∧ (inB x1 8400 ∧ (inB ((s.1 26) - 1) 8400 ∧ ∃ v1 : Value, (s.2.2.2 25 ((s.1 26) - 1).toNatClampNeg) = v1 ∧ isR v1 = true ∧ (inB x1 8400 ∧ isT f v1 ∧ Q (.inl none) (uI (uT (uA s 24 x1.toNatClampNeg (s.2.2.1 24 ((s.1 26) - 1).toNatClampNeg)) 25 x1.toNatClampNeg v1) 26 (x1 + 1)) f))))) : ExC l E w d MX3_down 0 [some (.ref (w.1 3)), some (.int x1)] [] s f Q := by
  intro f0 h hW hF
  refine x_aload_n dX3_down_0 rfl rfl rfl ?_
  refine c_getA dX3_down_1 f_TallySlate_Machine_9 (by decide) (by decide) rfl hW ?_
  refine x_iload_n dX3_down_4 rfl rfl ?_
  refine x_aload_n dX3_down_5 rfl rfl rfl ?_
  refine c_getA dX3_down_6 f_TallySlate_Machine_9 (by decide) (by decide) rfl hW ?_
  refine x_aload_n dX3_down_9 rfl rfl rfl ?_
  refine c_getI (v := (s.1 26)) dX3_down_10 f_TallySlate_Machine_75 (by decide) (by decide) rfl hW rfl ?_
  refine x_iconst (v := 1) dX3_down_13 rfl ?_
  refine x_isub dX3_down_14 ?_
  obtain ⟨hb, hT⟩ := hT
  refine c_iald (v := (s.2.2.1 24 ((s.1 26) - 1).toNatClampNeg)) dX3_down_15 rfl hb hW rfl ?_
  obtain ⟨hb, hT⟩ := hT
  refine c_iast dX3_down_16 rfl hb hW ?_
  intro h hW
  refine x_aload_n dX3_down_17 rfl rfl rfl ?_
  refine c_getA dX3_down_18 f_TallySlate_Machine_17 (by decide) (by decide) rfl hW ?_
  refine x_iload_n dX3_down_21 rfl rfl ?_
  refine x_aload_n dX3_down_22 rfl rfl rfl ?_
  refine c_getA dX3_down_23 f_TallySlate_Machine_17 (by decide) (by decide) rfl hW ?_
  refine x_aload_n dX3_down_26 rfl rfl rfl ?_
  refine c_getI (v := (s.1 26)) dX3_down_27 f_TallySlate_Machine_75 (by decide) (by decide) rfl hW rfl ?_
  refine x_iconst (v := 1) dX3_down_30 rfl ?_
  refine x_isub dX3_down_31 ?_
  obtain ⟨hb, v1, ev, iv1, hT⟩ := hT
  refine c_aald (v := v1) dX3_down_32 rfl hb hW ev ?_
  obtain ⟨hb, ht, hT⟩ := hT
  refine c_aast dX3_down_33 rfl hb ht hW ?_
  intro h hW
  refine x_aload_n dX3_down_34 rfl rfl rfl ?_
  refine x_iload_n dX3_down_35 rfl rfl ?_
  refine x_iconst (v := 1) dX3_down_36 rfl ?_
  refine x_iadd dX3_down_37 ?_
  refine c_putI dX3_down_38 f_TallySlate_Machine_75 (by decide) (by decide) rfl rfl rfl rfl hW ?_
  intro h hW
  exact x_vret dX3_down_41 rfl ⟨_, _, hW, hF, Or.inl ⟨_, rfl, hT⟩⟩
theorem eX3_down {l : Launch} {E : EN} {w : CO} {d : Nat} {s : CS} {f : RH} {Q : KO → CS → RH → Prop} {x1 : Int32}  (hst : l.stackTraces = false) (hT : (inB ((s.1 26) - 1) 8400 ∧ (inB x1 8400 ∧ (inB ((s.1 26) - 1) 8400 ∧ ∃ v1 : Value, (s.2.2.2 25 ((s.1 26) - 1).toNatClampNeg) = v1 ∧ isR v1 = true ∧ (inB x1 8400 ∧ isT f v1 ∧ Q (.inl none) (uI (uT (uA s 24 x1.toNatClampNeg (s.2.2.1 24 ((s.1 26) - 1).toNatClampNeg)) 25 x1.toNatClampNeg v1) 26 (x1 + 1)) f))))) : EvC l E w d MX3_down [.ref (w.1 3), .int x1] s f Q :=
  EvC.of hst (by decide) (Nat.le_of_ble_eq_true rfl) (vX3_down_0  hT)
theorem vX3_builtIn_0 {l : Launch} {E : EN} {w : CO} {d : Nat} {s : CS} {f : RH} {Q : KO → CS → RH → Prop} {x1 : Int32} {x2 : Int32} {x3 : Int32}  (hT : ((6 ≤ x1 → (EvC l E w d MX7_work [.ref (w.1 7), .int x1, .int x3] s f (fun o s1 f2 => KP o (fun r => r = none ∧ Q (.inl none) s1 f2) (fun k => Q (.inr k) s1 f2)))) ∧ (¬ 6 ≤ x1 → (EvC l E w d MX6_work [.ref (w.1 6), .int x1, .int x2, .int x3] s f (fun o s3 f4 => KP o (fun r => r = none ∧ Q (.inl none) s3 f4) (fun k => Q (.inr k) s3 f4)))))) : ExC l E w (d + 1) MX3_builtIn 0 [some (.ref (w.1 3)), some (.int x1), some (.int x2), some (.int x3)] [] s f Q := by
  intro f0 h hW hF
  refine x_iload_n dX3_builtIn_0 rfl rfl ?_
  refine x_bipush (v := 6) dX3_builtIn_1 rfl ?_
  refine x_icmp_ge (tgt := 19) dX3_builtIn_3 rfl (fun c => ?_) (fun c => ?_)
  · replace hT := hT.1 c
    refine x_aload_n dX3_builtIn_19 rfl rfl rfl ?_
    refine c_getO dX3_builtIn_20 f_TallySlate_Machine_57 (by decide) (by decide) rfl hW ?_
    refine x_iload_n dX3_builtIn_23 rfl rfl ?_
    refine x_iload_n dX3_builtIn_24 rfl rfl ?_
    obtain ⟨-, -, cc, hcc, -⟩ := hW.ob 7 (by decide)
    refine c_invV (vs := [.int x1, .int x3]) dX3_builtIn_25 oX7_work q1742 q1741 hcc q1743 (Or.inl rfl) rfl rfl (Nat.le_of_ble_eq_true rfl) rfl hW hF hT ?_ ?_
    · intro _ s1 f2 hT h hW hF
      obtain ⟨rfl, hT⟩ := hT
      exact x_vret dX3_builtIn_28 rfl ⟨_, _, hW, hF, Or.inl ⟨_, rfl, hT⟩⟩
    · intro k s1 f2 hT h a hW hx hF
      exact c_out (rfl) hW hx hF hT
  · replace hT := hT.2 c
    refine x_aload_n dX3_builtIn_6 rfl rfl rfl ?_
    refine c_getO dX3_builtIn_7 f_TallySlate_Machine_50 (by decide) (by decide) rfl hW ?_
    refine x_iload_n dX3_builtIn_10 rfl rfl ?_
    refine x_iload_n dX3_builtIn_11 rfl rfl ?_
    refine x_iload_n dX3_builtIn_12 rfl rfl ?_
    obtain ⟨-, -, cc, hcc, -⟩ := hW.ob 6 (by decide)
    refine c_invV (vs := [.int x1, .int x2, .int x3]) dX3_builtIn_13 oX6_work q1693 q1692 hcc q1694 (Or.inl rfl) rfl rfl (Nat.le_of_ble_eq_true rfl) rfl hW hF hT ?_ ?_
    · intro _ s3 f4 hT h hW hF
      obtain ⟨rfl, hT⟩ := hT
      refine x_goto (tgt := 28) dX3_builtIn_16 rfl ?_
      exact x_vret dX3_builtIn_28 rfl ⟨_, _, hW, hF, Or.inl ⟨_, rfl, hT⟩⟩
    · intro k s3 f4 hT h a hW hx hF
      exact c_out (rfl) hW hx hF hT
theorem eX3_builtIn {l : Launch} {E : EN} {w : CO} {d : Nat} {s : CS} {f : RH} {Q : KO → CS → RH → Prop} {x1 : Int32} {x2 : Int32} {x3 : Int32}  (hst : l.stackTraces = false) (hT : ((6 ≤ x1 → (EvC l E w d MX7_work [.ref (w.1 7), .int x1, .int x3] s f (fun o s1 f2 => KP o (fun r => r = none ∧ Q (.inl none) s1 f2) (fun k => Q (.inr k) s1 f2)))) ∧ (¬ 6 ≤ x1 → (EvC l E w d MX6_work [.ref (w.1 6), .int x1, .int x2, .int x3] s f (fun o s3 f4 => KP o (fun r => r = none ∧ Q (.inl none) s3 f4) (fun k => Q (.inr k) s3 f4)))))) : EvC l E w (d + 1) MX3_builtIn [.ref (w.1 3), .int x1, .int x2, .int x3] s f Q :=
  EvC.of hst (by decide) (Nat.le_of_ble_eq_true rfl) (vX3_builtIn_0  hT)
theorem vX3_asInt_0 {l : Launch} {E : EN} {w : CO} {d : Nat} {s : CS} {f : RH} {Q : KO → CS → RH → Prop} {x1 : Int32} {x2 : Int32}  (hT : (inB x1 8400 ∧ ∃ v1 : Value, (s.2.2.2 25 x1.toNatClampNeg) = v1 ∧ isR v1 = true ∧ ((v1 = .null → (inB x1 8400 ∧ Q (.inl (some (.int (s.2.2.1 24 x1.toNatClampNeg)))) s f)) ∧ (∀ a2 : Nat, v1 = .ref a2 → (EvC l E w d MX3_wrong [.ref (w.1 3), .int 3, .int x2] s f (fun o s3 f4 => KP o (fun r => r = some (.ref (w.1 9)) ∧ Q (.inr 9) s3 f4) (fun k => Q (.inr k) s3 f4))))))) : ExC l E w (d + 1) MX3_asInt 0 [some (.ref (w.1 3)), some (.int x1), some (.int x2)] [] s f Q := by
  intro f0 h hW hF
  refine x_aload_n dX3_asInt_0 rfl rfl rfl ?_
  refine c_getA dX3_asInt_1 f_TallySlate_Machine_17 (by decide) (by decide) rfl hW ?_
  refine x_iload_n dX3_asInt_4 rfl rfl ?_
  obtain ⟨hb, v1, ev, iv1, hT⟩ := hT
  refine c_aald (v := v1) dX3_asInt_5 rfl hb hW ev ?_
  refine x_ifnull (tgt := 16) dX3_asInt_6 rfl iv1 (fun e => ?_) (fun a2 e => ?_)
  · subst e
    replace hT := hT.1 rfl
    refine x_aload_n dX3_asInt_16 rfl rfl rfl ?_
    refine c_getA dX3_asInt_17 f_TallySlate_Machine_9 (by decide) (by decide) rfl hW ?_
    refine x_iload_n dX3_asInt_20 rfl rfl ?_
    obtain ⟨hb, hT⟩ := hT
    refine c_iald (v := (s.2.2.1 24 x1.toNatClampNeg)) dX3_asInt_21 rfl hb hW rfl ?_
    exact x_iret dX3_asInt_22 rfl rfl ⟨_, _, hW, hF, Or.inl ⟨_, rfl, hT⟩⟩
  · subst e
    replace hT := hT.2 a2 rfl
    refine x_aload_n dX3_asInt_9 rfl rfl rfl ?_
    refine x_iconst (v := 3) dX3_asInt_10 rfl ?_
    refine x_iload_n dX3_asInt_11 rfl rfl ?_
    obtain ⟨-, -, cc, hcc, -⟩ := hW.ob 3 (by decide)
    refine c_invV (vs := [.int 3, .int x2]) dX3_asInt_12 oX3_wrong q1323 q1322 hcc q1324 (Or.inl rfl) rfl rfl (Nat.le_of_ble_eq_true rfl) rfl hW hF hT ?_ ?_
    · intro _ s3 f4 hT h hW hF
      obtain ⟨rfl, hT⟩ := hT
      refine x_athrow dX3_asInt_15 ?_
      exact c_out (rfl) hW (Or.inl ⟨rfl, rfl⟩) hF hT
    · intro k s3 f4 hT h a hW hx hF
      exact c_out (rfl) hW hx hF hT
theorem eX3_asInt {l : Launch} {E : EN} {w : CO} {d : Nat} {s : CS} {f : RH} {Q : KO → CS → RH → Prop} {x1 : Int32} {x2 : Int32}  (hst : l.stackTraces = false) (hT : (inB x1 8400 ∧ ∃ v1 : Value, (s.2.2.2 25 x1.toNatClampNeg) = v1 ∧ isR v1 = true ∧ ((v1 = .null → (inB x1 8400 ∧ Q (.inl (some (.int (s.2.2.1 24 x1.toNatClampNeg)))) s f)) ∧ (∀ a2 : Nat, v1 = .ref a2 → (EvC l E w d MX3_wrong [.ref (w.1 3), .int 3, .int x2] s f (fun o s3 f4 => KP o (fun r => r = some (.ref (w.1 9)) ∧ Q (.inr 9) s3 f4) (fun k => Q (.inr k) s3 f4))))))) : EvC l E w (d + 1) MX3_asInt [.ref (w.1 3), .int x1, .int x2] s f Q :=
  EvC.of hst (by decide) (Nat.le_of_ble_eq_true rfl) (vX3_asInt_0  hT)
theorem vX3_asRow_0 {l : Launch} {E : EN} {w : CO} {d : Nat} {s : CS} {f : RH} {Q : KO → CS → RH → Prop} {x1 : Int32} {x2 : Int32}  (hT : (inB x1 8400 ∧ ∃ v1 : Value, (s.2.2.2 25 x1.toNatClampNeg) = v1 ∧ isR v1 = true ∧ (isT f v1 ∧ ((∀ a3 : Nat, v1 = .ref a3 → tg f a3 = some (.inl 29) → (tg f a3 = some (.inl 29) ∧ Q (.inl (some (.ref a3))) s f)) ∧ ((∀ z : Nat, v1 = .ref z → ¬ tg f z = some (.inl 29)) → (EvC l E w d MX3_wrong [.ref (w.1 3), .int 3, .int x2] s f (fun o s4 f5 => KP o (fun r => r = some (.ref (w.1 9)) ∧ Q (.inr 9) s4 f5) (fun k => Q (.inr k) s4 f5)))))))) : ExC l E w (d + 1) MX3_asRow 0 [some (.ref (w.1 3)), some (.int x1), some (.int x2), none, none] [] s f Q := by
  intro f0 h hW hF
  refine x_aload_n dX3_asRow_0 rfl rfl rfl ?_
  refine c_getA dX3_asRow_1 f_TallySlate_Machine_17 (by decide) (by decide) rfl hW ?_
  refine x_iload_n dX3_asRow_4 rfl rfl ?_
  obtain ⟨hb, v1, ev, iv1, hT⟩ := hT
  refine c_aald (v := v1) dX3_asRow_5 rfl hb hW ev ?_
  refine x_astore (lo' := [some (.ref (w.1 3)), some (.int x1), some (.int x2), none, some (v1)]) dX3_asRow_6 (Nat.le_of_ble_eq_true rfl) iv1 rfl ?_
  refine x_aload dX3_asRow_8 rfl iv1 ?_
  obtain ⟨ht, hT⟩ := hT
  refine c_instV (K := 29) dX3_asRow_10 (by decide) q1520 ht hW (fun a3 ec hi2 => ?_) (fun hi2 => ?_)
  · subst ec
    replace hT := hT.1 a3 rfl hi2
    refine x_if_eq (tgt := 24) dX3_asRow_13 rfl (fun c => absurd c (by decide)) (fun _ => ?_)
    refine x_aload dX3_asRow_16 rfl rfl ?_
    obtain ⟨hc, hT⟩ := hT
    refine c_cast (K := 29) dX3_asRow_18 q1520 hc hW ?_
    refine x_astore_n (lo' := [some (.ref (w.1 3)), some (.int x1), some (.int x2), some (.ref a3), some (.ref a3)]) dX3_asRow_21 rfl (Nat.le_of_ble_eq_true rfl) rfl rfl ?_
    refine x_aload_n dX3_asRow_22 rfl rfl rfl ?_
    exact x_aret dX3_asRow_23 rfl (by first | exact Or.inl ⟨_, rfl⟩ | exact Or.inr ⟨_, rfl⟩) rfl ⟨_, _, hW, hF, Or.inl ⟨_, rfl, hT⟩⟩
  · replace hT := hT.2 hi2
    refine x_if_eq (tgt := 24) dX3_asRow_13 rfl (fun _ => ?_) (fun c => absurd c (by decide))
    refine x_aload_n dX3_asRow_24 rfl rfl rfl ?_
    refine x_iconst (v := 3) dX3_asRow_25 rfl ?_
    refine x_iload_n dX3_asRow_26 rfl rfl ?_
    obtain ⟨-, -, cc, hcc, -⟩ := hW.ob 3 (by decide)
    refine c_invV (vs := [.int 3, .int x2]) dX3_asRow_27 oX3_wrong q1323 q1322 hcc q1324 (Or.inl rfl) rfl rfl (Nat.le_of_ble_eq_true rfl) rfl hW hF hT ?_ ?_
    · intro _ s4 f5 hT h hW hF
      obtain ⟨rfl, hT⟩ := hT
      refine x_athrow dX3_asRow_30 ?_
      exact c_out (rfl) hW (Or.inl ⟨rfl, rfl⟩) hF hT
    · intro k s4 f5 hT h a hW hx hF
      exact c_out (rfl) hW hx hF hT
theorem eX3_asRow {l : Launch} {E : EN} {w : CO} {d : Nat} {s : CS} {f : RH} {Q : KO → CS → RH → Prop} {x1 : Int32} {x2 : Int32}  (hst : l.stackTraces = false) (hT : (inB x1 8400 ∧ ∃ v1 : Value, (s.2.2.2 25 x1.toNatClampNeg) = v1 ∧ isR v1 = true ∧ (isT f v1 ∧ ((∀ a3 : Nat, v1 = .ref a3 → tg f a3 = some (.inl 29) → (tg f a3 = some (.inl 29) ∧ Q (.inl (some (.ref a3))) s f)) ∧ ((∀ z : Nat, v1 = .ref z → ¬ tg f z = some (.inl 29)) → (EvC l E w d MX3_wrong [.ref (w.1 3), .int 3, .int x2] s f (fun o s4 f5 => KP o (fun r => r = some (.ref (w.1 9)) ∧ Q (.inr 9) s4 f5) (fun k => Q (.inr k) s4 f5)))))))) : EvC l E w (d + 1) MX3_asRow [.ref (w.1 3), .int x1, .int x2] s f Q :=
  EvC.of hst (by decide) (Nat.le_of_ble_eq_true rfl) (vX3_asRow_0  hT)
theorem vX3_asTable_0 {l : Launch} {E : EN} {w : CO} {d : Nat} {s : CS} {f : RH} {Q : KO → CS → RH → Prop} {x1 : Int32} {x2 : Int32}  (hT : (inB x1 8400 ∧ ∃ v1 : Value, (s.2.2.2 25 x1.toNatClampNeg) = v1 ∧ isR v1 = true ∧ (isT f v1 ∧ ((∀ a3 : Nat, v1 = .ref a3 → tg f a3 = some (.inl 30) → (tg f a3 = some (.inl 30) ∧ Q (.inl (some (.ref a3))) s f)) ∧ ((∀ z : Nat, v1 = .ref z → ¬ tg f z = some (.inl 30)) → (EvC l E w d MX3_wrong [.ref (w.1 3), .int 3, .int x2] s f (fun o s4 f5 => KP o (fun r => r = some (.ref (w.1 9)) ∧ Q (.inr 9) s4 f5) (fun k => Q (.inr k) s4 f5)))))))) : ExC l E w (d + 1) MX3_asTable 0 [some (.ref (w.1 3)), some (.int x1), some (.int x2), none, none] [] s f Q := by
  intro f0 h hW hF
  refine x_aload_n dX3_asTable_0 rfl rfl rfl ?_
  refine c_getA dX3_asTable_1 f_TallySlate_Machine_17 (by decide) (by decide) rfl hW ?_
  refine x_iload_n dX3_asTable_4 rfl rfl ?_
  obtain ⟨hb, v1, ev, iv1, hT⟩ := hT
  refine c_aald (v := v1) dX3_asTable_5 rfl hb hW ev ?_
  refine x_astore (lo' := [some (.ref (w.1 3)), some (.int x1), some (.int x2), none, some (v1)]) dX3_asTable_6 (Nat.le_of_ble_eq_true rfl) iv1 rfl ?_
  refine x_aload dX3_asTable_8 rfl iv1 ?_
  obtain ⟨ht, hT⟩ := hT
  refine c_instV (K := 30) dX3_asTable_10 (by decide) q1526 ht hW (fun a3 ec hi2 => ?_) (fun hi2 => ?_)
  · subst ec
    replace hT := hT.1 a3 rfl hi2
    refine x_if_eq (tgt := 24) dX3_asTable_13 rfl (fun c => absurd c (by decide)) (fun _ => ?_)
    refine x_aload dX3_asTable_16 rfl rfl ?_
    obtain ⟨hc, hT⟩ := hT
    refine c_cast (K := 30) dX3_asTable_18 q1526 hc hW ?_
    refine x_astore_n (lo' := [some (.ref (w.1 3)), some (.int x1), some (.int x2), some (.ref a3), some (.ref a3)]) dX3_asTable_21 rfl (Nat.le_of_ble_eq_true rfl) rfl rfl ?_
    refine x_aload_n dX3_asTable_22 rfl rfl rfl ?_
    exact x_aret dX3_asTable_23 rfl (by first | exact Or.inl ⟨_, rfl⟩ | exact Or.inr ⟨_, rfl⟩) rfl ⟨_, _, hW, hF, Or.inl ⟨_, rfl, hT⟩⟩
  · replace hT := hT.2 hi2
    refine x_if_eq (tgt := 24) dX3_asTable_13 rfl (fun _ => ?_) (fun c => absurd c (by decide))
    refine x_aload_n dX3_asTable_24 rfl rfl rfl ?_
    refine x_iconst (v := 3) dX3_asTable_25 rfl ?_
    refine x_iload_n dX3_asTable_26 rfl rfl ?_
    obtain ⟨-, -, cc, hcc, -⟩ := hW.ob 3 (by decide)
    refine c_invV (vs := [.int 3, .int x2]) dX3_asTable_27 oX3_wrong q1323 q1322 hcc q1324 (Or.inl rfl) rfl rfl (Nat.le_of_ble_eq_true rfl) rfl hW hF hT ?_ ?_
    · intro _ s4 f5 hT h hW hF
      obtain ⟨rfl, hT⟩ := hT
      refine x_athrow dX3_asTable_30 ?_
      exact c_out (rfl) hW (Or.inl ⟨rfl, rfl⟩) hF hT
    · intro k s4 f5 hT h a hW hx hF
      exact c_out (rfl) hW hx hF hT
theorem eX3_asTable {l : Launch} {E : EN} {w : CO} {d : Nat} {s : CS} {f : RH} {Q : KO → CS → RH → Prop} {x1 : Int32} {x2 : Int32}  (hst : l.stackTraces = false) (hT : (inB x1 8400 ∧ ∃ v1 : Value, (s.2.2.2 25 x1.toNatClampNeg) = v1 ∧ isR v1 = true ∧ (isT f v1 ∧ ((∀ a3 : Nat, v1 = .ref a3 → tg f a3 = some (.inl 30) → (tg f a3 = some (.inl 30) ∧ Q (.inl (some (.ref a3))) s f)) ∧ ((∀ z : Nat, v1 = .ref z → ¬ tg f z = some (.inl 30)) → (EvC l E w d MX3_wrong [.ref (w.1 3), .int 3, .int x2] s f (fun o s4 f5 => KP o (fun r => r = some (.ref (w.1 9)) ∧ Q (.inr 9) s4 f5) (fun k => Q (.inr k) s4 f5)))))))) : EvC l E w (d + 1) MX3_asTable [.ref (w.1 3), .int x1, .int x2] s f Q :=
  EvC.of hst (by decide) (Nat.le_of_ble_eq_true rfl) (vX3_asTable_0  hT)
set_option maxHeartbeats 16000000 in
theorem vX3_put_0 {l : Launch} {E : EN} {w : CO} {d : Nat} {s : CS} {f : RH} {Q : KO → CS → RH → Prop} {x1 : Int32}  (hT : ((8 ≤ x1 → (∀ y1 : Int32, y1 = (((14 * ((s.1 36) - 1)) + x1) - 8) → (inB ((s.1 26) - 1) 8400 ∧ (inB y1 140 ∧ (inB ((s.1 26) - 1) 8400 ∧ ∃ v2 : Value, (s.2.2.2 25 ((s.1 26) - 1).toNatClampNeg) = v2 ∧ isR v2 = true ∧ (inB y1 140 ∧ isT f v2 ∧ (inB y1 140 ∧ Q (.inl none) (uA (uT (uA (uI s 26 ((s.1 26) - 1)) 27 y1.toNatClampNeg (s.2.2.1 24 ((s.1 26) - 1).toNatClampNeg)) 28 y1.toNatClampNeg v2) 29 y1.toNatClampNeg 1) f))))))) ∧ (¬ 8 ≤ x1 → (inB ((s.1 26) - 1) 8400 ∧ (inB ((s.1 26) - 1) 8400 ∧ ∃ v3 : Value, (s.2.2.2 25 ((s.1 26) - 1).toNatClampNeg) = v3 ∧ isR v3 = true ∧ (EvC l E w d MX4_put [.ref (w.1 4), .int x1, .int (s.2.2.1 24 ((s.1 26) - 1).toNatClampNeg), v3] (uI s 26 ((s.1 26) - 1)) f (fun o s4 f5 => KP o (fun r => r = none ∧ Q (.inl none) s4 f5) (fun k => Q (.inr k) s4 f5)))))))) : ExC l E w (d + 1) MX3_put 0 [some (.ref (w.1 3)), some (.int x1), none] [] s f Q := by
  intro f0 h hW hF
  refine x_aload_n dX3_put_0 rfl rfl rfl ?_
  refine x_dup dX3_put_1 rfl ?_
  refine c_getI (v := (s.1 26)) dX3_put_2 f_TallySlate_Machine_75 (by decide) (by decide) rfl hW rfl ?_
  refine x_iconst (v := 1) dX3_put_5 rfl ?_
  refine x_isub dX3_put_6 ?_
  refine c_putI dX3_put_7 f_TallySlate_Machine_75 (by decide) (by decide) rfl rfl rfl rfl hW ?_
  intro h hW
  refine x_iload_n dX3_put_10 rfl rfl ?_
  refine x_bipush (v := 8) dX3_put_11 rfl ?_
  refine x_icmp_ge (tgt := 43) dX3_put_13 rfl (fun c => ?_) (fun c => ?_)
  · replace hT := hT.1 c
    refine x_bipush (v := 14) dX3_put_43 rfl ?_
    refine x_aload_n dX3_put_45 rfl rfl rfl ?_
    refine c_getI (v := (s.1 36)) dX3_put_46 f_TallySlate_Machine_79 (by decide) (by decide) rfl hW rfl ?_
    refine x_iconst (v := 1) dX3_put_49 rfl ?_
    refine x_isub dX3_put_50 ?_
    refine x_imul dX3_put_51 ?_
    refine x_iload_n dX3_put_52 rfl rfl ?_
    refine x_iadd dX3_put_53 ?_
    refine x_bipush (v := 8) dX3_put_54 rfl ?_
    refine x_isub dX3_put_56 ?_
    obtain ⟨y1, ey1⟩ : ∃ z : Int32, z = (((14 * ((s.1 36) - 1)) + x1) - 8) := ⟨_, rfl⟩
    replace hT := hT y1 ey1
    refine x_istore_n (lo' := [some (.ref (w.1 3)), some (.int x1), some (.int y1)]) dX3_put_57 rfl (Nat.le_of_ble_eq_true rfl) (by rw [ey1]; exact rfl) ?_
    refine x_aload_n dX3_put_58 rfl rfl rfl ?_
    refine c_getA dX3_put_59 f_TallySlate_Machine_21 (by decide) (by decide) rfl hW ?_
    refine x_iload_n dX3_put_62 rfl rfl ?_
    refine x_aload_n dX3_put_63 rfl rfl rfl ?_
    refine c_getA dX3_put_64 f_TallySlate_Machine_9 (by decide) (by decide) rfl hW ?_
    refine x_aload_n dX3_put_67 rfl rfl rfl ?_
    refine c_getI (v := ((s.1 26) - 1)) dX3_put_68 f_TallySlate_Machine_75 (by decide) (by decide) rfl hW rfl ?_
    obtain ⟨hb, hT⟩ := hT
    refine c_iald (v := (s.2.2.1 24 ((s.1 26) - 1).toNatClampNeg)) dX3_put_71 rfl hb hW rfl ?_
    obtain ⟨hb, hT⟩ := hT
    refine c_iast dX3_put_72 rfl hb hW ?_
    intro h hW
    refine x_aload_n dX3_put_73 rfl rfl rfl ?_
    refine c_getA dX3_put_74 f_TallySlate_Machine_24 (by decide) (by decide) rfl hW ?_
    refine x_iload_n dX3_put_77 rfl rfl ?_
    refine x_aload_n dX3_put_78 rfl rfl rfl ?_
    refine c_getA dX3_put_79 f_TallySlate_Machine_17 (by decide) (by decide) rfl hW ?_
    refine x_aload_n dX3_put_82 rfl rfl rfl ?_
    refine c_getI (v := ((s.1 26) - 1)) dX3_put_83 f_TallySlate_Machine_75 (by decide) (by decide) rfl hW rfl ?_
    obtain ⟨hb, v2, ev, iv2, hT⟩ := hT
    refine c_aald (v := v2) dX3_put_86 rfl hb hW ev ?_
    obtain ⟨hb, ht, hT⟩ := hT
    refine c_aast dX3_put_87 rfl hb ht hW ?_
    intro h hW
    refine x_aload_n dX3_put_88 rfl rfl rfl ?_
    refine c_getA dX3_put_89 f_TallySlate_Machine_27 (by decide) (by decide) rfl hW ?_
    refine x_iload_n dX3_put_92 rfl rfl ?_
    refine x_iconst (v := 1) dX3_put_93 rfl ?_
    obtain ⟨hb, hT⟩ := hT
    refine c_zast dX3_put_94 rfl hb rfl hW ?_
    intro h hW
    exact x_vret dX3_put_95 rfl ⟨_, _, hW, hF, Or.inl ⟨_, rfl, hT⟩⟩
  · replace hT := hT.2 c
    refine x_aload_n dX3_put_16 rfl rfl rfl ?_
    refine c_getO dX3_put_17 f_TallySlate_Machine_34 (by decide) (by decide) rfl hW ?_
    refine x_iload_n dX3_put_20 rfl rfl ?_
    refine x_aload_n dX3_put_21 rfl rfl rfl ?_
    refine c_getA dX3_put_22 f_TallySlate_Machine_9 (by decide) (by decide) rfl hW ?_
    refine x_aload_n dX3_put_25 rfl rfl rfl ?_
    refine c_getI (v := ((s.1 26) - 1)) dX3_put_26 f_TallySlate_Machine_75 (by decide) (by decide) rfl hW rfl ?_
    obtain ⟨hb, hT⟩ := hT
    refine c_iald (v := (s.2.2.1 24 ((s.1 26) - 1).toNatClampNeg)) dX3_put_29 rfl hb hW rfl ?_
    refine x_aload_n dX3_put_30 rfl rfl rfl ?_
    refine c_getA dX3_put_31 f_TallySlate_Machine_17 (by decide) (by decide) rfl hW ?_
    refine x_aload_n dX3_put_34 rfl rfl rfl ?_
    refine c_getI (v := ((s.1 26) - 1)) dX3_put_35 f_TallySlate_Machine_75 (by decide) (by decide) rfl hW rfl ?_
    obtain ⟨hb, v3, ev, iv3, hT⟩ := hT
    refine c_aald (v := v3) dX3_put_38 rfl hb hW ev ?_
    obtain ⟨-, -, cc, hcc, -⟩ := hW.ob 4 (by decide)
    refine c_invV (vs := [.int x1, .int (s.2.2.1 24 ((s.1 26) - 1).toNatClampNeg), v3]) dX3_put_39 oX4_put q1939 q1938 hcc q1940 (Or.inl rfl) rfl rfl (Nat.le_of_ble_eq_true rfl) rfl hW hF hT ?_ ?_
    · intro _ s4 f5 hT h hW hF
      obtain ⟨rfl, hT⟩ := hT
      exact x_vret dX3_put_42 rfl ⟨_, _, hW, hF, Or.inl ⟨_, rfl, hT⟩⟩
    · intro k s4 f5 hT h a hW hx hF
      exact c_out (rfl) hW hx hF hT
theorem eX3_put {l : Launch} {E : EN} {w : CO} {d : Nat} {s : CS} {f : RH} {Q : KO → CS → RH → Prop} {x1 : Int32}  (hst : l.stackTraces = false) (hT : ((8 ≤ x1 → (∀ y1 : Int32, y1 = (((14 * ((s.1 36) - 1)) + x1) - 8) → (inB ((s.1 26) - 1) 8400 ∧ (inB y1 140 ∧ (inB ((s.1 26) - 1) 8400 ∧ ∃ v2 : Value, (s.2.2.2 25 ((s.1 26) - 1).toNatClampNeg) = v2 ∧ isR v2 = true ∧ (inB y1 140 ∧ isT f v2 ∧ (inB y1 140 ∧ Q (.inl none) (uA (uT (uA (uI s 26 ((s.1 26) - 1)) 27 y1.toNatClampNeg (s.2.2.1 24 ((s.1 26) - 1).toNatClampNeg)) 28 y1.toNatClampNeg v2) 29 y1.toNatClampNeg 1) f))))))) ∧ (¬ 8 ≤ x1 → (inB ((s.1 26) - 1) 8400 ∧ (inB ((s.1 26) - 1) 8400 ∧ ∃ v3 : Value, (s.2.2.2 25 ((s.1 26) - 1).toNatClampNeg) = v3 ∧ isR v3 = true ∧ (EvC l E w d MX4_put [.ref (w.1 4), .int x1, .int (s.2.2.1 24 ((s.1 26) - 1).toNatClampNeg), v3] (uI s 26 ((s.1 26) - 1)) f (fun o s4 f5 => KP o (fun r => r = none ∧ Q (.inl none) s4 f5) (fun k => Q (.inr k) s4 f5)))))))) : EvC l E w (d + 1) MX3_put [.ref (w.1 3), .int x1] s f Q :=
  EvC.of hst (by decide) (Nat.le_of_ble_eq_true rfl) (vX3_put_0  hT)
set_option maxHeartbeats 16000000 in
theorem vX3_change_0 {l : Launch} {E : EN} {w : CO} {d : Nat} {s : CS} {f : RH} {Q : KO → CS → RH → Prop} {x1 : Nat}  (hT : (oc f x1 28 ∧ (∃ v1 : Value, vl f x1 201 = v1 ∧ isR v1 = true ∧ ((v1 = .null → (∀ y3 : Int32, y3 = ((s.1 26) - 2) → (oc f x1 28 ∧ (∃ v4 : Int32, vl f x1 196 = .int v4 ∧ (oc f x1 28 ∧ (∃ v5 : Int32, vl f x1 197 = .int v5 ∧ (EvC l E w d MX3_value [.ref (w.1 3), .int v4, .int v5] s f (fun o s6 f7 => KP o (fun r => r = none ∧ (inB ((s6.1 26) - 1) 8400 ∧ ∃ v8 : Value, (s6.2.2.2 25 ((s6.1 26) - 1).toNatClampNeg) = v8 ∧ isR v8 = true ∧ (oc f7 x1 28 ∧ (∃ v9 : Int32, vl f7 x1 198 = .int v9 ∧ (EvC l E w d MX3_isInt [.ref (w.1 3), .int y3] (uI s6 26 ((s6.1 26) - 1)) f7 (fun o s10 f11 => KP o (fun r => ∃ v12 : Int32, r = some (.int v12) ∧ ((v12 = 0 → ExC l E w (d + 1) MX3_change 89 [some (.ref (w.1 3)), some (.ref x1), some (.int 2), some (.int y3), some (v8), some (.int v9), none, none, none, none] [.int 0] s10 f11 Q) ∧ (¬ v12 = 0 → ExC l E w (d + 1) MX3_change 89 [some (.ref (w.1 3)), some (.ref x1), some (.int 2), some (.int y3), some (v8), some (.int v9), none, none, none, none] [.int 1] s10 f11 Q))) (fun k => Q (.inr k) s10 f11))))))) (fun k => Q (.inr k) s6 f7))))))))) ∧ (∀ a2 : Nat, v1 = .ref a2 → (∀ y13 : Int32, y13 = ((s.1 26) - 3) → (oc f x1 28 ∧ (∃ v14 : Int32, vl f x1 196 = .int v14 ∧ (oc f x1 28 ∧ (∃ v15 : Int32, vl f x1 197 = .int v15 ∧ (EvC l E w d MX3_value [.ref (w.1 3), .int v14, .int v15] s f (fun o s16 f17 => KP o (fun r => r = none ∧ (inB ((s16.1 26) - 1) 8400 ∧ ∃ v18 : Value, (s16.2.2.2 25 ((s16.1 26) - 1).toNatClampNeg) = v18 ∧ isR v18 = true ∧ (oc f17 x1 28 ∧ (∃ v19 : Int32, vl f17 x1 198 = .int v19 ∧ (EvC l E w d MX3_isInt [.ref (w.1 3), .int y13] (uI s16 26 ((s16.1 26) - 1)) f17 (fun o s20 f21 => KP o (fun r => ∃ v22 : Int32, r = some (.int v22) ∧ ((v22 = 0 → ExC l E w (d + 1) MX3_change 89 [some (.ref (w.1 3)), some (.ref x1), some (.int 3), some (.int y13), some (v18), some (.int v19), none, none, none, none] [.int 0] s20 f21 Q) ∧ (¬ v22 = 0 → (EvC l E w d MX3_isInt [.ref (w.1 3), .int (y13 + 1)] s20 f21 (fun o s23 f24 => KP o (fun r => ∃ v25 : Int32, r = some (.int v25) ∧ ((v25 = 0 → ExC l E w (d + 1) MX3_change 89 [some (.ref (w.1 3)), some (.ref x1), some (.int 3), some (.int y13), some (v18), some (.int v19), none, none, none, none] [.int 0] s23 f24 Q) ∧ (¬ v25 = 0 → ExC l E w (d + 1) MX3_change 89 [some (.ref (w.1 3)), some (.ref x1), some (.int 3), some (.int y13), some (v18), some (.int v19), none, none, none, none] [.int 1] s23 f24 Q))) (fun k => Q (.inr k) s23 f24)))))) (fun k => Q (.inr k) s20 f21))))))) (fun k => Q (.inr k) s16 f17))))))))))))) : ExC l E w (d + 1) MX3_change 0 [some (.ref (w.1 3)), some (.ref x1), none, none, none, none, none, none, none, none] [] s f Q := by
  intro f0 h hW hF
  refine x_aload_n dX3_change_0 rfl rfl rfl ?_
  obtain ⟨hc, hT⟩ := hT
  obtain ⟨v1, ev, iv1, hT⟩ := hT
  refine c_fgetG dX3_change_1 f_TallySlate_Machine_249 hc (by decide) (by decide) hW ev ?_
  refine x_ifnonnull (tgt := 11) dX3_change_4 rfl iv1 (fun a2 e => ?_) (fun e => ?_)
  · subst e
    replace hT := hT.2 a2 rfl
    refine x_iconst (v := 3) dX3_change_11 rfl ?_
    refine x_istore_n (lo' := [some (.ref (w.1 3)), some (.ref x1), some (.int 3), none, none, none, none, none, none, none]) dX3_change_12 rfl (Nat.le_of_ble_eq_true rfl) rfl ?_
    refine x_aload_n dX3_change_13 rfl rfl rfl ?_
    refine c_getI (v := (s.1 26)) dX3_change_14 f_TallySlate_Machine_75 (by decide) (by decide) rfl hW rfl ?_
    refine x_iload_n dX3_change_17 rfl rfl ?_
    refine x_isub dX3_change_18 ?_
    obtain ⟨y13, ey13⟩ : ∃ z : Int32, z = ((s.1 26) - 3) := ⟨_, rfl⟩
    replace hT := hT y13 ey13
    refine x_istore_n (lo' := [some (.ref (w.1 3)), some (.ref x1), some (.int 3), some (.int y13), none, none, none, none, none, none]) dX3_change_19 rfl (Nat.le_of_ble_eq_true rfl) (by rw [ey13]; exact rfl) ?_
    refine x_aload_n dX3_change_20 rfl rfl rfl ?_
    refine x_aload_n dX3_change_21 rfl rfl rfl ?_
    obtain ⟨hc, hT⟩ := hT
    obtain ⟨v14, ev, hT⟩ := hT
    refine c_fgetG dX3_change_22 f_TallySlate_Machine_255 hc (by decide) (by decide) hW ev ?_
    refine x_aload_n dX3_change_25 rfl rfl rfl ?_
    obtain ⟨hc, hT⟩ := hT
    obtain ⟨v15, ev, hT⟩ := hT
    refine c_fgetG dX3_change_26 f_TallySlate_Machine_257 hc (by decide) (by decide) hW ev ?_
    obtain ⟨-, -, cc, hcc, -⟩ := hW.ob 3 (by decide)
    refine c_invV (vs := [.int v14, .int v15]) dX3_change_29 oX3_value q1360 q1946 hcc q1361 (Or.inl rfl) rfl rfl (Nat.le_of_ble_eq_true rfl) rfl hW hF hT ?_ ?_
    · intro _ s16 f17 hT h hW hF
      obtain ⟨rfl, hT⟩ := hT
      refine x_aload_n dX3_change_32 rfl rfl rfl ?_
      refine c_getA dX3_change_33 f_TallySlate_Machine_17 (by decide) (by decide) rfl hW ?_
      refine x_aload_n dX3_change_36 rfl rfl rfl ?_
      refine c_getI (v := (s16.1 26)) dX3_change_37 f_TallySlate_Machine_75 (by decide) (by decide) rfl hW rfl ?_
      refine x_iconst (v := 1) dX3_change_40 rfl ?_
      refine x_isub dX3_change_41 ?_
      obtain ⟨hb, v18, ev, iv18, hT⟩ := hT
      refine c_aald (v := v18) dX3_change_42 rfl hb hW ev ?_
      refine x_astore (lo' := [some (.ref (w.1 3)), some (.ref x1), some (.int 3), some (.int y13), some (v18), none, none, none, none, none]) dX3_change_43 (Nat.le_of_ble_eq_true rfl) iv18 rfl ?_
      refine x_aload_n dX3_change_45 rfl rfl rfl ?_
      refine x_dup dX3_change_46 rfl ?_
      refine c_getI (v := (s16.1 26)) dX3_change_47 f_TallySlate_Machine_75 (by decide) (by decide) rfl hW rfl ?_
      refine x_iconst (v := 1) dX3_change_50 rfl ?_
      refine x_isub dX3_change_51 ?_
      refine c_putI dX3_change_52 f_TallySlate_Machine_75 (by decide) (by decide) rfl rfl rfl rfl hW ?_
      intro h hW
      refine x_aload_n dX3_change_55 rfl rfl rfl ?_
      obtain ⟨hc, hT⟩ := hT
      obtain ⟨v19, ev, hT⟩ := hT
      refine c_fgetG dX3_change_56 f_TallySlate_Machine_263 hc (by decide) (by decide) hW ev ?_
      refine x_istore (lo' := [some (.ref (w.1 3)), some (.ref x1), some (.int 3), some (.int y13), some (v18), some (.int v19), none, none, none, none]) dX3_change_59 (Nat.le_of_ble_eq_true rfl) ((st1_V (k := 4) rfl iv18).trans rfl) ?_
      refine x_aload_n dX3_change_61 rfl rfl rfl ?_
      refine x_iload_n dX3_change_62 rfl rfl ?_
      obtain ⟨-, -, cc, hcc, -⟩ := hW.ob 3 (by decide)
      refine c_invV (vs := [.int y13]) dX3_change_63 oX3_isInt q1610 q1609 hcc q1611 (Or.inl rfl) rfl rfl (Nat.le_of_ble_eq_true rfl) rfl hW hF hT ?_ ?_
      · intro _ s20 f21 hT h hW hF
        obtain ⟨v22, rfl, hT⟩ := hT
        refine x_if_eq (tgt := 88) dX3_change_66 rfl (fun c => ?_) (fun c => ?_)
        · replace hT := hT.1 c
          refine x_iconst (v := 0) dX3_change_88 rfl ?_
          exact hT f0 h hW hF
        · replace hT := hT.2 c
          refine x_iload_n dX3_change_69 rfl rfl ?_
          refine x_iconst (v := 2) dX3_change_70 rfl ?_
          refine x_icmp_eq (tgt := 84) dX3_change_71 rfl (fun c => absurd c (by decide)) (fun _ => ?_)
          refine x_aload_n dX3_change_74 rfl rfl rfl ?_
          refine x_iload_n dX3_change_75 rfl rfl ?_
          refine x_iconst (v := 1) dX3_change_76 rfl ?_
          refine x_iadd dX3_change_77 ?_
          obtain ⟨-, -, cc, hcc, -⟩ := hW.ob 3 (by decide)
          refine c_invV (vs := [.int (y13 + 1)]) dX3_change_78 oX3_isInt q1610 q1609 hcc q1611 (Or.inl rfl) rfl rfl (Nat.le_of_ble_eq_true rfl) rfl hW hF hT ?_ ?_
          · intro _ s23 f24 hT h hW hF
            obtain ⟨v25, rfl, hT⟩ := hT
            refine x_if_eq (tgt := 88) dX3_change_81 rfl (fun c => ?_) (fun c => ?_)
            · replace hT := hT.1 c
              refine x_iconst (v := 0) dX3_change_88 rfl ?_
              exact hT f0 h hW hF
            · replace hT := hT.2 c
              refine x_iconst (v := 1) dX3_change_84 rfl ?_
              refine x_goto (tgt := 89) dX3_change_85 rfl ?_
              exact hT f0 h hW hF
          · intro k s23 f24 hT h a hW hx hF
            exact c_out (hsr_skip (by decide) (rfl)) hW hx hF hT
      · intro k s20 f21 hT h a hW hx hF
        exact c_out (hsr_skip (by decide) (rfl)) hW hx hF hT
    · intro k s16 f17 hT h a hW hx hF
      exact c_out (hsr_skip (by decide) (rfl)) hW hx hF hT
  · subst e
    replace hT := hT.1 rfl
    refine x_iconst (v := 2) dX3_change_7 rfl ?_
    refine x_goto (tgt := 12) dX3_change_8 rfl ?_
    refine x_istore_n (lo' := [some (.ref (w.1 3)), some (.ref x1), some (.int 2), none, none, none, none, none, none, none]) dX3_change_12 rfl (Nat.le_of_ble_eq_true rfl) rfl ?_
    refine x_aload_n dX3_change_13 rfl rfl rfl ?_
    refine c_getI (v := (s.1 26)) dX3_change_14 f_TallySlate_Machine_75 (by decide) (by decide) rfl hW rfl ?_
    refine x_iload_n dX3_change_17 rfl rfl ?_
    refine x_isub dX3_change_18 ?_
    obtain ⟨y3, ey3⟩ : ∃ z : Int32, z = ((s.1 26) - 2) := ⟨_, rfl⟩
    replace hT := hT y3 ey3
    refine x_istore_n (lo' := [some (.ref (w.1 3)), some (.ref x1), some (.int 2), some (.int y3), none, none, none, none, none, none]) dX3_change_19 rfl (Nat.le_of_ble_eq_true rfl) (by rw [ey3]; exact rfl) ?_
    refine x_aload_n dX3_change_20 rfl rfl rfl ?_
    refine x_aload_n dX3_change_21 rfl rfl rfl ?_
    obtain ⟨hc, hT⟩ := hT
    obtain ⟨v4, ev, hT⟩ := hT
    refine c_fgetG dX3_change_22 f_TallySlate_Machine_255 hc (by decide) (by decide) hW ev ?_
    refine x_aload_n dX3_change_25 rfl rfl rfl ?_
    obtain ⟨hc, hT⟩ := hT
    obtain ⟨v5, ev, hT⟩ := hT
    refine c_fgetG dX3_change_26 f_TallySlate_Machine_257 hc (by decide) (by decide) hW ev ?_
    obtain ⟨-, -, cc, hcc, -⟩ := hW.ob 3 (by decide)
    refine c_invV (vs := [.int v4, .int v5]) dX3_change_29 oX3_value q1360 q1946 hcc q1361 (Or.inl rfl) rfl rfl (Nat.le_of_ble_eq_true rfl) rfl hW hF hT ?_ ?_
    · intro _ s6 f7 hT h hW hF
      obtain ⟨rfl, hT⟩ := hT
      refine x_aload_n dX3_change_32 rfl rfl rfl ?_
      refine c_getA dX3_change_33 f_TallySlate_Machine_17 (by decide) (by decide) rfl hW ?_
      refine x_aload_n dX3_change_36 rfl rfl rfl ?_
      refine c_getI (v := (s6.1 26)) dX3_change_37 f_TallySlate_Machine_75 (by decide) (by decide) rfl hW rfl ?_
      refine x_iconst (v := 1) dX3_change_40 rfl ?_
      refine x_isub dX3_change_41 ?_
      obtain ⟨hb, v8, ev, iv8, hT⟩ := hT
      refine c_aald (v := v8) dX3_change_42 rfl hb hW ev ?_
      refine x_astore (lo' := [some (.ref (w.1 3)), some (.ref x1), some (.int 2), some (.int y3), some (v8), none, none, none, none, none]) dX3_change_43 (Nat.le_of_ble_eq_true rfl) iv8 rfl ?_
      refine x_aload_n dX3_change_45 rfl rfl rfl ?_
      refine x_dup dX3_change_46 rfl ?_
      refine c_getI (v := (s6.1 26)) dX3_change_47 f_TallySlate_Machine_75 (by decide) (by decide) rfl hW rfl ?_
      refine x_iconst (v := 1) dX3_change_50 rfl ?_
      refine x_isub dX3_change_51 ?_
      refine c_putI dX3_change_52 f_TallySlate_Machine_75 (by decide) (by decide) rfl rfl rfl rfl hW ?_
      intro h hW
      refine x_aload_n dX3_change_55 rfl rfl rfl ?_
      obtain ⟨hc, hT⟩ := hT
      obtain ⟨v9, ev, hT⟩ := hT
      refine c_fgetG dX3_change_56 f_TallySlate_Machine_263 hc (by decide) (by decide) hW ev ?_
      refine x_istore (lo' := [some (.ref (w.1 3)), some (.ref x1), some (.int 2), some (.int y3), some (v8), some (.int v9), none, none, none, none]) dX3_change_59 (Nat.le_of_ble_eq_true rfl) ((st1_V (k := 4) rfl iv8).trans rfl) ?_
      refine x_aload_n dX3_change_61 rfl rfl rfl ?_
      refine x_iload_n dX3_change_62 rfl rfl ?_
      obtain ⟨-, -, cc, hcc, -⟩ := hW.ob 3 (by decide)
      refine c_invV (vs := [.int y3]) dX3_change_63 oX3_isInt q1610 q1609 hcc q1611 (Or.inl rfl) rfl rfl (Nat.le_of_ble_eq_true rfl) rfl hW hF hT ?_ ?_
      · intro _ s10 f11 hT h hW hF
        obtain ⟨v12, rfl, hT⟩ := hT
        refine x_if_eq (tgt := 88) dX3_change_66 rfl (fun c => ?_) (fun c => ?_)
        · replace hT := hT.1 c
          refine x_iconst (v := 0) dX3_change_88 rfl ?_
          exact hT f0 h hW hF
        · replace hT := hT.2 c
          refine x_iload_n dX3_change_69 rfl rfl ?_
          refine x_iconst (v := 2) dX3_change_70 rfl ?_
          refine x_icmp_eq (tgt := 84) dX3_change_71 rfl (fun _ => ?_) (fun c => absurd c (by decide))
          refine x_iconst (v := 1) dX3_change_84 rfl ?_
          refine x_goto (tgt := 89) dX3_change_85 rfl ?_
          exact hT f0 h hW hF
      · intro k s10 f11 hT h a hW hx hF
        exact c_out (hsr_skip (by decide) (rfl)) hW hx hF hT
    · intro k s6 f7 hT h a hW hx hF
      exact c_out (hsr_skip (by decide) (rfl)) hW hx hF hT
theorem eX3_change {l : Launch} {E : EN} {w : CO} {d : Nat} {s : CS} {f : RH} {Q : KO → CS → RH → Prop} {x1 : Nat}  (hst : l.stackTraces = false) (hT : (oc f x1 28 ∧ (∃ v1 : Value, vl f x1 201 = v1 ∧ isR v1 = true ∧ ((v1 = .null → (∀ y3 : Int32, y3 = ((s.1 26) - 2) → (oc f x1 28 ∧ (∃ v4 : Int32, vl f x1 196 = .int v4 ∧ (oc f x1 28 ∧ (∃ v5 : Int32, vl f x1 197 = .int v5 ∧ (EvC l E w d MX3_value [.ref (w.1 3), .int v4, .int v5] s f (fun o s6 f7 => KP o (fun r => r = none ∧ (inB ((s6.1 26) - 1) 8400 ∧ ∃ v8 : Value, (s6.2.2.2 25 ((s6.1 26) - 1).toNatClampNeg) = v8 ∧ isR v8 = true ∧ (oc f7 x1 28 ∧ (∃ v9 : Int32, vl f7 x1 198 = .int v9 ∧ (EvC l E w d MX3_isInt [.ref (w.1 3), .int y3] (uI s6 26 ((s6.1 26) - 1)) f7 (fun o s10 f11 => KP o (fun r => ∃ v12 : Int32, r = some (.int v12) ∧ ((v12 = 0 → ExC l E w (d + 1) MX3_change 89 [some (.ref (w.1 3)), some (.ref x1), some (.int 2), some (.int y3), some (v8), some (.int v9), none, none, none, none] [.int 0] s10 f11 Q) ∧ (¬ v12 = 0 → ExC l E w (d + 1) MX3_change 89 [some (.ref (w.1 3)), some (.ref x1), some (.int 2), some (.int y3), some (v8), some (.int v9), none, none, none, none] [.int 1] s10 f11 Q))) (fun k => Q (.inr k) s10 f11))))))) (fun k => Q (.inr k) s6 f7))))))))) ∧ (∀ a2 : Nat, v1 = .ref a2 → (∀ y13 : Int32, y13 = ((s.1 26) - 3) → (oc f x1 28 ∧ (∃ v14 : Int32, vl f x1 196 = .int v14 ∧ (oc f x1 28 ∧ (∃ v15 : Int32, vl f x1 197 = .int v15 ∧ (EvC l E w d MX3_value [.ref (w.1 3), .int v14, .int v15] s f (fun o s16 f17 => KP o (fun r => r = none ∧ (inB ((s16.1 26) - 1) 8400 ∧ ∃ v18 : Value, (s16.2.2.2 25 ((s16.1 26) - 1).toNatClampNeg) = v18 ∧ isR v18 = true ∧ (oc f17 x1 28 ∧ (∃ v19 : Int32, vl f17 x1 198 = .int v19 ∧ (EvC l E w d MX3_isInt [.ref (w.1 3), .int y13] (uI s16 26 ((s16.1 26) - 1)) f17 (fun o s20 f21 => KP o (fun r => ∃ v22 : Int32, r = some (.int v22) ∧ ((v22 = 0 → ExC l E w (d + 1) MX3_change 89 [some (.ref (w.1 3)), some (.ref x1), some (.int 3), some (.int y13), some (v18), some (.int v19), none, none, none, none] [.int 0] s20 f21 Q) ∧ (¬ v22 = 0 → (EvC l E w d MX3_isInt [.ref (w.1 3), .int (y13 + 1)] s20 f21 (fun o s23 f24 => KP o (fun r => ∃ v25 : Int32, r = some (.int v25) ∧ ((v25 = 0 → ExC l E w (d + 1) MX3_change 89 [some (.ref (w.1 3)), some (.ref x1), some (.int 3), some (.int y13), some (v18), some (.int v19), none, none, none, none] [.int 0] s23 f24 Q) ∧ (¬ v25 = 0 → ExC l E w (d + 1) MX3_change 89 [some (.ref (w.1 3)), some (.ref x1), some (.int 3), some (.int y13), some (v18), some (.int v19), none, none, none, none] [.int 1] s23 f24 Q))) (fun k => Q (.inr k) s23 f24)))))) (fun k => Q (.inr k) s20 f21))))))) (fun k => Q (.inr k) s16 f17))))))))))))) : EvC l E w (d + 1) MX3_change [.ref (w.1 3), .ref x1] s f Q :=
  EvC.of hst (by decide) (Nat.le_of_ble_eq_true rfl) (vX3_change_0  hT)
set_option maxHeartbeats 16000000 in
theorem vX3_change_89 {l : Launch} {E : EN} {w : CO} {d : Nat} {s : CS} {f : RH} {Q : KO → CS → RH → Prop} {b1 : Nat} {b2 : Int32} {b3 : Int32} {b4 : Value} {b5 : Int32} {c0 : Int32} (ib4 : isR b4 = true) (hT : ((¬ b2 = 3 → (isT f b4 ∧ ((∀ a27 : Nat, b4 = .ref a27 → tg f a27 = some (.inl 29) → (EvC l E w d MX3_isInt [.ref (w.1 3), .int ((s.1 26) - 1)] s f (fun o s28 f29 => KP o (fun r => ∃ v30 : Int32, r = some (.int v30) ∧ ((¬ v30 = 0 → ExC l E w (d + 1) MX3_change 181 [some (.ref (w.1 3)), some (.ref b1), some (.int b2), some (.int b3), some (.ref a27), some (.int b5), some (.int c0), none, none, none] [.int 1] s28 f29 Q) ∧ (v30 = 0 → (isT f29 (.ref a27) ∧ ((tg f29 a27 = some (.inl 30) → (inB ((s28.1 26) - 1) 8400 ∧ ∃ v32 : Value, (s28.2.2.2 25 ((s28.1 26) - 1).toNatClampNeg) = v32 ∧ isR v32 = true ∧ (isT f29 v32 ∧ ((∀ a34 : Nat, v32 = .ref a34 → tg f29 a34 = some (.inl 29) → ExC l E w (d + 1) MX3_change 181 [some (.ref (w.1 3)), some (.ref b1), some (.int b2), some (.int b3), some (.ref a27), some (.int b5), some (.int c0), none, none, none] [.int 1] s28 f29 Q) ∧ ((∀ z : Nat, v32 = .ref z → ¬ tg f29 z = some (.inl 29)) → (isT f29 (.ref a27) ∧ ((tg f29 a27 = some (.inl 31) → ExC l E w (d + 1) MX3_change 181 [some (.ref (w.1 3)), some (.ref b1), some (.int b2), some (.int b3), some (.ref a27), some (.int b5), some (.int c0), none, none, none] [.int 1] s28 f29 Q) ∧ (¬ tg f29 a27 = some (.inl 31) → ExC l E w (d + 1) MX3_change 181 [some (.ref (w.1 3)), some (.ref b1), some (.int b2), some (.int b3), some (.ref a27), some (.int b5), some (.int c0), none, none, none] [.int 0] s28 f29 Q)))))))) ∧ (¬ tg f29 a27 = some (.inl 30) → (isT f29 (.ref a27) ∧ ((tg f29 a27 = some (.inl 31) → ExC l E w (d + 1) MX3_change 181 [some (.ref (w.1 3)), some (.ref b1), some (.int b2), some (.int b3), some (.ref a27), some (.int b5), some (.int c0), none, none, none] [.int 1] s28 f29 Q) ∧ (¬ tg f29 a27 = some (.inl 31) → ExC l E w (d + 1) MX3_change 181 [some (.ref (w.1 3)), some (.ref b1), some (.int b2), some (.int b3), some (.ref a27), some (.int b5), some (.int c0), none, none, none] [.int 0] s28 f29 Q))))))))) (fun k => Q (.inr k) s28 f29)))) ∧ ((∀ z : Nat, b4 = .ref z → ¬ tg f z = some (.inl 29)) → (isT f b4 ∧ ((∀ a38 : Nat, b4 = .ref a38 → tg f a38 = some (.inl 30) → (inB ((s.1 26) - 1) 8400 ∧ ∃ v39 : Value, (s.2.2.2 25 ((s.1 26) - 1).toNatClampNeg) = v39 ∧ isR v39 = true ∧ (isT f v39 ∧ ((∀ a41 : Nat, v39 = .ref a41 → tg f a41 = some (.inl 29) → ExC l E w (d + 1) MX3_change 181 [some (.ref (w.1 3)), some (.ref b1), some (.int b2), some (.int b3), some (.ref a38), some (.int b5), some (.int c0), none, none, none] [.int 1] s f Q) ∧ ((∀ z : Nat, v39 = .ref z → ¬ tg f z = some (.inl 29)) → (isT f (.ref a38) ∧ ((tg f a38 = some (.inl 31) → ExC l E w (d + 1) MX3_change 181 [some (.ref (w.1 3)), some (.ref b1), some (.int b2), some (.int b3), some (.ref a38), some (.int b5), some (.int c0), none, none, none] [.int 1] s f Q) ∧ (¬ tg f a38 = some (.inl 31) → ExC l E w (d + 1) MX3_change 181 [some (.ref (w.1 3)), some (.ref b1), some (.int b2), some (.int b3), some (.ref a38), some (.int b5), some (.int c0), none, none, none] [.int 0] s f Q)))))))) ∧ ((∀ z : Nat, b4 = .ref z → ¬ tg f z = some (.inl 30)) → (isT f b4 ∧ ((∀ a44 : Nat, b4 = .ref a44 → tg f a44 = some (.inl 31) → ExC l E w (d + 1) MX3_change 181 [some (.ref (w.1 3)), some (.ref b1), some (.int b2), some (.int b3), some (.ref a44), some (.int b5), some (.int c0), none, none, none] [.int 1] s f Q) ∧ ((∀ z : Nat, b4 = .ref z → ¬ tg f z = some (.inl 31)) → ExC l E w (d + 1) MX3_change 181 [some (.ref (w.1 3)), some (.ref b1), some (.int b2), some (.int b3), some (b4), some (.int b5), some (.int c0), none, none, none] [.int 0] s f Q)))))))))) ∧ (b2 = 3 → (isT f b4 ∧ ((∀ a46 : Nat, b4 = .ref a46 → tg f a46 = some (.inl 30) → (EvC l E w d MX3_isInt [.ref (w.1 3), .int (b3 + 2)] s f (fun o s47 f48 => KP o (fun r => ∃ v49 : Int32, r = some (.int v49) ∧ ((v49 = 0 → ExC l E w (d + 1) MX3_change 181 [some (.ref (w.1 3)), some (.ref b1), some (.int b2), some (.int b3), some (.ref a46), some (.int b5), some (.int c0), none, none, none] [.int 0] s47 f48 Q) ∧ (¬ v49 = 0 → ExC l E w (d + 1) MX3_change 181 [some (.ref (w.1 3)), some (.ref b1), some (.int b2), some (.int b3), some (.ref a46), some (.int b5), some (.int c0), none, none, none] [.int 1] s47 f48 Q))) (fun k => Q (.inr k) s47 f48)))) ∧ ((∀ z : Nat, b4 = .ref z → ¬ tg f z = some (.inl 30)) → ExC l E w (d + 1) MX3_change 181 [some (.ref (w.1 3)), some (.ref b1), some (.int b2), some (.int b3), some (b4), some (.int b5), some (.int c0), none, none, none] [.int 0] s f Q)))))) : ExC l E w (d + 1) MX3_change 89 [some (.ref (w.1 3)), some (.ref b1), some (.int b2), some (.int b3), some (b4), some (.int b5), none, none, none, none] [.int c0] s f Q := by
  intro f0 h hW hF
  refine x_istore (lo' := [some (.ref (w.1 3)), some (.ref b1), some (.int b2), some (.int b3), some (b4), some (.int b5), some (.int c0), none, none, none]) dX3_change_89 (Nat.le_of_ble_eq_true rfl) rfl ?_
  refine x_iload_n dX3_change_91 rfl rfl ?_
  refine x_iconst (v := 3) dX3_change_92 rfl ?_
  refine x_icmp_ne (tgt := 122) dX3_change_93 rfl (fun c => ?_) (fun c => ?_)
  · replace hT := hT.1 c
    refine x_aload dX3_change_122 rfl ib4 ?_
    obtain ⟨ht, hT⟩ := hT
    refine c_instV (K := 29) dX3_change_124 (by decide) q1520 ht hW (fun a27 ec hi26 => ?_) (fun hi26 => ?_)
    · subst ec
      replace hT := hT.1 a27 rfl hi26
      refine x_if_eq (tgt := 143) dX3_change_127 rfl (fun c => absurd c (by decide)) (fun _ => ?_)
      refine x_aload_n dX3_change_130 rfl rfl rfl ?_
      refine x_aload_n dX3_change_131 rfl rfl rfl ?_
      refine c_getI (v := (s.1 26)) dX3_change_132 f_TallySlate_Machine_75 (by decide) (by decide) rfl hW rfl ?_
      refine x_iconst (v := 1) dX3_change_135 rfl ?_
      refine x_isub dX3_change_136 ?_
      obtain ⟨-, -, cc, hcc, -⟩ := hW.ob 3 (by decide)
      refine c_invV (vs := [.int ((s.1 26) - 1)]) dX3_change_137 oX3_isInt q1610 q1609 hcc q1611 (Or.inl rfl) rfl rfl (Nat.le_of_ble_eq_true rfl) rfl hW hF hT ?_ ?_
      · intro _ s28 f29 hT h hW hF
        obtain ⟨v30, rfl, hT⟩ := hT
        refine x_if_ne (tgt := 176) dX3_change_140 rfl (fun c => ?_) (fun c => ?_)
        · replace hT := hT.1 c
          refine x_iconst (v := 1) dX3_change_176 rfl ?_
          refine x_goto (tgt := 181) dX3_change_177 rfl ?_
          exact hT f0 h hW hF
        · replace hT := hT.2 c
          refine x_aload dX3_change_143 rfl rfl ?_
          obtain ⟨ht, hT⟩ := hT
          refine c_inst (K := 30) dX3_change_145 (by decide) q1526 ht hW (fun hi31 => ?_) (fun hi31 => ?_)
          · replace hT := hT.1 hi31
            refine x_if_eq (tgt := 168) dX3_change_148 rfl (fun c => absurd c (by decide)) (fun _ => ?_)
            refine x_aload_n dX3_change_151 rfl rfl rfl ?_
            refine c_getA dX3_change_152 f_TallySlate_Machine_17 (by decide) (by decide) rfl hW ?_
            refine x_aload_n dX3_change_155 rfl rfl rfl ?_
            refine c_getI (v := (s28.1 26)) dX3_change_156 f_TallySlate_Machine_75 (by decide) (by decide) rfl hW rfl ?_
            refine x_iconst (v := 1) dX3_change_159 rfl ?_
            refine x_isub dX3_change_160 ?_
            obtain ⟨hb, v32, ev, iv32, hT⟩ := hT
            refine c_aald (v := v32) dX3_change_161 rfl hb hW ev ?_
            obtain ⟨ht, hT⟩ := hT
            refine c_instV (K := 29) dX3_change_162 (by decide) q1520 ht hW (fun a34 ec hi33 => ?_) (fun hi33 => ?_)
            · subst ec
              replace hT := hT.1 a34 rfl hi33
              refine x_if_ne (tgt := 176) dX3_change_165 rfl (fun _ => ?_) (fun c => absurd c (by decide))
              refine x_iconst (v := 1) dX3_change_176 rfl ?_
              refine x_goto (tgt := 181) dX3_change_177 rfl ?_
              exact hT f0 h hW hF
            · replace hT := hT.2 hi33
              refine x_if_ne (tgt := 176) dX3_change_165 rfl (fun c => absurd c (by decide)) (fun _ => ?_)
              refine x_aload dX3_change_168 rfl rfl ?_
              obtain ⟨ht, hT⟩ := hT
              refine c_inst (K := 31) dX3_change_170 (by decide) q1534 ht hW (fun hi35 => ?_) (fun hi35 => ?_)
              · replace hT := hT.1 hi35
                refine x_if_eq (tgt := 180) dX3_change_173 rfl (fun c => absurd c (by decide)) (fun _ => ?_)
                refine x_iconst (v := 1) dX3_change_176 rfl ?_
                refine x_goto (tgt := 181) dX3_change_177 rfl ?_
                exact hT f0 h hW hF
              · replace hT := hT.2 hi35
                refine x_if_eq (tgt := 180) dX3_change_173 rfl (fun _ => ?_) (fun c => absurd c (by decide))
                refine x_iconst (v := 0) dX3_change_180 rfl ?_
                exact hT f0 h hW hF
          · replace hT := hT.2 hi31
            refine x_if_eq (tgt := 168) dX3_change_148 rfl (fun _ => ?_) (fun c => absurd c (by decide))
            refine x_aload dX3_change_168 rfl rfl ?_
            obtain ⟨ht, hT⟩ := hT
            refine c_inst (K := 31) dX3_change_170 (by decide) q1534 ht hW (fun hi36 => ?_) (fun hi36 => ?_)
            · replace hT := hT.1 hi36
              refine x_if_eq (tgt := 180) dX3_change_173 rfl (fun c => absurd c (by decide)) (fun _ => ?_)
              refine x_iconst (v := 1) dX3_change_176 rfl ?_
              refine x_goto (tgt := 181) dX3_change_177 rfl ?_
              exact hT f0 h hW hF
            · replace hT := hT.2 hi36
              refine x_if_eq (tgt := 180) dX3_change_173 rfl (fun _ => ?_) (fun c => absurd c (by decide))
              refine x_iconst (v := 0) dX3_change_180 rfl ?_
              exact hT f0 h hW hF
      · intro k s28 f29 hT h a hW hx hF
        exact c_out (hsr_skip (by decide) (rfl)) hW hx hF hT
    · replace hT := hT.2 hi26
      refine x_if_eq (tgt := 143) dX3_change_127 rfl (fun _ => ?_) (fun c => absurd c (by decide))
      refine x_aload dX3_change_143 rfl ib4 ?_
      obtain ⟨ht, hT⟩ := hT
      refine c_instV (K := 30) dX3_change_145 (by decide) q1526 ht hW (fun a38 ec hi37 => ?_) (fun hi37 => ?_)
      · subst ec
        replace hT := hT.1 a38 rfl hi37
        refine x_if_eq (tgt := 168) dX3_change_148 rfl (fun c => absurd c (by decide)) (fun _ => ?_)
        refine x_aload_n dX3_change_151 rfl rfl rfl ?_
        refine c_getA dX3_change_152 f_TallySlate_Machine_17 (by decide) (by decide) rfl hW ?_
        refine x_aload_n dX3_change_155 rfl rfl rfl ?_
        refine c_getI (v := (s.1 26)) dX3_change_156 f_TallySlate_Machine_75 (by decide) (by decide) rfl hW rfl ?_
        refine x_iconst (v := 1) dX3_change_159 rfl ?_
        refine x_isub dX3_change_160 ?_
        obtain ⟨hb, v39, ev, iv39, hT⟩ := hT
        refine c_aald (v := v39) dX3_change_161 rfl hb hW ev ?_
        obtain ⟨ht, hT⟩ := hT
        refine c_instV (K := 29) dX3_change_162 (by decide) q1520 ht hW (fun a41 ec hi40 => ?_) (fun hi40 => ?_)
        · subst ec
          replace hT := hT.1 a41 rfl hi40
          refine x_if_ne (tgt := 176) dX3_change_165 rfl (fun _ => ?_) (fun c => absurd c (by decide))
          refine x_iconst (v := 1) dX3_change_176 rfl ?_
          refine x_goto (tgt := 181) dX3_change_177 rfl ?_
          exact hT f0 h hW hF
        · replace hT := hT.2 hi40
          refine x_if_ne (tgt := 176) dX3_change_165 rfl (fun c => absurd c (by decide)) (fun _ => ?_)
          refine x_aload dX3_change_168 rfl rfl ?_
          obtain ⟨ht, hT⟩ := hT
          refine c_inst (K := 31) dX3_change_170 (by decide) q1534 ht hW (fun hi42 => ?_) (fun hi42 => ?_)
          · replace hT := hT.1 hi42
            refine x_if_eq (tgt := 180) dX3_change_173 rfl (fun c => absurd c (by decide)) (fun _ => ?_)
            refine x_iconst (v := 1) dX3_change_176 rfl ?_
            refine x_goto (tgt := 181) dX3_change_177 rfl ?_
            exact hT f0 h hW hF
          · replace hT := hT.2 hi42
            refine x_if_eq (tgt := 180) dX3_change_173 rfl (fun _ => ?_) (fun c => absurd c (by decide))
            refine x_iconst (v := 0) dX3_change_180 rfl ?_
            exact hT f0 h hW hF
      · replace hT := hT.2 hi37
        refine x_if_eq (tgt := 168) dX3_change_148 rfl (fun _ => ?_) (fun c => absurd c (by decide))
        refine x_aload dX3_change_168 rfl ib4 ?_
        obtain ⟨ht, hT⟩ := hT
        refine c_instV (K := 31) dX3_change_170 (by decide) q1534 ht hW (fun a44 ec hi43 => ?_) (fun hi43 => ?_)
        · subst ec
          replace hT := hT.1 a44 rfl hi43
          refine x_if_eq (tgt := 180) dX3_change_173 rfl (fun c => absurd c (by decide)) (fun _ => ?_)
          refine x_iconst (v := 1) dX3_change_176 rfl ?_
          refine x_goto (tgt := 181) dX3_change_177 rfl ?_
          exact hT f0 h hW hF
        · replace hT := hT.2 hi43
          refine x_if_eq (tgt := 180) dX3_change_173 rfl (fun _ => ?_) (fun c => absurd c (by decide))
          refine x_iconst (v := 0) dX3_change_180 rfl ?_
          exact hT f0 h hW hF
  · replace hT := hT.2 c
    refine x_aload dX3_change_96 rfl ib4 ?_
    obtain ⟨ht, hT⟩ := hT
    refine c_instV (K := 30) dX3_change_98 (by decide) q1526 ht hW (fun a46 ec hi45 => ?_) (fun hi45 => ?_)
    · subst ec
      replace hT := hT.1 a46 rfl hi45
      refine x_if_eq (tgt := 118) dX3_change_101 rfl (fun c => absurd c (by decide)) (fun _ => ?_)
      refine x_aload_n dX3_change_104 rfl rfl rfl ?_
      refine x_iload_n dX3_change_105 rfl rfl ?_
      refine x_iconst (v := 2) dX3_change_106 rfl ?_
      refine x_iadd dX3_change_107 ?_
      obtain ⟨-, -, cc, hcc, -⟩ := hW.ob 3 (by decide)
      refine c_invV (vs := [.int (b3 + 2)]) dX3_change_108 oX3_isInt q1610 q1609 hcc q1611 (Or.inl rfl) rfl rfl (Nat.le_of_ble_eq_true rfl) rfl hW hF hT ?_ ?_
      · intro _ s47 f48 hT h hW hF
        obtain ⟨v49, rfl, hT⟩ := hT
        refine x_if_eq (tgt := 118) dX3_change_111 rfl (fun c => ?_) (fun c => ?_)
        · replace hT := hT.1 c
          refine x_iconst (v := 0) dX3_change_118 rfl ?_
          refine x_goto (tgt := 181) dX3_change_119 rfl ?_
          exact hT f0 h hW hF
        · replace hT := hT.2 c
          refine x_iconst (v := 1) dX3_change_114 rfl ?_
          refine x_goto (tgt := 181) dX3_change_115 rfl ?_
          exact hT f0 h hW hF
      · intro k s47 f48 hT h a hW hx hF
        exact c_out (hsr_skip (by decide) (rfl)) hW hx hF hT
    · replace hT := hT.2 hi45
      refine x_if_eq (tgt := 118) dX3_change_101 rfl (fun _ => ?_) (fun c => absurd c (by decide))
      refine x_iconst (v := 0) dX3_change_118 rfl ?_
      refine x_goto (tgt := 181) dX3_change_119 rfl ?_
      exact hT f0 h hW hF
set_option maxHeartbeats 16000000 in
theorem vX3_change_181 {l : Launch} {E : EN} {w : CO} {d : Nat} {s : CS} {f : RH} {Q : KO → CS → RH → Prop} {b1 : Nat} {b2 : Int32} {b3 : Int32} {b4 : Value} {b5 : Int32} {b6 : Int32} {c0 : Int32} (ib4 : isR b4 = true) (hT : ((b6 = 0 → (EvC l E w d MX3_wrong [.ref (w.1 3), .int 3, .int b5] s f (fun o s50 f51 => KP o (fun r => r = some (.ref (w.1 9)) ∧ Q (.inr 9) s50 f51) (fun k => Q (.inr k) s50 f51)))) ∧ (¬ b6 = 0 → ((¬ c0 = 0 → (inB b3 8400 ∧ ((¬ b2 = 3 → (EvC l E w d MX6_changed [.ref (w.1 6), b4, .int (s.2.2.1 24 b3.toNatClampNeg), .int ((s.1 26) - 1), .int (-1), .ref b1] s f (fun o s52 f53 => KP o (fun r => ∃ a54 : Nat, r = some (.ref a54) ∧ (EvC l E w d MX3_give_2 [.ref (w.1 3), .ref a54, .int b2, .int b5] s52 f53 (fun o s55 f56 => KP o (fun r => r = none ∧ (oc f56 b1 28 ∧ (∃ v57 : Int32, vl f56 b1 196 = .int v57 ∧ (EvC l E w d MX3_put [.ref (w.1 3), .int v57] s55 f56 (fun o s58 f59 => KP o (fun r => r = none ∧ Q (.inl none) s58 f59) (fun k => Q (.inr k) s58 f59)))))) (fun k => Q (.inr k) s55 f56)))) (fun k => (k = 35 ∧ (∀ a60 : Nat, (EvC l E w d MX3_wrong [.ref (w.1 3), .int 5, .int b5] s52 f53 (fun o s61 f62 => KP o (fun r => r = some (.ref (w.1 9)) ∧ Q (.inr 9) s61 f62) (fun k => Q (.inr k) s61 f62))))) ∨ (k = 9 ∧ Q (.inr 9) s52 f53))))) ∧ (b2 = 3 → (inB (b3 + 1) 8400 ∧ (EvC l E w d MX6_changed [.ref (w.1 6), b4, .int (s.2.2.1 24 b3.toNatClampNeg), .int ((s.1 26) - 1), .int (s.2.2.1 24 (b3 + 1).toNatClampNeg), .ref b1] s f (fun o s63 f64 => KP o (fun r => ∃ a65 : Nat, r = some (.ref a65) ∧ (EvC l E w d MX3_give_2 [.ref (w.1 3), .ref a65, .int b2, .int b5] s63 f64 (fun o s66 f67 => KP o (fun r => r = none ∧ (oc f67 b1 28 ∧ (∃ v68 : Int32, vl f67 b1 196 = .int v68 ∧ (EvC l E w d MX3_put [.ref (w.1 3), .int v68] s66 f67 (fun o s69 f70 => KP o (fun r => r = none ∧ Q (.inl none) s69 f70) (fun k => Q (.inr k) s69 f70)))))) (fun k => Q (.inr k) s66 f67)))) (fun k => (k = 35 ∧ (∀ a71 : Nat, (EvC l E w d MX3_wrong [.ref (w.1 3), .int 5, .int b5] s63 f64 (fun o s72 f73 => KP o (fun r => r = some (.ref (w.1 9)) ∧ Q (.inr 9) s72 f73) (fun k => Q (.inr k) s72 f73))))) ∨ (k = 9 ∧ Q (.inr 9) s63 f64))))))))) ∧ (c0 = 0 → (EvC l E w d MX3_wrong [.ref (w.1 3), .int 3, .int b5] s f (fun o s74 f75 => KP o (fun r => r = some (.ref (w.1 9)) ∧ Q (.inr 9) s74 f75) (fun k => Q (.inr k) s74 f75)))))))) : ExC l E w (d + 1) MX3_change 181 [some (.ref (w.1 3)), some (.ref b1), some (.int b2), some (.int b3), some (b4), some (.int b5), some (.int b6), none, none, none] [.int c0] s f Q := by
  intro f0 h hW hF
  refine x_istore (lo' := [some (.ref (w.1 3)), some (.ref b1), some (.int b2), some (.int b3), some (b4), some (.int b5), some (.int b6), some (.int c0), none, none]) dX3_change_181 (Nat.le_of_ble_eq_true rfl) rfl ?_
  refine x_iload dX3_change_183 rfl ?_
  refine x_if_eq (tgt := 193) dX3_change_185 rfl (fun c => ?_) (fun c => ?_)
  · replace hT := hT.1 c
    refine x_aload_n dX3_change_193 rfl rfl rfl ?_
    refine x_iconst (v := 3) dX3_change_194 rfl ?_
    refine x_iload dX3_change_195 rfl ?_
    obtain ⟨-, -, cc, hcc, -⟩ := hW.ob 3 (by decide)
    refine c_invV (vs := [.int 3, .int b5]) dX3_change_197 oX3_wrong q1323 q1322 hcc q1324 (Or.inl rfl) rfl rfl (Nat.le_of_ble_eq_true rfl) rfl hW hF hT ?_ ?_
    · intro _ s50 f51 hT h hW hF
      obtain ⟨rfl, hT⟩ := hT
      refine x_athrow dX3_change_200 ?_
      exact c_out (hsr_skip (by decide) (rfl)) hW (Or.inl ⟨rfl, rfl⟩) hF hT
    · intro k s50 f51 hT h a hW hx hF
      exact c_out (hsr_skip (by decide) (rfl)) hW hx hF hT
  · replace hT := hT.2 c
    refine x_iload dX3_change_188 rfl ?_
    refine x_if_ne (tgt := 201) dX3_change_190 rfl (fun c => ?_) (fun c => ?_)
    · replace hT := hT.1 c
      refine x_aload_n dX3_change_201 rfl rfl rfl ?_
      refine c_getO dX3_change_202 f_TallySlate_Machine_50 (by decide) (by decide) rfl hW ?_
      refine x_aload dX3_change_205 rfl ib4 ?_
      refine x_aload_n dX3_change_207 rfl rfl rfl ?_
      refine c_getA dX3_change_208 f_TallySlate_Machine_9 (by decide) (by decide) rfl hW ?_
      refine x_iload_n dX3_change_211 rfl rfl ?_
      obtain ⟨hb, hT⟩ := hT
      refine c_iald (v := (s.2.2.1 24 b3.toNatClampNeg)) dX3_change_212 rfl hb hW rfl ?_
      refine x_aload_n dX3_change_213 rfl rfl rfl ?_
      refine c_getI (v := (s.1 26)) dX3_change_214 f_TallySlate_Machine_75 (by decide) (by decide) rfl hW rfl ?_
      refine x_iconst (v := 1) dX3_change_217 rfl ?_
      refine x_isub dX3_change_218 ?_
      refine x_iload_n dX3_change_219 rfl rfl ?_
      refine x_iconst (v := 3) dX3_change_220 rfl ?_
      refine x_icmp_ne (tgt := 235) dX3_change_221 rfl (fun c => ?_) (fun c => ?_)
      · replace hT := hT.1 c
        refine x_iconst (v := (-1)) dX3_change_235 rfl ?_
        refine x_aload_n dX3_change_236 rfl rfl rfl ?_
        obtain ⟨-, -, cc, hcc, -⟩ := hW.ob 6 (by decide)
        refine c_invV (vs := [b4, .int (s.2.2.1 24 b3.toNatClampNeg), .int ((s.1 26) - 1), .int (-1), .ref b1]) dX3_change_237 oX6_changed q1948 q1947 hcc q1949 (Or.inl rfl) rfl rfl (Nat.le_of_ble_eq_true rfl) rfl hW hF hT ?_ ?_
        · intro _ s52 f53 hT h hW hF
          obtain ⟨a54, rfl, hT⟩ := hT
          refine x_astore (lo' := [some (.ref (w.1 3)), some (.ref b1), some (.int b2), some (.int b3), some (b4), some (.int b5), some (.int b6), some (.int c0), some (.ref a54), none]) dX3_change_240 (Nat.le_of_ble_eq_true rfl) rfl rfl ?_
          refine x_goto (tgt := 255) dX3_change_242 rfl ?_
          refine x_aload_n dX3_change_255 rfl rfl rfl ?_
          refine x_aload dX3_change_256 rfl rfl ?_
          refine x_iload_n dX3_change_258 rfl rfl ?_
          refine x_iload dX3_change_259 rfl ?_
          obtain ⟨-, -, cc, hcc, -⟩ := hW.ob 3 (by decide)
          refine c_invV (vs := [.ref a54, .int b2, .int b5]) dX3_change_261 oX3_give_2 q1412 q1535 hcc q1413 (Or.inl rfl) rfl rfl (Nat.le_of_ble_eq_true rfl) rfl hW hF hT ?_ ?_
          · intro _ s55 f56 hT h hW hF
            obtain ⟨rfl, hT⟩ := hT
            refine x_aload_n dX3_change_264 rfl rfl rfl ?_
            refine x_aload_n dX3_change_265 rfl rfl rfl ?_
            obtain ⟨hc, hT⟩ := hT
            obtain ⟨v57, ev, hT⟩ := hT
            refine c_fgetG dX3_change_266 f_TallySlate_Machine_255 hc (by decide) (by decide) hW ev ?_
            obtain ⟨-, -, cc, hcc, -⟩ := hW.ob 3 (by decide)
            refine c_invV (vs := [.int v57]) dX3_change_269 oX3_put q1935 q1958 hcc q1936 (Or.inl rfl) rfl rfl (Nat.le_of_ble_eq_true rfl) rfl hW hF hT ?_ ?_
            · intro _ s58 f59 hT h hW hF
              obtain ⟨rfl, hT⟩ := hT
              exact x_vret dX3_change_272 rfl ⟨_, _, hW, hF, Or.inl ⟨_, rfl, hT⟩⟩
            · intro k s58 f59 hT h a hW hx hF
              exact c_out (hsr_skip (by decide) (rfl)) hW hx hF hT
          · intro k s55 f56 hT h a hW hx hF
            exact c_out (hsr_skip (by decide) (rfl)) hW hx hF hT
        · intro k s52 f53 hT h a60 hW hx hF
          rcases hT with ⟨rfl, hT⟩ | ⟨rfl, hT⟩
          · replace hT := hT a60
            refine c_catch (hsr_yes (by decide) (by decide) q1488 (Or.inl rfl)) hW hx ?_
            refine x_astore (lo' := [some (.ref (w.1 3)), some (.ref b1), some (.int b2), some (.int b3), some (b4), some (.int b5), some (.int b6), some (.int c0), none, some (.ref a60)]) dX3_change_245 (Nat.le_of_ble_eq_true rfl) rfl rfl ?_
            refine x_aload_n dX3_change_247 rfl rfl rfl ?_
            refine x_iconst (v := 5) dX3_change_248 rfl ?_
            refine x_iload dX3_change_249 rfl ?_
            obtain ⟨-, -, cc, hcc, -⟩ := hW.ob 3 (by decide)
            refine c_invV (vs := [.int 5, .int b5]) dX3_change_251 oX3_wrong q1323 q1322 hcc q1324 (Or.inl rfl) rfl rfl (Nat.le_of_ble_eq_true rfl) rfl hW hF hT ?_ ?_
            · intro _ s61 f62 hT h hW hF
              obtain ⟨rfl, hT⟩ := hT
              refine x_athrow dX3_change_254 ?_
              exact c_out (hsr_skip (by decide) (rfl)) hW (Or.inl ⟨rfl, rfl⟩) hF hT
            · intro k s61 f62 hT h a hW hx hF
              exact c_out (hsr_skip (by decide) (rfl)) hW hx hF hT
          · exact c_out (hsr_no (by decide) (by decide) q1488 (by decide +kernel) (rfl)) hW hx hF hT
      · replace hT := hT.2 c
        refine x_aload_n dX3_change_224 rfl rfl rfl ?_
        refine c_getA dX3_change_225 f_TallySlate_Machine_9 (by decide) (by decide) rfl hW ?_
        refine x_iload_n dX3_change_228 rfl rfl ?_
        refine x_iconst (v := 1) dX3_change_229 rfl ?_
        refine x_iadd dX3_change_230 ?_
        obtain ⟨hb, hT⟩ := hT
        refine c_iald (v := (s.2.2.1 24 (b3 + 1).toNatClampNeg)) dX3_change_231 rfl hb hW rfl ?_
        refine x_goto (tgt := 236) dX3_change_232 rfl ?_
        refine x_aload_n dX3_change_236 rfl rfl rfl ?_
        obtain ⟨-, -, cc, hcc, -⟩ := hW.ob 6 (by decide)
        refine c_invV (vs := [b4, .int (s.2.2.1 24 b3.toNatClampNeg), .int ((s.1 26) - 1), .int (s.2.2.1 24 (b3 + 1).toNatClampNeg), .ref b1]) dX3_change_237 oX6_changed q1948 q1947 hcc q1949 (Or.inl rfl) rfl rfl (Nat.le_of_ble_eq_true rfl) rfl hW hF hT ?_ ?_
        · intro _ s63 f64 hT h hW hF
          obtain ⟨a65, rfl, hT⟩ := hT
          refine x_astore (lo' := [some (.ref (w.1 3)), some (.ref b1), some (.int b2), some (.int b3), some (b4), some (.int b5), some (.int b6), some (.int c0), some (.ref a65), none]) dX3_change_240 (Nat.le_of_ble_eq_true rfl) rfl rfl ?_
          refine x_goto (tgt := 255) dX3_change_242 rfl ?_
          refine x_aload_n dX3_change_255 rfl rfl rfl ?_
          refine x_aload dX3_change_256 rfl rfl ?_
          refine x_iload_n dX3_change_258 rfl rfl ?_
          refine x_iload dX3_change_259 rfl ?_
          obtain ⟨-, -, cc, hcc, -⟩ := hW.ob 3 (by decide)
          refine c_invV (vs := [.ref a65, .int b2, .int b5]) dX3_change_261 oX3_give_2 q1412 q1535 hcc q1413 (Or.inl rfl) rfl rfl (Nat.le_of_ble_eq_true rfl) rfl hW hF hT ?_ ?_
          · intro _ s66 f67 hT h hW hF
            obtain ⟨rfl, hT⟩ := hT
            refine x_aload_n dX3_change_264 rfl rfl rfl ?_
            refine x_aload_n dX3_change_265 rfl rfl rfl ?_
            obtain ⟨hc, hT⟩ := hT
            obtain ⟨v68, ev, hT⟩ := hT
            refine c_fgetG dX3_change_266 f_TallySlate_Machine_255 hc (by decide) (by decide) hW ev ?_
            obtain ⟨-, -, cc, hcc, -⟩ := hW.ob 3 (by decide)
            refine c_invV (vs := [.int v68]) dX3_change_269 oX3_put q1935 q1958 hcc q1936 (Or.inl rfl) rfl rfl (Nat.le_of_ble_eq_true rfl) rfl hW hF hT ?_ ?_
            · intro _ s69 f70 hT h hW hF
              obtain ⟨rfl, hT⟩ := hT
              exact x_vret dX3_change_272 rfl ⟨_, _, hW, hF, Or.inl ⟨_, rfl, hT⟩⟩
            · intro k s69 f70 hT h a hW hx hF
              exact c_out (hsr_skip (by decide) (rfl)) hW hx hF hT
          · intro k s66 f67 hT h a hW hx hF
            exact c_out (hsr_skip (by decide) (rfl)) hW hx hF hT
        · intro k s63 f64 hT h a71 hW hx hF
          rcases hT with ⟨rfl, hT⟩ | ⟨rfl, hT⟩
          · replace hT := hT a71
            refine c_catch (hsr_yes (by decide) (by decide) q1488 (Or.inl rfl)) hW hx ?_
            refine x_astore (lo' := [some (.ref (w.1 3)), some (.ref b1), some (.int b2), some (.int b3), some (b4), some (.int b5), some (.int b6), some (.int c0), none, some (.ref a71)]) dX3_change_245 (Nat.le_of_ble_eq_true rfl) rfl rfl ?_
            refine x_aload_n dX3_change_247 rfl rfl rfl ?_
            refine x_iconst (v := 5) dX3_change_248 rfl ?_
            refine x_iload dX3_change_249 rfl ?_
            obtain ⟨-, -, cc, hcc, -⟩ := hW.ob 3 (by decide)
            refine c_invV (vs := [.int 5, .int b5]) dX3_change_251 oX3_wrong q1323 q1322 hcc q1324 (Or.inl rfl) rfl rfl (Nat.le_of_ble_eq_true rfl) rfl hW hF hT ?_ ?_
            · intro _ s72 f73 hT h hW hF
              obtain ⟨rfl, hT⟩ := hT
              refine x_athrow dX3_change_254 ?_
              exact c_out (hsr_skip (by decide) (rfl)) hW (Or.inl ⟨rfl, rfl⟩) hF hT
            · intro k s72 f73 hT h a hW hx hF
              exact c_out (hsr_skip (by decide) (rfl)) hW hx hF hT
          · exact c_out (hsr_no (by decide) (by decide) q1488 (by decide +kernel) (rfl)) hW hx hF hT
    · replace hT := hT.2 c
      refine x_aload_n dX3_change_193 rfl rfl rfl ?_
      refine x_iconst (v := 3) dX3_change_194 rfl ?_
      refine x_iload dX3_change_195 rfl ?_
      obtain ⟨-, -, cc, hcc, -⟩ := hW.ob 3 (by decide)
      refine c_invV (vs := [.int 3, .int b5]) dX3_change_197 oX3_wrong q1323 q1322 hcc q1324 (Or.inl rfl) rfl rfl (Nat.le_of_ble_eq_true rfl) rfl hW hF hT ?_ ?_
      · intro _ s74 f75 hT h hW hF
        obtain ⟨rfl, hT⟩ := hT
        refine x_athrow dX3_change_200 ?_
        exact c_out (hsr_skip (by decide) (rfl)) hW (Or.inl ⟨rfl, rfl⟩) hF hT
      · intro k s74 f75 hT h a hW hx hF
        exact c_out (hsr_skip (by decide) (rfl)) hW hx hF hT
