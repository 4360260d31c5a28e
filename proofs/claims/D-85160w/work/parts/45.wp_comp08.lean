/-! weakest preconditions of methods of the component: printed by wpc.py -/
set_option maxRecDepth 100000
theorem vX6_things_0 {l : Launch} {E : EN} {w : CO} {d : Nat} {s : CS} {f : RH} {Q : KO → CS → RH → Prop} {x1 : Int32} {x2 : Int32}  (hT : ((x1 ≤ 20 → (¬ x1 < 0 ∧ x1.toNatClampNeg ≤ 60000000 ∧ rmF E f 1 x1.toNatClampNeg ∧ ∀ (a1 : Nat) (f2 : RH), a1 = f.1 → f2 = fnewA f 4 x1.toNatClampNeg → ExC l E w (d + 1) MX6_things 39 [none, some (.int x1), none, some (.ref a1), some (.int 0)] [] s f2 Q)) ∧ (¬ x1 ≤ 20 → (EvC l E w d MX3_wrong [.ref (w.1 3), .int 2, .int x2] s f (fun o s3 f4 => KP o (fun r => r = some (.ref (w.1 9)) ∧ Q (.inr 9) s3 f4) (fun k => Q (.inr k) s3 f4)))))) : ExC l E w (d + 1) MX6_things 0 [some (.ref (w.1 6)), some (.int x1), some (.int x2), none, none] [] s f Q := by
  intro f0 h hW hF
  refine x_iload_n dX6_things_0 rfl rfl ?_
  refine x_bipush (v := 20) dX6_things_1 rfl ?_
  refine x_icmp_le (tgt := 16) dX6_things_3 rfl (fun c => ?_) (fun c => ?_)
  · replace hT := hT.1 c
    refine x_iload_n dX6_things_16 rfl rfl ?_
    obtain ⟨hn, hT⟩ := hT
    obtain ⟨hb, hr, hT⟩ := hT
    refine c_anewarrayG (t := 4) dX6_things_17 (by decide) (by decide) (by decide) rfl q337 (Or.inl ⟨_, rfl, q1551⟩) hn hb hr hW hF ?_
    intro a1 f2 ea1 ef2 h hW hF
    replace hT := hT a1 f2 ea1 ef2
    refine x_astore_n (lo' := [some (.ref (w.1 6)), some (.int x1), some (.int x2), some (.ref a1), none]) dX6_things_20 rfl (Nat.le_of_ble_eq_true rfl) rfl rfl ?_
    refine x_goto (tgt := 36) dX6_things_21 rfl ?_
    refine x_iconst (v := 0) dX6_things_36 rfl ?_
    refine x_istore (lo' := [some (.ref (w.1 6)), some (.int x1), some (.int x2), some (.ref a1), some (.int 0)]) dX6_things_37 (Nat.le_of_ble_eq_true rfl) rfl ?_
    refine Ex.wkl (lo' := [none, some (.int x1), none, some (.ref a1), some (.int 0)]) ⟨rfl, rfl, rfl, trivial⟩ ?_
    exact hT f0 h hW hF
  · replace hT := hT.2 c
    refine x_aload_n dX6_things_6 rfl rfl rfl ?_
    refine c_getO dX6_things_7 f_TallySlate_Maker_9 (by decide) (by decide) rfl hW ?_
    refine x_iconst (v := 2) dX6_things_10 rfl ?_
    refine x_iload_n dX6_things_11 rfl rfl ?_
    obtain ⟨-, -, cc, hcc, -⟩ := hW.ob 3 (by decide)
    refine c_invV (vs := [.int 2, .int x2]) dX6_things_12 oX3_wrong q1323 q1550 hcc q1324 (Or.inl rfl) rfl rfl (Nat.le_of_ble_eq_true rfl) rfl hW hF hT ?_ ?_
    · intro _ s3 f4 hT h hW hF
      obtain ⟨rfl, hT⟩ := hT
      refine x_athrow dX6_things_15 ?_
      exact c_out (hsr_skip (by decide) (rfl)) hW (Or.inl ⟨rfl, rfl⟩) hF hT
    · intro k s3 f4 hT h a hW hx hF
      exact c_out (hsr_skip (by decide) (rfl)) hW hx hF hT
theorem eX6_things {l : Launch} {E : EN} {w : CO} {d : Nat} {s : CS} {f : RH} {Q : KO → CS → RH → Prop} {x1 : Int32} {x2 : Int32}  (hst : l.stackTraces = false) (hT : ((x1 ≤ 20 → (¬ x1 < 0 ∧ x1.toNatClampNeg ≤ 60000000 ∧ rmF E f 1 x1.toNatClampNeg ∧ ∀ (a1 : Nat) (f2 : RH), a1 = f.1 → f2 = fnewA f 4 x1.toNatClampNeg → ExC l E w (d + 1) MX6_things 39 [none, some (.int x1), none, some (.ref a1), some (.int 0)] [] s f2 Q)) ∧ (¬ x1 ≤ 20 → (EvC l E w d MX3_wrong [.ref (w.1 3), .int 2, .int x2] s f (fun o s3 f4 => KP o (fun r => r = some (.ref (w.1 9)) ∧ Q (.inr 9) s3 f4) (fun k => Q (.inr k) s3 f4)))))) : EvC l E w (d + 1) MX6_things [.ref (w.1 6), .int x1, .int x2] s f Q :=
  EvC.of hst (by decide) (Nat.le_of_ble_eq_true rfl) (vX6_things_0  hT)
theorem vX6_things_39 {l : Launch} {E : EN} {w : CO} {d : Nat} {s : CS} {f : RH} {Q : KO → CS → RH → Prop} {b1 : Int32} {b3 : Nat} {b4 : Int32}  (hT : ((b1 ≤ b4 → Q (.inl (some (.ref b3))) s f) ∧ (¬ b1 ≤ b4 → (rmF E f 1 1 ∧ ∀ (a5 : Nat) (f6 : RH), a5 = f.1 → f6 = fnew f 32 → (EvC l E w d MX35_init [.ref a5, .int 0] s f6 (fun o s7 f8 => KP o (fun r => r = none ∧ (∃ k10 : Nat, (tg f8 b3 = some (.inr 4) ∧ tg f8 a5 = some (.inl k10) ∧ k10 ∈ CKs 4 ∧ inB b4 (ln f8 b3) ∧ f8.2.2.2 ≤ b3 ∧ ∀ f9 : RH, f9 = fset f8 b3 b4.toNatClampNeg (.ref a5) → ExC l E w (d + 1) MX6_things 39 [none, some (.int b1), none, some (.ref b3), some (.int (b4 + 1))] [] s7 f9 Q))) (fun k => Q (.inr k) s7 f8))))))) : ExC l E w (d + 1) MX6_things 39 [none, some (.int b1), none, some (.ref b3), some (.int b4)] [] s f Q := by
  intro f0 h hW hF
  refine x_iload dX6_things_39 rfl ?_
  refine x_iload_n dX6_things_41 rfl rfl ?_
  refine x_icmp_ge (tgt := 63) dX6_things_42 rfl (fun c => ?_) (fun c => ?_)
  · replace hT := hT.1 c
    refine x_aload_n dX6_things_63 rfl rfl rfl ?_
    exact x_aret dX6_things_64 rfl (by first | exact Or.inl ⟨_, rfl⟩ | exact Or.inr ⟨_, rfl⟩) rfl ⟨_, _, hW, hF, Or.inl ⟨_, rfl, hT⟩⟩
  · replace hT := hT.2 c
    refine x_aload_n dX6_things_45 rfl rfl rfl ?_
    refine x_iload dX6_things_46 rfl ?_
    obtain ⟨hr, hT⟩ := hT
    refine c_newG (k := 32) dX6_things_48 (by decide) q1723 q211 hr hW hF ?_
    intro a5 f6 ea5 ef6 h hW hF
    replace hT := hT a5 f6 ea5 ef6
    refine x_dup dX6_things_51 rfl ?_
    refine x_iconst (v := 0) dX6_things_52 rfl ?_
    refine c_invI (b := a5) (vs := [.int 0]) dX6_things_53 oX35_init rfl rfl rfl q1666 (Or.inl q1724) rfl rfl (Nat.le_of_ble_eq_true rfl) rfl hW hF hT ?_ ?_
    · intro _ s7 f8 hT h hW hF
      obtain ⟨rfl, hT⟩ := hT
      obtain ⟨k10, hc, hv, hck, hT⟩ := hT
      obtain ⟨hb, hz, hT⟩ := hT
      refine c_faastG dX6_things_56 hc (by decide) hv hck hb hz hW hF ?_
      intro f9 ef9 h hW hF
      replace hT := hT f9 ef9
      refine x_iinc (lo' := [none, some (.int b1), none, some (.ref b3), some (.int (b4 + 1))]) dX6_things_57 rfl (show _ = (b4 + 1) from rfl) rfl ?_
      refine x_goto (tgt := 39) dX6_things_60 rfl ?_
      exact hT f0 h hW hF
    · intro k s7 f8 hT h a hW hx hF
      exact c_out (hsr_skip (by decide) (rfl)) hW hx hF hT
theorem vX6_rows_0 {l : Launch} {E : EN} {w : CO} {d : Nat} {s : CS} {f : RH} {Q : KO → CS → RH → Prop} {x1 : Nat} {x2 : Int32}  (hT : (∃ t1 : Nat, tg f x1 = some (.inr t1) ∧ (((nI (ln f x1)) ≤ 20 → ExC l E w (d + 1) MX6_rows 19 [some (.ref (w.1 6)), some (.ref x1), some (.int x2), some (.long 0), none, some (.int 0), some (.int 0), none] [] s f Q) ∧ (¬ (nI (ln f x1)) ≤ 20 → ExC l E w (d + 1) MX6_rows 19 [some (.ref (w.1 6)), some (.ref x1), some (.int x2), some (.long 0), none, some (.int 1), some (.int 0), none] [] s f Q)))) : ExC l E w (d + 1) MX6_rows 0 [some (.ref (w.1 6)), some (.ref x1), some (.int x2), none, none, none, none, none] [] s f Q := by
  intro f0 h hW hF
  refine x_lconst (v := 0) dX6_rows_0 rfl ?_
  refine x_lstore_n (lo' := [some (.ref (w.1 6)), some (.ref x1), some (.int x2), some (.long 0), none, none, none, none]) dX6_rows_1 rfl (Nat.le_of_ble_eq_true rfl) rfl ?_
  refine x_aload_n dX6_rows_2 rfl rfl rfl ?_
  obtain ⟨t1, hc, hT⟩ := hT
  refine c_alen dX6_rows_3 hc hW ?_
  refine x_bipush (v := 20) dX6_rows_4 rfl ?_
  refine x_icmp_le (tgt := 13) dX6_rows_6 rfl (fun c => ?_) (fun c => ?_)
  · replace hT := hT.1 c
    refine x_iconst (v := 0) dX6_rows_13 rfl ?_
    refine x_istore (lo' := [some (.ref (w.1 6)), some (.ref x1), some (.int x2), some (.long 0), none, some (.int 0), none, none]) dX6_rows_14 (Nat.le_of_ble_eq_true rfl) rfl ?_
    refine x_iconst (v := 0) dX6_rows_16 rfl ?_
    refine x_istore (lo' := [some (.ref (w.1 6)), some (.ref x1), some (.int x2), some (.long 0), none, some (.int 0), some (.int 0), none]) dX6_rows_17 (Nat.le_of_ble_eq_true rfl) rfl ?_
    exact hT f0 h hW hF
  · replace hT := hT.2 c
    refine x_iconst (v := 1) dX6_rows_9 rfl ?_
    refine x_goto (tgt := 14) dX6_rows_10 rfl ?_
    refine x_istore (lo' := [some (.ref (w.1 6)), some (.ref x1), some (.int x2), some (.long 0), none, some (.int 1), none, none]) dX6_rows_14 (Nat.le_of_ble_eq_true rfl) rfl ?_
    refine x_iconst (v := 0) dX6_rows_16 rfl ?_
    refine x_istore (lo' := [some (.ref (w.1 6)), some (.ref x1), some (.int x2), some (.long 0), none, some (.int 1), some (.int 0), none]) dX6_rows_17 (Nat.le_of_ble_eq_true rfl) rfl ?_
    exact hT f0 h hW hF
theorem eX6_rows {l : Launch} {E : EN} {w : CO} {d : Nat} {s : CS} {f : RH} {Q : KO → CS → RH → Prop} {x1 : Nat} {x2 : Int32}  (hst : l.stackTraces = false) (hT : (∃ t1 : Nat, tg f x1 = some (.inr t1) ∧ (((nI (ln f x1)) ≤ 20 → ExC l E w (d + 1) MX6_rows 19 [some (.ref (w.1 6)), some (.ref x1), some (.int x2), some (.long 0), none, some (.int 0), some (.int 0), none] [] s f Q) ∧ (¬ (nI (ln f x1)) ≤ 20 → ExC l E w (d + 1) MX6_rows 19 [some (.ref (w.1 6)), some (.ref x1), some (.int x2), some (.long 0), none, some (.int 1), some (.int 0), none] [] s f Q)))) : EvC l E w (d + 1) MX6_rows [.ref (w.1 6), .ref x1, .int x2] s f Q :=
  EvC.of hst (by decide) (Nat.le_of_ble_eq_true rfl) (vX6_rows_0  hT)
set_option maxHeartbeats 16000000 in
theorem vX6_rows_19 {l : Launch} {E : EN} {w : CO} {d : Nat} {s : CS} {f : RH} {Q : KO → CS → RH → Prop} {b1 : Nat} {b2 : Int32} {b3 : Int64} {b5 : Int32} {b6 : Int32}  (hT : (∃ t2 : Nat, tg f b1 = some (.inr t2) ∧ (((nI (ln f b1)) ≤ b6 → ((¬ b5 = 0 → (EvC l E w d MX3_wrong [.ref (w.1 3), .int 2, .int b2] s f (fun o s3 f4 => KP o (fun r => r = some (.ref (w.1 9)) ∧ Q (.inr 9) s3 f4) (fun k => Q (.inr k) s3 f4)))) ∧ (b5 = 0 → (((lg_cmp b3 200) ≤ 0 → (∃ t5 : Nat, tg f b1 = some (.inr t5) ∧ (¬ (nI (ln f b1)) < 0 ∧ (nI (ln f b1)).toNatClampNeg ≤ 60000000 ∧ rmF E f 1 (nI (ln f b1)).toNatClampNeg ∧ ∀ (a6 : Nat) (f7 : RH), a6 = f.1 → f7 = fnewA f 11 (nI (ln f b1)).toNatClampNeg → ExC l E w (d + 1) MX6_rows 98 [some (.ref (w.1 6)), some (.ref b1), some (.int b2), none, none, none, some (.ref a6), some (.int 0)] [] s f7 Q))) ∧ (¬ (lg_cmp b3 200) ≤ 0 → (EvC l E w d MX3_wrong [.ref (w.1 3), .int 2, .int b2] s f (fun o s8 f9 => KP o (fun r => r = some (.ref (w.1 9)) ∧ Q (.inr 9) s8 f9) (fun k => Q (.inr k) s8 f9)))))))) ∧ (¬ (nI (ln f b1)) ≤ b6 → ((¬ b5 = 0 → (tg f b1 = some (.inr 0) ∧ inB b6 (ln f b1) ∧ (∃ v10 : Int32, vl f b1 b6.toNatClampNeg = .int v10 ∧ (∀ y11 : Int64, y11 = (b3 + (if 0 < v10 then v10 else 0).toInt64) → ExC l E w (d + 1) MX6_rows 19 [some (.ref (w.1 6)), some (.ref b1), some (.int b2), some (.long y11), none, some (.int 1), some (.int (b6 + 1)), none] [] s f Q)))) ∧ (b5 = 0 → (tg f b1 = some (.inr 0) ∧ inB b6 (ln f b1) ∧ (∃ v12 : Int32, vl f b1 b6.toNatClampNeg = .int v12 ∧ ((v12 ≤ 64 → (tg f b1 = some (.inr 0) ∧ inB b6 (ln f b1) ∧ (∃ v13 : Int32, vl f b1 b6.toNatClampNeg = .int v13 ∧ (∀ y14 : Int64, y14 = (b3 + (if 0 < v13 then v13 else 0).toInt64) → ExC l E w (d + 1) MX6_rows 19 [some (.ref (w.1 6)), some (.ref b1), some (.int b2), some (.long y14), none, some (.int 0), some (.int (b6 + 1)), none] [] s f Q)))) ∧ (¬ v12 ≤ 64 → (tg f b1 = some (.inr 0) ∧ inB b6 (ln f b1) ∧ (∃ v15 : Int32, vl f b1 b6.toNatClampNeg = .int v15 ∧ (∀ y16 : Int64, y16 = (b3 + (if 0 < v15 then v15 else 0).toInt64) → ExC l E w (d + 1) MX6_rows 19 [some (.ref (w.1 6)), some (.ref b1), some (.int b2), some (.long y16), none, some (.int 1), some (.int (b6 + 1)), none] [] s f Q))))))))))))) : ExC l E w (d + 1) MX6_rows 19 [some (.ref (w.1 6)), some (.ref b1), some (.int b2), some (.long b3), none, some (.int b5), some (.int b6), none] [] s f Q := by
  intro f0 h hW hF
  refine x_iload dX6_rows_19 rfl ?_
  refine x_aload_n dX6_rows_21 rfl rfl rfl ?_
  obtain ⟨t2, hc, hT⟩ := hT
  refine c_alen dX6_rows_22 hc hW ?_
  refine x_icmp_ge (tgt := 65) dX6_rows_23 rfl (fun c => ?_) (fun c => ?_)
  · replace hT := hT.1 c
    refine x_iload dX6_rows_65 rfl ?_
    refine x_if_ne (tgt := 78) dX6_rows_67 rfl (fun c => ?_) (fun c => ?_)
    · replace hT := hT.1 c
      refine x_aload_n dX6_rows_78 rfl rfl rfl ?_
      refine c_getO dX6_rows_79 f_TallySlate_Maker_9 (by decide) (by decide) rfl hW ?_
      refine x_iconst (v := 2) dX6_rows_82 rfl ?_
      refine x_iload_n dX6_rows_83 rfl rfl ?_
      obtain ⟨-, -, cc, hcc, -⟩ := hW.ob 3 (by decide)
      refine c_invV (vs := [.int 2, .int b2]) dX6_rows_84 oX3_wrong q1323 q1550 hcc q1324 (Or.inl rfl) rfl rfl (Nat.le_of_ble_eq_true rfl) rfl hW hF hT ?_ ?_
      · intro _ s3 f4 hT h hW hF
        obtain ⟨rfl, hT⟩ := hT
        refine x_athrow dX6_rows_87 ?_
        exact c_out (hsr_skip (by decide) (rfl)) hW (Or.inl ⟨rfl, rfl⟩) hF hT
      · intro k s3 f4 hT h a hW hx hF
        exact c_out (hsr_skip (by decide) (rfl)) hW hx hF hT
    · replace hT := hT.2 c
      refine x_lload_n dX6_rows_70 rfl rfl ?_
      refine x_ldc2 dX6_rows_71 q1739 ?_
      refine x_lcmp dX6_rows_74 ?_
      refine x_if_le (tgt := 88) dX6_rows_75 rfl (fun c => ?_) (fun c => ?_)
      · replace hT := hT.1 c
        refine x_aload_n dX6_rows_88 rfl rfl rfl ?_
        obtain ⟨t5, hc, hT⟩ := hT
        refine c_alen dX6_rows_89 hc hW ?_
        obtain ⟨hn, hT⟩ := hT
        obtain ⟨hb, hr, hT⟩ := hT
        refine c_anewarrayG (t := 11) dX6_rows_90 (by decide) (by decide) (by decide) rfl q1463 (Or.inr ⟨_, rfl, q1543⟩) hn hb hr hW hF ?_
        intro a6 f7 ea6 ef7 h hW hF
        replace hT := hT a6 f7 ea6 ef7
        refine x_astore (lo' := [some (.ref (w.1 6)), some (.ref b1), some (.int b2), some (.long b3), none, some (.int b5), some (.ref a6), none]) dX6_rows_93 (Nat.le_of_ble_eq_true rfl) rfl rfl ?_
        refine x_iconst (v := 0) dX6_rows_95 rfl ?_
        refine x_istore (lo' := [some (.ref (w.1 6)), some (.ref b1), some (.int b2), some (.long b3), none, some (.int b5), some (.ref a6), some (.int 0)]) dX6_rows_96 (Nat.le_of_ble_eq_true rfl) rfl ?_
        refine Ex.wkl (lo' := [some (.ref (w.1 6)), some (.ref b1), some (.int b2), none, none, none, some (.ref a6), some (.int 0)]) ⟨rfl, rfl, rfl, rfl, rfl, trivial⟩ ?_
        exact hT f0 h hW hF
      · replace hT := hT.2 c
        refine x_aload_n dX6_rows_78 rfl rfl rfl ?_
        refine c_getO dX6_rows_79 f_TallySlate_Maker_9 (by decide) (by decide) rfl hW ?_
        refine x_iconst (v := 2) dX6_rows_82 rfl ?_
        refine x_iload_n dX6_rows_83 rfl rfl ?_
        obtain ⟨-, -, cc, hcc, -⟩ := hW.ob 3 (by decide)
        refine c_invV (vs := [.int 2, .int b2]) dX6_rows_84 oX3_wrong q1323 q1550 hcc q1324 (Or.inl rfl) rfl rfl (Nat.le_of_ble_eq_true rfl) rfl hW hF hT ?_ ?_
        · intro _ s8 f9 hT h hW hF
          obtain ⟨rfl, hT⟩ := hT
          refine x_athrow dX6_rows_87 ?_
          exact c_out (hsr_skip (by decide) (rfl)) hW (Or.inl ⟨rfl, rfl⟩) hF hT
        · intro k s8 f9 hT h a hW hx hF
          exact c_out (hsr_skip (by decide) (rfl)) hW hx hF hT
  · replace hT := hT.2 c
    refine x_iload dX6_rows_26 rfl ?_
    refine x_if_ne (tgt := 40) dX6_rows_28 rfl (fun c => ?_) (fun c => ?_)
    · replace hT := hT.1 c
      refine x_iconst (v := 1) dX6_rows_40 rfl ?_
      refine x_goto (tgt := 45) dX6_rows_41 rfl ?_
      refine x_istore (lo' := [some (.ref (w.1 6)), some (.ref b1), some (.int b2), some (.long b3), none, some (.int 1), some (.int b6), none]) dX6_rows_45 (Nat.le_of_ble_eq_true rfl) rfl ?_
      refine x_lload_n dX6_rows_47 rfl rfl ?_
      refine x_iconst (v := 0) dX6_rows_48 rfl ?_
      refine x_aload_n dX6_rows_49 rfl rfl rfl ?_
      refine x_iload dX6_rows_50 rfl ?_
      obtain ⟨hc, hT⟩ := hT
      obtain ⟨hb, hT⟩ := hT
      obtain ⟨v10, ev, hT⟩ := hT
      refine c_fiald dX6_rows_52 hc hb hW ev ?_
      refine x_mmax dX6_rows_53 q1738 q669 q181 mq_max (Nat.le_of_ble_eq_true rfl) rfl ?_
      refine x_i2l dX6_rows_56 ?_
      refine x_ladd dX6_rows_57 ?_
      obtain ⟨y11, ey11⟩ : ∃ z : Int64, z = (b3 + (if 0 < v10 then v10 else 0).toInt64) := ⟨_, rfl⟩
      replace hT := hT y11 ey11
      refine x_lstore_n (lo' := [some (.ref (w.1 6)), some (.ref b1), some (.int b2), some (.long y11), none, some (.int 1), some (.int b6), none]) dX6_rows_58 rfl (Nat.le_of_ble_eq_true rfl) (by rw [ey11]; exact rfl) ?_
      refine x_iinc (lo' := [some (.ref (w.1 6)), some (.ref b1), some (.int b2), some (.long y11), none, some (.int 1), some (.int (b6 + 1)), none]) dX6_rows_59 rfl (show _ = (b6 + 1) from rfl) rfl ?_
      refine x_goto (tgt := 19) dX6_rows_62 rfl ?_
      exact hT f0 h hW hF
    · replace hT := hT.2 c
      refine x_aload_n dX6_rows_31 rfl rfl rfl ?_
      refine x_iload dX6_rows_32 rfl ?_
      obtain ⟨hc, hT⟩ := hT
      obtain ⟨hb, hT⟩ := hT
      obtain ⟨v12, ev, hT⟩ := hT
      refine c_fiald dX6_rows_34 hc hb hW ev ?_
      refine x_bipush (v := 64) dX6_rows_35 rfl ?_
      refine x_icmp_le (tgt := 44) dX6_rows_37 rfl (fun c => ?_) (fun c => ?_)
      · replace hT := hT.1 c
        refine x_iconst (v := 0) dX6_rows_44 rfl ?_
        refine x_istore (lo' := [some (.ref (w.1 6)), some (.ref b1), some (.int b2), some (.long b3), none, some (.int 0), some (.int b6), none]) dX6_rows_45 (Nat.le_of_ble_eq_true rfl) rfl ?_
        refine x_lload_n dX6_rows_47 rfl rfl ?_
        refine x_iconst (v := 0) dX6_rows_48 rfl ?_
        refine x_aload_n dX6_rows_49 rfl rfl rfl ?_
        refine x_iload dX6_rows_50 rfl ?_
        obtain ⟨hc, hT⟩ := hT
        obtain ⟨hb, hT⟩ := hT
        obtain ⟨v13, ev, hT⟩ := hT
        refine c_fiald dX6_rows_52 hc hb hW ev ?_
        refine x_mmax dX6_rows_53 q1738 q669 q181 mq_max (Nat.le_of_ble_eq_true rfl) rfl ?_
        refine x_i2l dX6_rows_56 ?_
        refine x_ladd dX6_rows_57 ?_
        obtain ⟨y14, ey14⟩ : ∃ z : Int64, z = (b3 + (if 0 < v13 then v13 else 0).toInt64) := ⟨_, rfl⟩
        replace hT := hT y14 ey14
        refine x_lstore_n (lo' := [some (.ref (w.1 6)), some (.ref b1), some (.int b2), some (.long y14), none, some (.int 0), some (.int b6), none]) dX6_rows_58 rfl (Nat.le_of_ble_eq_true rfl) (by rw [ey14]; exact rfl) ?_
        refine x_iinc (lo' := [some (.ref (w.1 6)), some (.ref b1), some (.int b2), some (.long y14), none, some (.int 0), some (.int (b6 + 1)), none]) dX6_rows_59 rfl (show _ = (b6 + 1) from rfl) rfl ?_
        refine x_goto (tgt := 19) dX6_rows_62 rfl ?_
        exact hT f0 h hW hF
      · replace hT := hT.2 c
        refine x_iconst (v := 1) dX6_rows_40 rfl ?_
        refine x_goto (tgt := 45) dX6_rows_41 rfl ?_
        refine x_istore (lo' := [some (.ref (w.1 6)), some (.ref b1), some (.int b2), some (.long b3), none, some (.int 1), some (.int b6), none]) dX6_rows_45 (Nat.le_of_ble_eq_true rfl) rfl ?_
        refine x_lload_n dX6_rows_47 rfl rfl ?_
        refine x_iconst (v := 0) dX6_rows_48 rfl ?_
        refine x_aload_n dX6_rows_49 rfl rfl rfl ?_
        refine x_iload dX6_rows_50 rfl ?_
        obtain ⟨hc, hT⟩ := hT
        obtain ⟨hb, hT⟩ := hT
        obtain ⟨v15, ev, hT⟩ := hT
        refine c_fiald dX6_rows_52 hc hb hW ev ?_
        refine x_mmax dX6_rows_53 q1738 q669 q181 mq_max (Nat.le_of_ble_eq_true rfl) rfl ?_
        refine x_i2l dX6_rows_56 ?_
        refine x_ladd dX6_rows_57 ?_
        obtain ⟨y16, ey16⟩ : ∃ z : Int64, z = (b3 + (if 0 < v15 then v15 else 0).toInt64) := ⟨_, rfl⟩
        replace hT := hT y16 ey16
        refine x_lstore_n (lo' := [some (.ref (w.1 6)), some (.ref b1), some (.int b2), some (.long y16), none, some (.int 1), some (.int b6), none]) dX6_rows_58 rfl (Nat.le_of_ble_eq_true rfl) (by rw [ey16]; exact rfl) ?_
        refine x_iinc (lo' := [some (.ref (w.1 6)), some (.ref b1), some (.int b2), some (.long y16), none, some (.int 1), some (.int (b6 + 1)), none]) dX6_rows_59 rfl (show _ = (b6 + 1) from rfl) rfl ?_
        refine x_goto (tgt := 19) dX6_rows_62 rfl ?_
        exact hT f0 h hW hF
theorem vX6_rows_98 {l : Launch} {E : EN} {w : CO} {d : Nat} {s : CS} {f : RH} {Q : KO → CS → RH → Prop} {b1 : Nat} {b2 : Int32} {b6 : Nat} {b7 : Int32}  (hT : (∃ t17 : Nat, tg f b1 = some (.inr t17) ∧ (((nI (ln f b1)) ≤ b7 → Q (.inl (some (.ref b6))) s f) ∧ (¬ (nI (ln f b1)) ≤ b7 → (tg f b1 = some (.inr 0) ∧ inB b7 (ln f b1) ∧ (∃ v18 : Int32, vl f b1 b7.toNatClampNeg = .int v18 ∧ ((¬ v18 < 0 → v18.toNatClampNeg ≤ 60000000 ∧ rmF E f 1 v18.toNatClampNeg ∧ ∀ (a19 : Nat) (f20 : RH), a19 = f.1 → f20 = fnewA f 0 v18.toNatClampNeg → (tg f20 b6 = some (.inr 11) ∧ tg f20 a19 = some (.inr 0) ∧ ez E ≤ a19 ∧ inB b7 (ln f20 b6) ∧ f20.2.2.2 ≤ b6 ∧ ∀ f21 : RH, f21 = fset f20 b6 b7.toNatClampNeg (.ref a19) → ExC l E w (d + 1) MX6_rows 98 [some (.ref (w.1 6)), some (.ref b1), some (.int b2), none, none, none, some (.ref b6), some (.int (b7 + 1))] [] s f21 Q)) ∧ (v18 < 0 → (rmF E f 3 222 ∧ (∀ (a23 : Nat) (f22 : RH), f22 = fexc f → (EvC l E w d MX3_wrong [.ref (w.1 3), .int 1, .int b2] s f22 (fun o s24 f25 => KP o (fun r => r = some (.ref (w.1 9)) ∧ Q (.inr 9) s24 f25) (fun k => Q (.inr k) s24 f25))))))))))))) : ExC l E w (d + 1) MX6_rows 98 [some (.ref (w.1 6)), some (.ref b1), some (.int b2), none, none, none, some (.ref b6), some (.int b7)] [] s f Q := by
  intro f0 h hW hF
  refine x_iload dX6_rows_98 rfl ?_
  refine x_aload_n dX6_rows_100 rfl rfl rfl ?_
  obtain ⟨t17, hc, hT⟩ := hT
  refine c_alen dX6_rows_101 hc hW ?_
  refine x_icmp_ge (tgt := 122) dX6_rows_102 rfl (fun c => ?_) (fun c => ?_)
  · replace hT := hT.1 c
    refine x_goto (tgt := 137) dX6_rows_122 rfl ?_
    refine x_aload dX6_rows_137 rfl rfl ?_
    exact x_aret dX6_rows_139 rfl (by first | exact Or.inl ⟨_, rfl⟩ | exact Or.inr ⟨_, rfl⟩) rfl ⟨_, _, hW, hF, Or.inl ⟨_, rfl, hT⟩⟩
  · replace hT := hT.2 c
    refine x_aload dX6_rows_105 rfl rfl ?_
    refine x_iload dX6_rows_107 rfl ?_
    refine x_aload_n dX6_rows_109 rfl rfl rfl ?_
    refine x_iload dX6_rows_110 rfl ?_
    obtain ⟨hc, hT⟩ := hT
    obtain ⟨hb, hT⟩ := hT
    obtain ⟨v18, ev, hT⟩ := hT
    refine c_fiald dX6_rows_112 hc hb hW ev ?_
    by_cases hn : v18 < 0
    · obtain ⟨hr, hT⟩ := hT.2 hn
      refine c_newarrayX dX6_rows_113 hn hr (Nat.le_of_ble_eq_true rfl) rfl hW hF ?_
      intro f22 ef22 h a23 hW hx hF
      replace hT := hT a23 f22 ef22
      refine c_catch (hsr_yes (by decide) (by decide) q1704 (Or.inl rfl)) hW hx ?_
      refine x_astore (lo' := [some (.ref (w.1 6)), some (.ref b1), some (.int b2), none, none, none, some (.ref b6), some (.ref a23)]) dX6_rows_125 (Nat.le_of_ble_eq_true rfl) rfl rfl ?_
      refine x_aload_n dX6_rows_127 rfl rfl rfl ?_
      refine c_getO dX6_rows_128 f_TallySlate_Maker_9 (by decide) (by decide) rfl hW ?_
      refine x_iconst (v := 1) dX6_rows_131 rfl ?_
      refine x_iload_n dX6_rows_132 rfl rfl ?_
      obtain ⟨-, -, cc, hcc, -⟩ := hW.ob 3 (by decide)
      refine c_invV (vs := [.int 1, .int b2]) dX6_rows_133 oX3_wrong q1323 q1550 hcc q1324 (Or.inl rfl) rfl rfl (Nat.le_of_ble_eq_true rfl) rfl hW hF hT ?_ ?_
      · intro _ s24 f25 hT h hW hF
        obtain ⟨rfl, hT⟩ := hT
        refine x_athrow dX6_rows_136 ?_
        exact c_out (hsr_skip (by decide) (rfl)) hW (Or.inl ⟨rfl, rfl⟩) hF hT
      · intro k s24 f25 hT h a hW hx hF
        exact c_out (hsr_skip (by decide) (rfl)) hW hx hF hT
    · replace hT := hT.1 hn
      obtain ⟨hb, hr, hT⟩ := hT
      refine c_newarrayG (t := 0) dX6_rows_113 (by decide) rfl hn hb hr hW hF ?_
      intro a19 f20 ea19 ef20 h hW hF
      replace hT := hT a19 f20 ea19 ef20
      obtain ⟨hc, hv, hzb, hT⟩ := hT
      obtain ⟨hb, hz, hT⟩ := hT
      refine c_faastAG dX6_rows_115 hc hv hzb hb hz hW hF ?_
      intro f21 ef21 h hW hF
      replace hT := hT f21 ef21
      refine x_iinc (lo' := [some (.ref (w.1 6)), some (.ref b1), some (.int b2), none, none, none, some (.ref b6), some (.int (b7 + 1))]) dX6_rows_116 rfl (show _ = (b7 + 1) from rfl) rfl ?_
      refine x_goto (tgt := 98) dX6_rows_119 rfl ?_
      exact hT f0 h hW hF
set_option maxHeartbeats 16000000 in
theorem vX7_work_0 {l : Launch} {E : EN} {w : CO} {d : Nat} {s : CS} {f : RH} {Q : KO → CS → RH → Prop} {x1 : Int32} {x2 : Int32}  (hT : (∀ y1 : Int32, y1 = ((s.1 26) - 1) → (inB y1 8400 ∧ ∃ v2 : Value, (s.2.2.2 25 y1.toNatClampNeg) = v2 ∧ isR v2 = true ∧ ((x1 = 6 → ((v2 = .null → (EvC l E w d MX3_wrong [.ref (w.1 3), .int 3, .int x2] s f (fun o s4 f5 => KP o (fun r => r = some (.ref (w.1 9)) ∧ Q (.inr 9) s4 f5) (fun k => Q (.inr k) s4 f5)))) ∧ (∀ a3 : Nat, v2 = .ref a3 → (∃ P12 : KO → CS → RH → Prop, (∀ o s6 f7, P12 o s6 f7 → KP o (fun r => ∃ v8 : Int32, r = some (.int v8) ∧ (EvC l E w d MX3_give [.ref (w.1 3), .int v8, .int 1] s6 f7 (fun o s9 f10 => KP o (fun r => r = none ∧ Q (.inl none) s9 f10) (fun k => Q (.inr k) s9 f10)))) (fun k => Q (.inr k) s6 f7)) ∧ ∃ k11 : Nat, oc f a3 k11 ∧ ((k11 = 29 ∧ EvC l E w d MX32_size [.ref a3] s f P12) ∨ (k11 = 30 ∧ EvC l E w d MX33_size [.ref a3] s f P12) ∨ (k11 = 31 ∧ EvC l E w d MX34_size [.ref a3] s f P12) ∨ (k11 = 32 ∧ EvC l E w d MX35_size [.ref a3] s f P12)))))) ∧ (¬ (x1 = 6) → ((x1 = 7 → (EvC l E w d MX3_asTable [.ref (w.1 3), .int y1, .int x2] s f (fun o s13 f14 => KP o (fun r => ∃ a15 : Nat, r = some (.ref a15) ∧ (EvC l E w d MX7_widths [.ref a15] s13 f14 (fun o s16 f17 => KP o (fun r => ∃ a18 : Nat, r = some (.ref a18) ∧ (EvC l E w d MX3_give_2 [.ref (w.1 3), .ref a18, .int 1, .int x2] s16 f17 (fun o s19 f20 => KP o (fun r => r = none ∧ Q (.inl none) s19 f20) (fun k => Q (.inr k) s19 f20)))) (fun k => Q (.inr k) s16 f17)))) (fun k => Q (.inr k) s13 f14)))) ∧ (¬ (x1 = 7) → ((x1 = 8 → ((v2 = .null → (EvC l E w d MX3_give [.ref (w.1 3), .int 0, .int 1] s f (fun o s22 f23 => KP o (fun r => r = none ∧ Q (.inl none) s22 f23) (fun k => Q (.inr k) s22 f23)))) ∧ (∀ a21 : Nat, v2 = .ref a21 → (∃ P30 : KO → CS → RH → Prop, (∀ o s24 f25, P30 o s24 f25 → KP o (fun r => ∃ v26 : Int32, r = some (.int v26) ∧ (EvC l E w d MX3_give [.ref (w.1 3), .int v26, .int 1] s24 f25 (fun o s27 f28 => KP o (fun r => r = none ∧ Q (.inl none) s27 f28) (fun k => Q (.inr k) s27 f28)))) (fun k => Q (.inr k) s24 f25)) ∧ ∃ k29 : Nat, oc f a21 k29 ∧ ((k29 = 29 ∧ EvC l E w d MX32_kind [.ref a21] s f P30) ∨ (k29 = 30 ∧ EvC l E w d MX33_kind [.ref a21] s f P30) ∨ (k29 = 31 ∧ EvC l E w d MX34_kind [.ref a21] s f P30) ∨ (k29 = 32 ∧ EvC l E w d MX35_kind [.ref a21] s f P30)))))) ∧ (¬ (x1 = 8) → ((x1 = 9 ∨ x1 = 10 ∨ x1 = 11 → (EvC l E w d MX7_folds [.ref (w.1 7), .int x1, v2, .int x2] s f (fun o s31 f32 => KP o (fun r => r = none ∧ Q (.inl none) s31 f32) (fun k => Q (.inr k) s31 f32)))) ∧ (¬ (x1 = 9 ∨ x1 = 10 ∨ x1 = 11) → ((x1 = 12 ∨ x1 = 13 → (EvC l E w d MX7_turns [.ref (w.1 7), .int x1, v2, .int x2] s f (fun o s33 f34 => KP o (fun r => r = none ∧ Q (.inl none) s33 f34) (fun k => Q (.inr k) s33 f34)))) ∧ (¬ (x1 = 12 ∨ x1 = 13) → ((x1 = 14 → (rmF E f 1 1 ∧ ∀ (a35 : Nat) (f36 : RH), a35 = f.1 → f36 = fnew f 29 → (EvC l E w d MX3_asRow [.ref (w.1 3), .int y1, .int x2] s f36 (fun o s37 f38 => KP o (fun r => ∃ a39 : Nat, r = some (.ref a39) ∧ (oc f38 a39 29 ∧ (∃ a40 : Nat, vl f38 a39 203 = .ref a40 ∧ (EvC l E w d MX7_grade [.ref a40] s37 f38 (fun o s41 f42 => KP o (fun r => ∃ a43 : Nat, r = some (.ref a43) ∧ (EvC l E w d MX32_init [.ref a35, .ref a43] s41 f42 (fun o s44 f45 => KP o (fun r => r = none ∧ (EvC l E w d MX3_give_2 [.ref (w.1 3), .ref a35, .int 1, .int x2] s44 f45 (fun o s46 f47 => KP o (fun r => r = none ∧ Q (.inl none) s46 f47) (fun k => Q (.inr k) s46 f47)))) (fun k => Q (.inr k) s44 f45)))) (fun k => Q (.inr k) s41 f42)))))) (fun k => Q (.inr k) s37 f38))))) ∧ (¬ (x1 = 14) → ((x1 = 15 → (EvC l E w d MX7_back [.ref (w.1 7), v2, .int x2] s f (fun o s48 f49 => KP o (fun r => ∃ a50 : Nat, r = some (.ref a50) ∧ (EvC l E w d MX3_give_2 [.ref (w.1 3), .ref a50, .int 1, .int x2] s48 f49 (fun o s51 f52 => KP o (fun r => r = none ∧ Q (.inl none) s51 f52) (fun k => Q (.inr k) s51 f52)))) (fun k => Q (.inr k) s48 f49)))) ∧ (¬ (x1 = 15) → ((x1 = 16 → (rmF E f 1 1 ∧ ∀ (a53 : Nat) (f54 : RH), a53 = f.1 → f54 = fnew f 29 → (EvC l E w d MX7_flat [.ref (w.1 7), v2, .int x2] s f54 (fun o s55 f56 => KP o (fun r => ∃ a57 : Nat, r = some (.ref a57) ∧ (EvC l E w d MX32_init [.ref a53, .ref a57] s55 f56 (fun o s58 f59 => KP o (fun r => r = none ∧ (EvC l E w d MX3_give_2 [.ref (w.1 3), .ref a53, .int 1, .int x2] s58 f59 (fun o s60 f61 => KP o (fun r => r = none ∧ Q (.inl none) s60 f61) (fun k => Q (.inr k) s60 f61)))) (fun k => Q (.inr k) s58 f59)))) (fun k => Q (.inr k) s55 f56))))) ∧ (¬ (x1 = 16) → ((x1 = 17 → (rmF E f 1 2 ∧ ∀ (a62 : Nat) (f63 : RH), a62 = f.1 → f63 = fnew f 30 → (EvC l E w d MX3_asTable [.ref (w.1 3), .int y1, .int x2] s f63 (fun o s64 f65 => KP o (fun r => ∃ a66 : Nat, r = some (.ref a66) ∧ (EvC l E w d MX7_turned [.ref (w.1 7), .ref a66, .int x2] s64 f65 (fun o s67 f68 => KP o (fun r => ∃ a69 : Nat, r = some (.ref a69) ∧ (EvC l E w d MX33_init [.ref a62, .ref a69] s67 f68 (fun o s70 f71 => KP o (fun r => r = none ∧ (EvC l E w d MX3_give_2 [.ref (w.1 3), .ref a62, .int 1, .int x2] s70 f71 (fun o s72 f73 => KP o (fun r => r = none ∧ Q (.inl none) s72 f73) (fun k => Q (.inr k) s72 f73)))) (fun k => Q (.inr k) s70 f71)))) (fun k => Q (.inr k) s67 f68)))) (fun k => Q (.inr k) s64 f65))))) ∧ (¬ (x1 = 17) → ((x1 = 18 → (rmF E f 1 2 ∧ ∀ (a74 : Nat) (f75 : RH), a74 = f.1 → f75 = fnew f 30 → (EvC l E w d MX3_asRow [.ref (w.1 3), .int y1, .int x2] s f75 (fun o s76 f77 => KP o (fun r => ∃ a78 : Nat, r = some (.ref a78) ∧ (oc f77 a78 29 ∧ (∃ a79 : Nat, vl f77 a78 203 = .ref a79 ∧ (EvC l E w d MX7_group [.ref (w.1 7), .ref a79, .int x2] s76 f77 (fun o s80 f81 => KP o (fun r => ∃ a82 : Nat, r = some (.ref a82) ∧ (EvC l E w d MX33_init [.ref a74, .ref a82] s80 f81 (fun o s83 f84 => KP o (fun r => r = none ∧ (EvC l E w d MX3_give_2 [.ref (w.1 3), .ref a74, .int 1, .int x2] s83 f84 (fun o s85 f86 => KP o (fun r => r = none ∧ Q (.inl none) s85 f86) (fun k => Q (.inr k) s85 f86)))) (fun k => Q (.inr k) s83 f84)))) (fun k => Q (.inr k) s80 f81)))))) (fun k => Q (.inr k) s76 f77))))) ∧ (¬ (x1 = 18) → ((EvC l E w d MX7_ofTwo [.ref (w.1 7), .int x1, .int x2] s f (fun o s87 f88 => KP o (fun r => r = none ∧ Q (.inl none) s87 f88) (fun k => Q (.inr k) s87 f88))))))))))))))))))))))))))) : ExC l E w (d + 1) MX7_work 0 [some (.ref (w.1 7)), some (.int x1), some (.int x2), none, none] [] s f Q := by
  intro f0 h hW hF
  refine x_aload_n dX7_work_0 rfl rfl rfl ?_
  refine c_getO dX7_work_1 f_TallySlate_Works_9 (by decide) (by decide) rfl hW ?_
  refine c_getI (v := (s.1 26)) dX7_work_4 f_TallySlate_Works_15 (by decide) (by decide) rfl hW rfl ?_
  refine x_iconst (v := 1) dX7_work_7 rfl ?_
  refine x_isub dX7_work_8 ?_
  obtain ⟨y1, ey1⟩ : ∃ z : Int32, z = ((s.1 26) - 1) := ⟨_, rfl⟩
  replace hT := hT y1 ey1
  refine x_istore_n (lo' := [some (.ref (w.1 7)), some (.int x1), some (.int x2), some (.int y1), none]) dX7_work_9 rfl (Nat.le_of_ble_eq_true rfl) (by rw [ey1]; exact rfl) ?_
  refine x_aload_n dX7_work_10 rfl rfl rfl ?_
  refine c_getO dX7_work_11 f_TallySlate_Works_9 (by decide) (by decide) rfl hW ?_
  refine c_getA dX7_work_14 f_TallySlate_Works_21 (by decide) (by decide) rfl hW ?_
  refine x_iload_n dX7_work_17 rfl rfl ?_
  obtain ⟨hb, v2, ev, iv2, hT⟩ := hT
  refine c_aald (v := v2) dX7_work_18 rfl hb hW ev ?_
  refine x_astore (lo' := [some (.ref (w.1 7)), some (.int x1), some (.int x2), some (.int y1), some (v2)]) dX7_work_19 (Nat.le_of_ble_eq_true rfl) iv2 rfl ?_
  refine x_iload_n dX7_work_21 rfl rfl ?_
  by_cases c : x1 = 6
  · replace hT := hT.1 c
    refine x_tableIn (tgt := 88) (off := 66) dX7_work_22 (by rw [c]; decide) (by rw [c]; decide) (by rw [c]; rfl) rfl ?_
    refine x_aload dX7_work_88 rfl iv2 ?_
    refine x_ifnonnull (tgt := 103) dX7_work_90 rfl iv2 (fun a3 e => ?_) (fun e => ?_)
    · subst e
      replace hT := hT.2 a3 rfl
      refine x_aload_n dX7_work_103 rfl rfl rfl ?_
      refine c_getO dX7_work_104 f_TallySlate_Works_9 (by decide) (by decide) rfl hW ?_
      refine x_aload dX7_work_107 rfl rfl ?_
      obtain ⟨P12, hP, k11, hc, hT⟩ := hT
      have kr : ∀ r s6 f7, P12 (.inl r) s6 f7 → ∀ h, CW E w s6 f7 h → Frz f0 f7 → Ex l E (d + 1) MX7_work (109 + 3) [some (.ref (w.1 7)), some (.int x1), some (.int x2), some (.int y1), some (.ref a3)] (r.toList ++ [.ref (w.1 3)]) h (PoC E w f0 Q) := by
        intro r s6 f7 h0 h hW hF
        have hT := hP _ _ _ h0
        clear h0
        obtain ⟨v8, rfl, hT⟩ := hT
        refine x_iconst (v := 1) dX7_work_112 rfl ?_
        obtain ⟨-, -, cc, hcc, -⟩ := hW.ob 3 (by decide)
        refine c_invV (vs := [.int v8, .int 1]) dX7_work_113 oX3_give q1384 q1747 hcc q1385 (Or.inl rfl) rfl rfl (Nat.le_of_ble_eq_true rfl) rfl hW hF hT ?_ ?_
        · intro _ s9 f10 hT h hW hF
          obtain ⟨rfl, hT⟩ := hT
          refine x_goto (tgt := 344) dX7_work_116 rfl ?_
          exact x_vret dX7_work_344 rfl ⟨_, _, hW, hF, Or.inl ⟨_, rfl, hT⟩⟩
        · intro k s9 f10 hT h a hW hx hF
          exact c_out (rfl) hW hx hF hT
      have kt : ∀ k s6 f7, P12 (.inr k) s6 f7 → ∀ h a, CW E w s6 f7 h → xA w h k a → Frz f0 f7 → ExT l E (d + 1) MX7_work 109 [some (.ref (w.1 7)), some (.int x1), some (.int x2), some (.int y1), some (.ref a3)] [.ref (w.1 3)] a h (PoC E w f0 Q) := by
        intro k s6 f7 h0 h a hW hx hF
        have hT := hP _ _ _ h0
        clear h0
        exact c_out (rfl) hW hx hF hT
      obtain ⟨cc, hcc⟩ := hW.ocell hc
      rcases hT with ⟨rfl, hT⟩ | ⟨rfl, hT⟩ | ⟨rfl, hT⟩ | ⟨rfl, hT⟩
      · exact c_invV (vs := []) dX7_work_109 oX32_size q1454 q1746 hcc q1453 (Or.inr hy_Thing_size) rfl rfl (Nat.le_of_ble_eq_true rfl) rfl hW hF hT kr kt
      · exact c_invV (vs := []) dX7_work_109 oX33_size q1457 q1746 hcc q1456 (Or.inr hy_Thing_size) rfl rfl (Nat.le_of_ble_eq_true rfl) rfl hW hF hT kr kt
      · exact c_invV (vs := []) dX7_work_109 oX34_size q1451 q1746 hcc q1450 (Or.inr hy_Thing_size) rfl rfl (Nat.le_of_ble_eq_true rfl) rfl hW hF hT kr kt
      · exact c_invV (vs := []) dX7_work_109 oX35_size q1460 q1746 hcc q1459 (Or.inr hy_Thing_size) rfl rfl (Nat.le_of_ble_eq_true rfl) rfl hW hF hT kr kt
    · subst e
      replace hT := hT.1 rfl
      refine x_aload_n dX7_work_93 rfl rfl rfl ?_
      refine c_getO dX7_work_94 f_TallySlate_Works_9 (by decide) (by decide) rfl hW ?_
      refine x_iconst (v := 3) dX7_work_97 rfl ?_
      refine x_iload_n dX7_work_98 rfl rfl ?_
      obtain ⟨-, -, cc, hcc, -⟩ := hW.ob 3 (by decide)
      refine c_invV (vs := [.int 3, .int x2]) dX7_work_99 oX3_wrong q1323 q1745 hcc q1324 (Or.inl rfl) rfl rfl (Nat.le_of_ble_eq_true rfl) rfl hW hF hT ?_ ?_
      · intro _ s4 f5 hT h hW hF
        obtain ⟨rfl, hT⟩ := hT
        refine x_athrow dX7_work_102 ?_
        exact c_out (rfl) hW (Or.inl ⟨rfl, rfl⟩) hF hT
      · intro k s4 f5 hT h a hW hx hF
        exact c_out (rfl) hW hx hF hT
  · replace hT := hT.2 c
    have cs0 := c
    by_cases c : x1 = 7
    · replace hT := hT.1 c
      refine x_tableIn (tgt := 119) (off := 97) dX7_work_22 (by rw [c]; decide) (by rw [c]; decide) (by rw [c]; rfl) rfl ?_
      refine x_aload_n dX7_work_119 rfl rfl rfl ?_
      refine c_getO dX7_work_120 f_TallySlate_Works_9 (by decide) (by decide) rfl hW ?_
      refine x_aload_n dX7_work_123 rfl rfl rfl ?_
      refine c_getO dX7_work_124 f_TallySlate_Works_9 (by decide) (by decide) rfl hW ?_
      refine x_iload_n dX7_work_127 rfl rfl ?_
      refine x_iload_n dX7_work_128 rfl rfl ?_
      obtain ⟨-, -, cc, hcc, -⟩ := hW.ob 3 (by decide)
      refine c_invV (vs := [.int y1, .int x2]) dX7_work_129 oX3_asTable q1749 q1748 hcc q1750 (Or.inl rfl) rfl rfl (Nat.le_of_ble_eq_true rfl) rfl hW hF hT ?_ ?_
      · intro _ s13 f14 hT h hW hF
        obtain ⟨a15, rfl, hT⟩ := hT
        refine c_invS (vs := [.ref a15]) dX7_work_132 oX7_widths q1753 (Or.inl q1752) rfl rfl (Nat.le_of_ble_eq_true rfl) rfl hW hF hT ?_ ?_
        · intro _ s16 f17 hT h hW hF
          obtain ⟨a18, rfl, hT⟩ := hT
          refine x_iconst (v := 1) dX7_work_135 rfl ?_
          refine x_iload_n dX7_work_136 rfl rfl ?_
          obtain ⟨-, -, cc, hcc, -⟩ := hW.ob 3 (by decide)
          refine c_invV (vs := [.ref a18, .int 1, .int x2]) dX7_work_137 oX3_give_2 q1412 q1757 hcc q1413 (Or.inl rfl) rfl rfl (Nat.le_of_ble_eq_true rfl) rfl hW hF hT ?_ ?_
          · intro _ s19 f20 hT h hW hF
            obtain ⟨rfl, hT⟩ := hT
            refine x_goto (tgt := 344) dX7_work_140 rfl ?_
            exact x_vret dX7_work_344 rfl ⟨_, _, hW, hF, Or.inl ⟨_, rfl, hT⟩⟩
          · intro k s19 f20 hT h a hW hx hF
            exact c_out (rfl) hW hx hF hT
        · intro k s16 f17 hT h a hW hx hF
          exact c_out (rfl) hW hx hF hT
      · intro k s13 f14 hT h a hW hx hF
        exact c_out (rfl) hW hx hF hT
    · replace hT := hT.2 c
      have cs1 := c
      by_cases c : x1 = 8
      · replace hT := hT.1 c
        refine x_tableIn (tgt := 143) (off := 121) dX7_work_22 (by rw [c]; decide) (by rw [c]; decide) (by rw [c]; rfl) rfl ?_
        refine x_aload_n dX7_work_143 rfl rfl rfl ?_
        refine c_getO dX7_work_144 f_TallySlate_Works_9 (by decide) (by decide) rfl hW ?_
        refine x_aload dX7_work_147 rfl iv2 ?_
        refine x_ifnonnull (tgt := 156) dX7_work_149 rfl iv2 (fun a21 e => ?_) (fun e => ?_)
        · subst e
          replace hT := hT.2 a21 rfl
          refine x_aload dX7_work_156 rfl rfl ?_
          obtain ⟨P30, hP, k29, hc, hT⟩ := hT
          have kr : ∀ r s24 f25, P30 (.inl r) s24 f25 → ∀ h, CW E w s24 f25 h → Frz f0 f25 → Ex l E (d + 1) MX7_work (158 + 3) [some (.ref (w.1 7)), some (.int x1), some (.int x2), some (.int y1), some (.ref a21)] (r.toList ++ [.ref (w.1 3)]) h (PoC E w f0 Q) := by
            intro r s24 f25 h0 h hW hF
            have hT := hP _ _ _ h0
            clear h0
            obtain ⟨v26, rfl, hT⟩ := hT
            refine x_iconst (v := 1) dX7_work_161 rfl ?_
            obtain ⟨-, -, cc, hcc, -⟩ := hW.ob 3 (by decide)
            refine c_invV (vs := [.int v26, .int 1]) dX7_work_162 oX3_give q1384 q1747 hcc q1385 (Or.inl rfl) rfl rfl (Nat.le_of_ble_eq_true rfl) rfl hW hF hT ?_ ?_
            · intro _ s27 f28 hT h hW hF
              obtain ⟨rfl, hT⟩ := hT
              refine x_goto (tgt := 344) dX7_work_165 rfl ?_
              exact x_vret dX7_work_344 rfl ⟨_, _, hW, hF, Or.inl ⟨_, rfl, hT⟩⟩
            · intro k s27 f28 hT h a hW hx hF
              exact c_out (rfl) hW hx hF hT
          have kt : ∀ k s24 f25, P30 (.inr k) s24 f25 → ∀ h a, CW E w s24 f25 h → xA w h k a → Frz f0 f25 → ExT l E (d + 1) MX7_work 158 [some (.ref (w.1 7)), some (.int x1), some (.int x2), some (.int y1), some (.ref a21)] [.ref (w.1 3)] a h (PoC E w f0 Q) := by
            intro k s24 f25 h0 h a hW hx hF
            have hT := hP _ _ _ h0
            clear h0
            exact c_out (rfl) hW hx hF hT
          obtain ⟨cc, hcc⟩ := hW.ocell hc
          rcases hT with ⟨rfl, hT⟩ | ⟨rfl, hT⟩ | ⟨rfl, hT⟩ | ⟨rfl, hT⟩
          · exact c_invV (vs := []) dX7_work_158 oX32_kind q1765 q1758 hcc q1764 (Or.inr hy_Thing_kind) rfl rfl (Nat.le_of_ble_eq_true rfl) rfl hW hF hT kr kt
          · exact c_invV (vs := []) dX7_work_158 oX33_kind q1768 q1758 hcc q1767 (Or.inr hy_Thing_kind) rfl rfl (Nat.le_of_ble_eq_true rfl) rfl hW hF hT kr kt
          · exact c_invV (vs := []) dX7_work_158 oX34_kind q1762 q1758 hcc q1761 (Or.inr hy_Thing_kind) rfl rfl (Nat.le_of_ble_eq_true rfl) rfl hW hF hT kr kt
          · exact c_invV (vs := []) dX7_work_158 oX35_kind q1771 q1758 hcc q1770 (Or.inr hy_Thing_kind) rfl rfl (Nat.le_of_ble_eq_true rfl) rfl hW hF hT kr kt
        · subst e
          replace hT := hT.1 rfl
          refine x_iconst (v := 0) dX7_work_152 rfl ?_
          refine x_goto (tgt := 161) dX7_work_153 rfl ?_
          refine x_iconst (v := 1) dX7_work_161 rfl ?_
          obtain ⟨-, -, cc, hcc, -⟩ := hW.ob 3 (by decide)
          refine c_invV (vs := [.int 0, .int 1]) dX7_work_162 oX3_give q1384 q1747 hcc q1385 (Or.inl rfl) rfl rfl (Nat.le_of_ble_eq_true rfl) rfl hW hF hT ?_ ?_
          · intro _ s22 f23 hT h hW hF
            obtain ⟨rfl, hT⟩ := hT
            refine x_goto (tgt := 344) dX7_work_165 rfl ?_
            exact x_vret dX7_work_344 rfl ⟨_, _, hW, hF, Or.inl ⟨_, rfl, hT⟩⟩
          · intro k s22 f23 hT h a hW hx hF
            exact c_out (rfl) hW hx hF hT
      · replace hT := hT.2 c
        have cs2 := c
        by_cases c : x1 = 9 ∨ x1 = 10 ∨ x1 = 11
        · replace hT := hT.1 c
          rcases c with c | c | c
          · refine x_tableIn (tgt := 168) (off := 146) dX7_work_22 (by rw [c]; decide) (by rw [c]; decide) (by rw [c]; rfl) rfl ?_
            refine x_aload_n dX7_work_168 rfl rfl rfl ?_
            refine x_iload_n dX7_work_169 rfl rfl ?_
            refine x_aload dX7_work_170 rfl iv2 ?_
            refine x_iload_n dX7_work_172 rfl rfl ?_
            obtain ⟨-, -, cc, hcc, -⟩ := hW.ob 7 (by decide)
            refine c_invV (vs := [.int x1, v2, .int x2]) dX7_work_173 oX7_folds q1775 q1773 hcc qs39 (Or.inl rfl) rfl rfl (Nat.le_of_ble_eq_true rfl) rfl hW hF hT ?_ ?_
            · intro _ s31 f32 hT h hW hF
              obtain ⟨rfl, hT⟩ := hT
              refine x_goto (tgt := 344) dX7_work_176 rfl ?_
              exact x_vret dX7_work_344 rfl ⟨_, _, hW, hF, Or.inl ⟨_, rfl, hT⟩⟩
            · intro k s31 f32 hT h a hW hx hF
              exact c_out (rfl) hW hx hF hT
          · refine x_tableIn (tgt := 168) (off := 146) dX7_work_22 (by rw [c]; decide) (by rw [c]; decide) (by rw [c]; rfl) rfl ?_
            refine x_aload_n dX7_work_168 rfl rfl rfl ?_
            refine x_iload_n dX7_work_169 rfl rfl ?_
            refine x_aload dX7_work_170 rfl iv2 ?_
            refine x_iload_n dX7_work_172 rfl rfl ?_
            obtain ⟨-, -, cc, hcc, -⟩ := hW.ob 7 (by decide)
            refine c_invV (vs := [.int x1, v2, .int x2]) dX7_work_173 oX7_folds q1775 q1773 hcc qs39 (Or.inl rfl) rfl rfl (Nat.le_of_ble_eq_true rfl) rfl hW hF hT ?_ ?_
            · intro _ s31 f32 hT h hW hF
              obtain ⟨rfl, hT⟩ := hT
              refine x_goto (tgt := 344) dX7_work_176 rfl ?_
              exact x_vret dX7_work_344 rfl ⟨_, _, hW, hF, Or.inl ⟨_, rfl, hT⟩⟩
            · intro k s31 f32 hT h a hW hx hF
              exact c_out (rfl) hW hx hF hT
          · refine x_tableIn (tgt := 168) (off := 146) dX7_work_22 (by rw [c]; decide) (by rw [c]; decide) (by rw [c]; rfl) rfl ?_
            refine x_aload_n dX7_work_168 rfl rfl rfl ?_
            refine x_iload_n dX7_work_169 rfl rfl ?_
            refine x_aload dX7_work_170 rfl iv2 ?_
            refine x_iload_n dX7_work_172 rfl rfl ?_
            obtain ⟨-, -, cc, hcc, -⟩ := hW.ob 7 (by decide)
            refine c_invV (vs := [.int x1, v2, .int x2]) dX7_work_173 oX7_folds q1775 q1773 hcc qs39 (Or.inl rfl) rfl rfl (Nat.le_of_ble_eq_true rfl) rfl hW hF hT ?_ ?_
            · intro _ s31 f32 hT h hW hF
              obtain ⟨rfl, hT⟩ := hT
              refine x_goto (tgt := 344) dX7_work_176 rfl ?_
              exact x_vret dX7_work_344 rfl ⟨_, _, hW, hF, Or.inl ⟨_, rfl, hT⟩⟩
            · intro k s31 f32 hT h a hW hx hF
              exact c_out (rfl) hW hx hF hT
        · replace hT := hT.2 c
          have cs3 := c
          by_cases c : x1 = 12 ∨ x1 = 13
          · replace hT := hT.1 c
            rcases c with c | c
            · refine x_tableIn (tgt := 179) (off := 157) dX7_work_22 (by rw [c]; decide) (by rw [c]; decide) (by rw [c]; rfl) rfl ?_
              refine x_aload_n dX7_work_179 rfl rfl rfl ?_
              refine x_iload_n dX7_work_180 rfl rfl ?_
              refine x_aload dX7_work_181 rfl iv2 ?_
              refine x_iload_n dX7_work_183 rfl rfl ?_
              obtain ⟨-, -, cc, hcc, -⟩ := hW.ob 7 (by decide)
              refine c_invV (vs := [.int x1, v2, .int x2]) dX7_work_184 oX7_turns q1787 q1785 hcc qs41 (Or.inl rfl) rfl rfl (Nat.le_of_ble_eq_true rfl) rfl hW hF hT ?_ ?_
              · intro _ s33 f34 hT h hW hF
                obtain ⟨rfl, hT⟩ := hT
                refine x_goto (tgt := 344) dX7_work_187 rfl ?_
                exact x_vret dX7_work_344 rfl ⟨_, _, hW, hF, Or.inl ⟨_, rfl, hT⟩⟩
              · intro k s33 f34 hT h a hW hx hF
                exact c_out (rfl) hW hx hF hT
            · refine x_tableIn (tgt := 179) (off := 157) dX7_work_22 (by rw [c]; decide) (by rw [c]; decide) (by rw [c]; rfl) rfl ?_
              refine x_aload_n dX7_work_179 rfl rfl rfl ?_
              refine x_iload_n dX7_work_180 rfl rfl ?_
              refine x_aload dX7_work_181 rfl iv2 ?_
              refine x_iload_n dX7_work_183 rfl rfl ?_
              obtain ⟨-, -, cc, hcc, -⟩ := hW.ob 7 (by decide)
              refine c_invV (vs := [.int x1, v2, .int x2]) dX7_work_184 oX7_turns q1787 q1785 hcc qs41 (Or.inl rfl) rfl rfl (Nat.le_of_ble_eq_true rfl) rfl hW hF hT ?_ ?_
              · intro _ s33 f34 hT h hW hF
                obtain ⟨rfl, hT⟩ := hT
                refine x_goto (tgt := 344) dX7_work_187 rfl ?_
                exact x_vret dX7_work_344 rfl ⟨_, _, hW, hF, Or.inl ⟨_, rfl, hT⟩⟩
              · intro k s33 f34 hT h a hW hx hF
                exact c_out (rfl) hW hx hF hT
          · replace hT := hT.2 c
            have cs4 := c
            by_cases c : x1 = 14
            · replace hT := hT.1 c
              refine x_tableIn (tgt := 190) (off := 168) dX7_work_22 (by rw [c]; decide) (by rw [c]; decide) (by rw [c]; rfl) rfl ?_
              refine x_aload_n dX7_work_190 rfl rfl rfl ?_
              refine c_getO dX7_work_191 f_TallySlate_Works_9 (by decide) (by decide) rfl hW ?_
              obtain ⟨hr, hT⟩ := hT
              refine c_newG (k := 29) dX7_work_194 (by decide) q1755 q205 hr hW hF ?_
              intro a35 f36 ea35 ef36 h hW hF
              replace hT := hT a35 f36 ea35 ef36
              refine x_dup dX7_work_197 rfl ?_
              refine x_aload_n dX7_work_198 rfl rfl rfl ?_
              refine c_getO dX7_work_199 f_TallySlate_Works_9 (by decide) (by decide) rfl hW ?_
              refine x_iload_n dX7_work_202 rfl rfl ?_
              refine x_iload_n dX7_work_203 rfl rfl ?_
              obtain ⟨-, -, cc, hcc, -⟩ := hW.ob 3 (by decide)
              refine c_invV (vs := [.int y1, .int x2]) dX7_work_204 oX3_asRow q1731 q1803 hcc q1732 (Or.inl rfl) rfl rfl (Nat.le_of_ble_eq_true rfl) rfl hW hF hT ?_ ?_
              · intro _ s37 f38 hT h hW hF
                obtain ⟨a39, rfl, hT⟩ := hT
                obtain ⟨hc, hT⟩ := hT
                obtain ⟨a40, ev, hT⟩ := hT
                refine c_fgetG dX7_work_207 f_TallySlate_Works_66 hc (by decide) (by decide) hW ev ?_
                refine c_invS (vs := [.ref a40]) dX7_work_210 oX7_grade q1805 (Or.inl q1804) rfl rfl (Nat.le_of_ble_eq_true rfl) rfl hW hF hT ?_ ?_
                · intro _ s41 f42 hT h hW hF
                  obtain ⟨a43, rfl, hT⟩ := hT
                  refine c_invI (b := a35) (vs := [.ref a43]) dX7_work_213 oX32_init rfl rfl rfl q1396 (Or.inl q1756) rfl rfl (Nat.le_of_ble_eq_true rfl) rfl hW hF hT ?_ ?_
                  · intro _ s44 f45 hT h hW hF
                    obtain ⟨rfl, hT⟩ := hT
                    refine x_iconst (v := 1) dX7_work_216 rfl ?_
                    refine x_iload_n dX7_work_217 rfl rfl ?_
                    obtain ⟨-, -, cc, hcc, -⟩ := hW.ob 3 (by decide)
                    refine c_invV (vs := [.ref a35, .int 1, .int x2]) dX7_work_218 oX3_give_2 q1412 q1757 hcc q1413 (Or.inl rfl) rfl rfl (Nat.le_of_ble_eq_true rfl) rfl hW hF hT ?_ ?_
                    · intro _ s46 f47 hT h hW hF
                      obtain ⟨rfl, hT⟩ := hT
                      refine x_goto (tgt := 344) dX7_work_221 rfl ?_
                      exact x_vret dX7_work_344 rfl ⟨_, _, hW, hF, Or.inl ⟨_, rfl, hT⟩⟩
                    · intro k s46 f47 hT h a hW hx hF
                      exact c_out (rfl) hW hx hF hT
                  · intro k s44 f45 hT h a hW hx hF
                    exact c_out (rfl) hW hx hF hT
                · intro k s41 f42 hT h a hW hx hF
                  exact c_out (rfl) hW hx hF hT
              · intro k s37 f38 hT h a hW hx hF
                exact c_out (rfl) hW hx hF hT
            · replace hT := hT.2 c
              have cs5 := c
              by_cases c : x1 = 15
              · replace hT := hT.1 c
                refine x_tableIn (tgt := 224) (off := 202) dX7_work_22 (by rw [c]; decide) (by rw [c]; decide) (by rw [c]; rfl) rfl ?_
                refine x_aload_n dX7_work_224 rfl rfl rfl ?_
                refine c_getO dX7_work_225 f_TallySlate_Works_9 (by decide) (by decide) rfl hW ?_
                refine x_aload_n dX7_work_228 rfl rfl rfl ?_
                refine x_aload dX7_work_229 rfl iv2 ?_
                refine x_iload_n dX7_work_231 rfl rfl ?_
                obtain ⟨-, -, cc, hcc, -⟩ := hW.ob 7 (by decide)
                refine c_invV (vs := [v2, .int x2]) dX7_work_232 oX7_back q1809 q1807 hcc qs42 (Or.inl rfl) rfl rfl (Nat.le_of_ble_eq_true rfl) rfl hW hF hT ?_ ?_
                · intro _ s48 f49 hT h hW hF
                  obtain ⟨a50, rfl, hT⟩ := hT
                  refine x_iconst (v := 1) dX7_work_235 rfl ?_
                  refine x_iload_n dX7_work_236 rfl rfl ?_
                  obtain ⟨-, -, cc, hcc, -⟩ := hW.ob 3 (by decide)
                  refine c_invV (vs := [.ref a50, .int 1, .int x2]) dX7_work_237 oX3_give_2 q1412 q1757 hcc q1413 (Or.inl rfl) rfl rfl (Nat.le_of_ble_eq_true rfl) rfl hW hF hT ?_ ?_
                  · intro _ s51 f52 hT h hW hF
                    obtain ⟨rfl, hT⟩ := hT
                    refine x_goto (tgt := 344) dX7_work_240 rfl ?_
                    exact x_vret dX7_work_344 rfl ⟨_, _, hW, hF, Or.inl ⟨_, rfl, hT⟩⟩
                  · intro k s51 f52 hT h a hW hx hF
                    exact c_out (rfl) hW hx hF hT
                · intro k s48 f49 hT h a hW hx hF
                  exact c_out (rfl) hW hx hF hT
              · replace hT := hT.2 c
                have cs6 := c
                by_cases c : x1 = 16
                · replace hT := hT.1 c
                  refine x_tableIn (tgt := 243) (off := 221) dX7_work_22 (by rw [c]; decide) (by rw [c]; decide) (by rw [c]; rfl) rfl ?_
                  refine x_aload_n dX7_work_243 rfl rfl rfl ?_
                  refine c_getO dX7_work_244 f_TallySlate_Works_9 (by decide) (by decide) rfl hW ?_
                  obtain ⟨hr, hT⟩ := hT
                  refine c_newG (k := 29) dX7_work_247 (by decide) q1755 q205 hr hW hF ?_
                  intro a53 f54 ea53 ef54 h hW hF
                  replace hT := hT a53 f54 ea53 ef54
                  refine x_dup dX7_work_250 rfl ?_
                  refine x_aload_n dX7_work_251 rfl rfl rfl ?_
                  refine x_aload dX7_work_252 rfl iv2 ?_
                  refine x_iload_n dX7_work_254 rfl rfl ?_
                  obtain ⟨-, -, cc, hcc, -⟩ := hW.ob 7 (by decide)
                  refine c_invV (vs := [v2, .int x2]) dX7_work_255 oX7_flat q1816 q1814 hcc qs43 (Or.inl rfl) rfl rfl (Nat.le_of_ble_eq_true rfl) rfl hW hF hT ?_ ?_
                  · intro _ s55 f56 hT h hW hF
                    obtain ⟨a57, rfl, hT⟩ := hT
                    refine c_invI (b := a53) (vs := [.ref a57]) dX7_work_258 oX32_init rfl rfl rfl q1396 (Or.inl q1756) rfl rfl (Nat.le_of_ble_eq_true rfl) rfl hW hF hT ?_ ?_
                    · intro _ s58 f59 hT h hW hF
                      obtain ⟨rfl, hT⟩ := hT
                      refine x_iconst (v := 1) dX7_work_261 rfl ?_
                      refine x_iload_n dX7_work_262 rfl rfl ?_
                      obtain ⟨-, -, cc, hcc, -⟩ := hW.ob 3 (by decide)
                      refine c_invV (vs := [.ref a53, .int 1, .int x2]) dX7_work_263 oX3_give_2 q1412 q1757 hcc q1413 (Or.inl rfl) rfl rfl (Nat.le_of_ble_eq_true rfl) rfl hW hF hT ?_ ?_
                      · intro _ s60 f61 hT h hW hF
                        obtain ⟨rfl, hT⟩ := hT
                        refine x_goto (tgt := 344) dX7_work_266 rfl ?_
                        exact x_vret dX7_work_344 rfl ⟨_, _, hW, hF, Or.inl ⟨_, rfl, hT⟩⟩
                      · intro k s60 f61 hT h a hW hx hF
                        exact c_out (rfl) hW hx hF hT
                    · intro k s58 f59 hT h a hW hx hF
                      exact c_out (rfl) hW hx hF hT
                  · intro k s55 f56 hT h a hW hx hF
                    exact c_out (rfl) hW hx hF hT
                · replace hT := hT.2 c
                  have cs7 := c
                  by_cases c : x1 = 17
                  · replace hT := hT.1 c
                    refine x_tableIn (tgt := 269) (off := 247) dX7_work_22 (by rw [c]; decide) (by rw [c]; decide) (by rw [c]; rfl) rfl ?_
                    refine x_aload_n dX7_work_269 rfl rfl rfl ?_
                    refine c_getO dX7_work_270 f_TallySlate_Works_9 (by decide) (by decide) rfl hW ?_
                    obtain ⟨hr, hT⟩ := hT
                    refine c_newG (k := 30) dX7_work_273 (by decide) q1784 q206 hr hW hF ?_
                    intro a62 f63 ea62 ef63 h hW hF
                    replace hT := hT a62 f63 ea62 ef63
                    refine x_dup dX7_work_276 rfl ?_
                    refine x_aload_n dX7_work_277 rfl rfl rfl ?_
                    refine x_aload_n dX7_work_278 rfl rfl rfl ?_
                    refine c_getO dX7_work_279 f_TallySlate_Works_9 (by decide) (by decide) rfl hW ?_
                    refine x_iload_n dX7_work_282 rfl rfl ?_
                    refine x_iload_n dX7_work_283 rfl rfl ?_
                    obtain ⟨-, -, cc, hcc, -⟩ := hW.ob 3 (by decide)
                    refine c_invV (vs := [.int y1, .int x2]) dX7_work_284 oX3_asTable q1749 q1748 hcc q1750 (Or.inl rfl) rfl rfl (Nat.le_of_ble_eq_true rfl) rfl hW hF hT ?_ ?_
                    · intro _ s64 f65 hT h hW hF
                      obtain ⟨a66, rfl, hT⟩ := hT
                      refine x_iload_n dX7_work_287 rfl rfl ?_
                      obtain ⟨-, -, cc, hcc, -⟩ := hW.ob 7 (by decide)
                      refine c_invV (vs := [.ref a66, .int x2]) dX7_work_288 oX7_turned q1830 q1828 hcc qs44 (Or.inl rfl) rfl rfl (Nat.le_of_ble_eq_true rfl) rfl hW hF hT ?_ ?_
                      · intro _ s67 f68 hT h hW hF
                        obtain ⟨a69, rfl, hT⟩ := hT
                        refine c_invI (b := a62) (vs := [.ref a69]) dX7_work_291 oX33_init rfl rfl rfl q1469 (Or.inl q1802) rfl rfl (Nat.le_of_ble_eq_true rfl) rfl hW hF hT ?_ ?_
                        · intro _ s70 f71 hT h hW hF
                          obtain ⟨rfl, hT⟩ := hT
                          refine x_iconst (v := 1) dX7_work_294 rfl ?_
                          refine x_iload_n dX7_work_295 rfl rfl ?_
                          obtain ⟨-, -, cc, hcc, -⟩ := hW.ob 3 (by decide)
                          refine c_invV (vs := [.ref a62, .int 1, .int x2]) dX7_work_296 oX3_give_2 q1412 q1757 hcc q1413 (Or.inl rfl) rfl rfl (Nat.le_of_ble_eq_true rfl) rfl hW hF hT ?_ ?_
                          · intro _ s72 f73 hT h hW hF
                            obtain ⟨rfl, hT⟩ := hT
                            refine x_goto (tgt := 344) dX7_work_299 rfl ?_
                            exact x_vret dX7_work_344 rfl ⟨_, _, hW, hF, Or.inl ⟨_, rfl, hT⟩⟩
                          · intro k s72 f73 hT h a hW hx hF
                            exact c_out (rfl) hW hx hF hT
                        · intro k s70 f71 hT h a hW hx hF
                          exact c_out (rfl) hW hx hF hT
                      · intro k s67 f68 hT h a hW hx hF
                        exact c_out (rfl) hW hx hF hT
                    · intro k s64 f65 hT h a hW hx hF
                      exact c_out (rfl) hW hx hF hT
                  · replace hT := hT.2 c
                    have cs8 := c
                    by_cases c : x1 = 18
                    · replace hT := hT.1 c
                      refine x_tableIn (tgt := 302) (off := 280) dX7_work_22 (by rw [c]; decide) (by rw [c]; decide) (by rw [c]; rfl) rfl ?_
                      refine x_aload_n dX7_work_302 rfl rfl rfl ?_
                      refine c_getO dX7_work_303 f_TallySlate_Works_9 (by decide) (by decide) rfl hW ?_
                      obtain ⟨hr, hT⟩ := hT
                      refine c_newG (k := 30) dX7_work_306 (by decide) q1784 q206 hr hW hF ?_
                      intro a74 f75 ea74 ef75 h hW hF
                      replace hT := hT a74 f75 ea74 ef75
                      refine x_dup dX7_work_309 rfl ?_
                      refine x_aload_n dX7_work_310 rfl rfl rfl ?_
                      refine x_aload_n dX7_work_311 rfl rfl rfl ?_
                      refine c_getO dX7_work_312 f_TallySlate_Works_9 (by decide) (by decide) rfl hW ?_
                      refine x_iload_n dX7_work_315 rfl rfl ?_
                      refine x_iload_n dX7_work_316 rfl rfl ?_
                      obtain ⟨-, -, cc, hcc, -⟩ := hW.ob 3 (by decide)
                      refine c_invV (vs := [.int y1, .int x2]) dX7_work_317 oX3_asRow q1731 q1803 hcc q1732 (Or.inl rfl) rfl rfl (Nat.le_of_ble_eq_true rfl) rfl hW hF hT ?_ ?_
                      · intro _ s76 f77 hT h hW hF
                        obtain ⟨a78, rfl, hT⟩ := hT
                        obtain ⟨hc, hT⟩ := hT
                        obtain ⟨a79, ev, hT⟩ := hT
                        refine c_fgetG dX7_work_320 f_TallySlate_Works_66 hc (by decide) (by decide) hW ev ?_
                        refine x_iload_n dX7_work_323 rfl rfl ?_
                        obtain ⟨-, -, cc, hcc, -⟩ := hW.ob 7 (by decide)
                        refine c_invV (vs := [.ref a79, .int x2]) dX7_work_324 oX7_group q1839 q1837 hcc qs45 (Or.inl rfl) rfl rfl (Nat.le_of_ble_eq_true rfl) rfl hW hF hT ?_ ?_
                        · intro _ s80 f81 hT h hW hF
                          obtain ⟨a82, rfl, hT⟩ := hT
                          refine c_invI (b := a74) (vs := [.ref a82]) dX7_work_327 oX33_init rfl rfl rfl q1469 (Or.inl q1802) rfl rfl (Nat.le_of_ble_eq_true rfl) rfl hW hF hT ?_ ?_
                          · intro _ s83 f84 hT h hW hF
                            obtain ⟨rfl, hT⟩ := hT
                            refine x_iconst (v := 1) dX7_work_330 rfl ?_
                            refine x_iload_n dX7_work_331 rfl rfl ?_
                            obtain ⟨-, -, cc, hcc, -⟩ := hW.ob 3 (by decide)
                            refine c_invV (vs := [.ref a74, .int 1, .int x2]) dX7_work_332 oX3_give_2 q1412 q1757 hcc q1413 (Or.inl rfl) rfl rfl (Nat.le_of_ble_eq_true rfl) rfl hW hF hT ?_ ?_
                            · intro _ s85 f86 hT h hW hF
                              obtain ⟨rfl, hT⟩ := hT
                              refine x_goto (tgt := 344) dX7_work_335 rfl ?_
                              exact x_vret dX7_work_344 rfl ⟨_, _, hW, hF, Or.inl ⟨_, rfl, hT⟩⟩
                            · intro k s85 f86 hT h a hW hx hF
                              exact c_out (rfl) hW hx hF hT
                          · intro k s83 f84 hT h a hW hx hF
                            exact c_out (rfl) hW hx hF hT
                        · intro k s80 f81 hT h a hW hx hF
                          exact c_out (rfl) hW hx hF hT
                      · intro k s76 f77 hT h a hW hx hF
                        exact c_out (rfl) hW hx hF hT
                    · replace hT := hT.2 c
                      have cs9 := c
                      refine x_tableD (tgt := 338) [6, 7, 8, 9, 10, 11, 12, 13, 14, 15, 16, 17, 18] dX7_work_22 (List.forall_mem_cons.mpr ⟨fun h => cs0 (i32_of (h.trans (show (6 : Int) = (6 : Int32).toInt from by decide))), List.forall_mem_cons.mpr ⟨fun h => cs1 (i32_of (h.trans (show (7 : Int) = (7 : Int32).toInt from by decide))), List.forall_mem_cons.mpr ⟨fun h => cs2 (i32_of (h.trans (show (8 : Int) = (8 : Int32).toInt from by decide))), List.forall_mem_cons.mpr ⟨fun h => cs3 (Or.inl (i32_of (h.trans (show (9 : Int) = (9 : Int32).toInt from by decide)))), List.forall_mem_cons.mpr ⟨fun h => cs3 (Or.inr (Or.inl (i32_of (h.trans (show (10 : Int) = (10 : Int32).toInt from by decide))))), List.forall_mem_cons.mpr ⟨fun h => cs3 (Or.inr (Or.inr (i32_of (h.trans (show (11 : Int) = (11 : Int32).toInt from by decide))))), List.forall_mem_cons.mpr ⟨fun h => cs4 (Or.inl (i32_of (h.trans (show (12 : Int) = (12 : Int32).toInt from by decide)))), List.forall_mem_cons.mpr ⟨fun h => cs4 (Or.inr (i32_of (h.trans (show (13 : Int) = (13 : Int32).toInt from by decide)))), List.forall_mem_cons.mpr ⟨fun h => cs5 (i32_of (h.trans (show (14 : Int) = (14 : Int32).toInt from by decide))), List.forall_mem_cons.mpr ⟨fun h => cs6 (i32_of (h.trans (show (15 : Int) = (15 : Int32).toInt from by decide))), List.forall_mem_cons.mpr ⟨fun h => cs7 (i32_of (h.trans (show (16 : Int) = (16 : Int32).toInt from by decide))), List.forall_mem_cons.mpr ⟨fun h => cs8 (i32_of (h.trans (show (17 : Int) = (17 : Int32).toInt from by decide))), List.forall_mem_cons.mpr ⟨fun h => cs9 (i32_of (h.trans (show (18 : Int) = (18 : Int32).toInt from by decide))), fun _ h => absurd h List.not_mem_nil⟩⟩⟩⟩⟩⟩⟩⟩⟩⟩⟩⟩⟩) (by decide) (by decide) rfl ?_
                      refine x_aload_n dX7_work_338 rfl rfl rfl ?_
                      refine x_iload_n dX7_work_339 rfl rfl ?_
                      refine x_iload_n dX7_work_340 rfl rfl ?_
                      obtain ⟨-, -, cc, hcc, -⟩ := hW.ob 7 (by decide)
                      refine c_invV (vs := [.int x1, .int x2]) dX7_work_341 oX7_ofTwo q1843 q1841 hcc qs46 (Or.inl rfl) rfl rfl (Nat.le_of_ble_eq_true rfl) rfl hW hF hT ?_ ?_
                      · intro _ s87 f88 hT h hW hF
                        obtain ⟨rfl, hT⟩ := hT
                        exact x_vret dX7_work_344 rfl ⟨_, _, hW, hF, Or.inl ⟨_, rfl, hT⟩⟩
                      · intro k s87 f88 hT h a hW hx hF
                        exact c_out (rfl) hW hx hF hT
theorem eX7_work {l : Launch} {E : EN} {w : CO} {d : Nat} {s : CS} {f : RH} {Q : KO → CS → RH → Prop} {x1 : Int32} {x2 : Int32}  (hst : l.stackTraces = false) (hT : (∀ y1 : Int32, y1 = ((s.1 26) - 1) → (inB y1 8400 ∧ ∃ v2 : Value, (s.2.2.2 25 y1.toNatClampNeg) = v2 ∧ isR v2 = true ∧ ((x1 = 6 → ((v2 = .null → (EvC l E w d MX3_wrong [.ref (w.1 3), .int 3, .int x2] s f (fun o s4 f5 => KP o (fun r => r = some (.ref (w.1 9)) ∧ Q (.inr 9) s4 f5) (fun k => Q (.inr k) s4 f5)))) ∧ (∀ a3 : Nat, v2 = .ref a3 → (∃ P12 : KO → CS → RH → Prop, (∀ o s6 f7, P12 o s6 f7 → KP o (fun r => ∃ v8 : Int32, r = some (.int v8) ∧ (EvC l E w d MX3_give [.ref (w.1 3), .int v8, .int 1] s6 f7 (fun o s9 f10 => KP o (fun r => r = none ∧ Q (.inl none) s9 f10) (fun k => Q (.inr k) s9 f10)))) (fun k => Q (.inr k) s6 f7)) ∧ ∃ k11 : Nat, oc f a3 k11 ∧ ((k11 = 29 ∧ EvC l E w d MX32_size [.ref a3] s f P12) ∨ (k11 = 30 ∧ EvC l E w d MX33_size [.ref a3] s f P12) ∨ (k11 = 31 ∧ EvC l E w d MX34_size [.ref a3] s f P12) ∨ (k11 = 32 ∧ EvC l E w d MX35_size [.ref a3] s f P12)))))) ∧ (¬ (x1 = 6) → ((x1 = 7 → (EvC l E w d MX3_asTable [.ref (w.1 3), .int y1, .int x2] s f (fun o s13 f14 => KP o (fun r => ∃ a15 : Nat, r = some (.ref a15) ∧ (EvC l E w d MX7_widths [.ref a15] s13 f14 (fun o s16 f17 => KP o (fun r => ∃ a18 : Nat, r = some (.ref a18) ∧ (EvC l E w d MX3_give_2 [.ref (w.1 3), .ref a18, .int 1, .int x2] s16 f17 (fun o s19 f20 => KP o (fun r => r = none ∧ Q (.inl none) s19 f20) (fun k => Q (.inr k) s19 f20)))) (fun k => Q (.inr k) s16 f17)))) (fun k => Q (.inr k) s13 f14)))) ∧ (¬ (x1 = 7) → ((x1 = 8 → ((v2 = .null → (EvC l E w d MX3_give [.ref (w.1 3), .int 0, .int 1] s f (fun o s22 f23 => KP o (fun r => r = none ∧ Q (.inl none) s22 f23) (fun k => Q (.inr k) s22 f23)))) ∧ (∀ a21 : Nat, v2 = .ref a21 → (∃ P30 : KO → CS → RH → Prop, (∀ o s24 f25, P30 o s24 f25 → KP o (fun r => ∃ v26 : Int32, r = some (.int v26) ∧ (EvC l E w d MX3_give [.ref (w.1 3), .int v26, .int 1] s24 f25 (fun o s27 f28 => KP o (fun r => r = none ∧ Q (.inl none) s27 f28) (fun k => Q (.inr k) s27 f28)))) (fun k => Q (.inr k) s24 f25)) ∧ ∃ k29 : Nat, oc f a21 k29 ∧ ((k29 = 29 ∧ EvC l E w d MX32_kind [.ref a21] s f P30) ∨ (k29 = 30 ∧ EvC l E w d MX33_kind [.ref a21] s f P30) ∨ (k29 = 31 ∧ EvC l E w d MX34_kind [.ref a21] s f P30) ∨ (k29 = 32 ∧ EvC l E w d MX35_kind [.ref a21] s f P30)))))) ∧ (¬ (x1 = 8) → ((x1 = 9 ∨ x1 = 10 ∨ x1 = 11 → (EvC l E w d MX7_folds [.ref (w.1 7), .int x1, v2, .int x2] s f (fun o s31 f32 => KP o (fun r => r = none ∧ Q (.inl none) s31 f32) (fun k => Q (.inr k) s31 f32)))) ∧ (¬ (x1 = 9 ∨ x1 = 10 ∨ x1 = 11) → ((x1 = 12 ∨ x1 = 13 → (EvC l E w d MX7_turns [.ref (w.1 7), .int x1, v2, .int x2] s f (fun o s33 f34 => KP o (fun r => r = none ∧ Q (.inl none) s33 f34) (fun k => Q (.inr k) s33 f34)))) ∧ (¬ (x1 = 12 ∨ x1 = 13) → ((x1 = 14 → (rmF E f 1 1 ∧ ∀ (a35 : Nat) (f36 : RH), a35 = f.1 → f36 = fnew f 29 → (EvC l E w d MX3_asRow [.ref (w.1 3), .int y1, .int x2] s f36 (fun o s37 f38 => KP o (fun r => ∃ a39 : Nat, r = some (.ref a39) ∧ (oc f38 a39 29 ∧ (∃ a40 : Nat, vl f38 a39 203 = .ref a40 ∧ (EvC l E w d MX7_grade [.ref a40] s37 f38 (fun o s41 f42 => KP o (fun r => ∃ a43 : Nat, r = some (.ref a43) ∧ (EvC l E w d MX32_init [.ref a35, .ref a43] s41 f42 (fun o s44 f45 => KP o (fun r => r = none ∧ (EvC l E w d MX3_give_2 [.ref (w.1 3), .ref a35, .int 1, .int x2] s44 f45 (fun o s46 f47 => KP o (fun r => r = none ∧ Q (.inl none) s46 f47) (fun k => Q (.inr k) s46 f47)))) (fun k => Q (.inr k) s44 f45)))) (fun k => Q (.inr k) s41 f42)))))) (fun k => Q (.inr k) s37 f38))))) ∧ (¬ (x1 = 14) → ((x1 = 15 → (EvC l E w d MX7_back [.ref (w.1 7), v2, .int x2] s f (fun o s48 f49 => KP o (fun r => ∃ a50 : Nat, r = some (.ref a50) ∧ (EvC l E w d MX3_give_2 [.ref (w.1 3), .ref a50, .int 1, .int x2] s48 f49 (fun o s51 f52 => KP o (fun r => r = none ∧ Q (.inl none) s51 f52) (fun k => Q (.inr k) s51 f52)))) (fun k => Q (.inr k) s48 f49)))) ∧ (¬ (x1 = 15) → ((x1 = 16 → (rmF E f 1 1 ∧ ∀ (a53 : Nat) (f54 : RH), a53 = f.1 → f54 = fnew f 29 → (EvC l E w d MX7_flat [.ref (w.1 7), v2, .int x2] s f54 (fun o s55 f56 => KP o (fun r => ∃ a57 : Nat, r = some (.ref a57) ∧ (EvC l E w d MX32_init [.ref a53, .ref a57] s55 f56 (fun o s58 f59 => KP o (fun r => r = none ∧ (EvC l E w d MX3_give_2 [.ref (w.1 3), .ref a53, .int 1, .int x2] s58 f59 (fun o s60 f61 => KP o (fun r => r = none ∧ Q (.inl none) s60 f61) (fun k => Q (.inr k) s60 f61)))) (fun k => Q (.inr k) s58 f59)))) (fun k => Q (.inr k) s55 f56))))) ∧ (¬ (x1 = 16) → ((x1 = 17 → (rmF E f 1 2 ∧ ∀ (a62 : Nat) (f63 : RH), a62 = f.1 → f63 = fnew f 30 → (EvC l E w d MX3_asTable [.ref (w.1 3), .int y1, .int x2] s f63 (fun o s64 f65 => KP o (fun r => ∃ a66 : Nat, r = some (.ref a66) ∧ (EvC l E w d MX7_turned [.ref (w.1 7), .ref a66, .int x2] s64 f65 (fun o s67 f68 => KP o (fun r => ∃ a69 : Nat, r = some (.ref a69) ∧ (EvC l E w d MX33_init [.ref a62, .ref a69] s67 f68 (fun o s70 f71 => KP o (fun r => r = none ∧ (EvC l E w d MX3_give_2 [.ref (w.1 3), .ref a62, .int 1, .int x2] s70 f71 (fun o s72 f73 => KP o (fun r => r = none ∧ Q (.inl none) s72 f73) (fun k => Q (.inr k) s72 f73)))) (fun k => Q (.inr k) s70 f71)))) (fun k => Q (.inr k) s67 f68)))) (fun k => Q (.inr k) s64 f65))))) ∧ (¬ (x1 = 17) → ((x1 = 18 → (rmF E f 1 2 ∧ ∀ (a74 : Nat) (f75 : RH), a74 = f.1 → f75 = fnew f 30 → (EvC l E w d MX3_asRow [.ref (w.1 3), .int y1, .int x2] s f75 (fun o s76 f77 => KP o (fun r => ∃ a78 : Nat, r = some (.ref a78) ∧ (oc f77 a78 29 ∧ (∃ a79 : Nat, vl f77 a78 203 = .ref a79 ∧ (EvC l E w d MX7_group [.ref (w.1 7), .ref a79, .int x2] s76 f77 (fun o s80 f81 => KP o (fun r => ∃ a82 : Nat, r = some (.ref a82) ∧ (EvC l E w d MX33_init [.ref a74, .ref a82] s80 f81 (fun o s83 f84 => KP o (fun r => r = none ∧ (EvC l E w d MX3_give_2 [.ref (w.1 3), .ref a74, .int 1, .int x2] s83 f84 (fun o s85 f86 => KP o (fun r => r = none ∧ Q (.inl none) s85 f86) (fun k => Q (.inr k) s85 f86)))) (fun k => Q (.inr k) s83 f84)))) (fun k => Q (.inr k) s80 f81)))))) (fun k => Q (.inr k) s76 f77))))) ∧ (¬ (x1 = 18) → ((EvC l E w d MX7_ofTwo [.ref (w.1 7), .int x1, .int x2] s f (fun o s87 f88 => KP o (fun r => r = none ∧ Q (.inl none) s87 f88) (fun k => Q (.inr k) s87 f88))))))))))))))))))))))))))) : EvC l E w (d + 1) MX7_work [.ref (w.1 7), .int x1, .int x2] s f Q :=
  EvC.of hst (by decide) (Nat.le_of_ble_eq_true rfl) (vX7_work_0  hT)
theorem vX7_widths_0 {l : Launch} {E : EN} {w : CO} {d : Nat} {s : CS} {f : RH} {Q : KO → CS → RH → Prop} {x1 : Nat}  (hT : (oc f x1 30 ∧ (∃ a1 : Nat, vl f x1 204 = .ref a1 ∧ (∃ t2 : Nat, tg f a1 = some (.inr t2) ∧ (¬ (nI (ln f a1)) < 0 ∧ (nI (ln f a1)).toNatClampNeg ≤ 60000000 ∧ rmF E f 1 (nI (ln f a1)).toNatClampNeg ∧ ∀ (a3 : Nat) (f4 : RH), a3 = f.1 → f4 = fnewA f 0 (nI (ln f a1)).toNatClampNeg → ExC l E w (d + 1) MX7_widths 10 [some (.ref x1), some (.ref a3), some (.int 0)] [] s f4 Q))))) : ExC l E w (d + 1) MX7_widths 0 [some (.ref x1), none, none] [] s f Q := by
  intro f0 h hW hF
  refine x_aload_n dX7_widths_0 rfl rfl rfl ?_
  obtain ⟨hc, hT⟩ := hT
  obtain ⟨a1, ev, hT⟩ := hT
  refine c_fgetG dX7_widths_1 f_TallySlate_Works_128 hc (by decide) (by decide) hW ev ?_
  obtain ⟨t2, hc, hT⟩ := hT
  refine c_alen dX7_widths_4 hc hW ?_
  obtain ⟨hn, hT⟩ := hT
  obtain ⟨hb, hr, hT⟩ := hT
  refine c_newarrayG (t := 0) dX7_widths_5 (by decide) rfl hn hb hr hW hF ?_
  intro a3 f4 ea3 ef4 h hW hF
  replace hT := hT a3 f4 ea3 ef4
  refine x_astore_n (lo' := [some (.ref x1), some (.ref a3), none]) dX7_widths_7 rfl (Nat.le_of_ble_eq_true rfl) rfl rfl ?_
  refine x_iconst (v := 0) dX7_widths_8 rfl ?_
  refine x_istore_n (lo' := [some (.ref x1), some (.ref a3), some (.int 0)]) dX7_widths_9 rfl (Nat.le_of_ble_eq_true rfl) rfl ?_
  exact hT f0 h hW hF
theorem eX7_widths {l : Launch} {E : EN} {w : CO} {d : Nat} {s : CS} {f : RH} {Q : KO → CS → RH → Prop} {x1 : Nat}  (hst : l.stackTraces = false) (hT : (oc f x1 30 ∧ (∃ a1 : Nat, vl f x1 204 = .ref a1 ∧ (∃ t2 : Nat, tg f a1 = some (.inr t2) ∧ (¬ (nI (ln f a1)) < 0 ∧ (nI (ln f a1)).toNatClampNeg ≤ 60000000 ∧ rmF E f 1 (nI (ln f a1)).toNatClampNeg ∧ ∀ (a3 : Nat) (f4 : RH), a3 = f.1 → f4 = fnewA f 0 (nI (ln f a1)).toNatClampNeg → ExC l E w (d + 1) MX7_widths 10 [some (.ref x1), some (.ref a3), some (.int 0)] [] s f4 Q))))) : EvC l E w (d + 1) MX7_widths [.ref x1] s f Q :=
  EvC.of hst (by decide) (Nat.le_of_ble_eq_true rfl) (vX7_widths_0  hT)
theorem vX7_widths_10 {l : Launch} {E : EN} {w : CO} {d : Nat} {s : CS} {f : RH} {Q : KO → CS → RH → Prop} {b0 : Nat} {b1 : Nat} {b2 : Int32}  (hT : (∃ t5 : Nat, tg f b1 = some (.inr t5) ∧ (((nI (ln f b1)) ≤ b2 → (rmF E f 1 1 ∧ ∀ (a6 : Nat) (f7 : RH), a6 = f.1 → f7 = fnew f 29 → (EvC l E w d MX32_init [.ref a6, .ref b1] s f7 (fun o s8 f9 => KP o (fun r => r = none ∧ Q (.inl (some (.ref a6))) s8 f9) (fun k => Q (.inr k) s8 f9))))) ∧ (¬ (nI (ln f b1)) ≤ b2 → (oc f b0 30 ∧ (∃ a10 : Nat, vl f b0 204 = .ref a10 ∧ (∃ t11 : Nat, 4 ≤ t11 ∧ (tg f a10 = some (.inr t11) ∧ inB b2 (ln f a10) ∧ (∃ a12 : Nat, vl f a10 b2.toNatClampNeg = .ref a12 ∧ (∃ t13 : Nat, tg f a12 = some (.inr t13) ∧ (tg f b1 = some (.inr 0) ∧ inB b2 (ln f b1) ∧ f.2.2.2 ≤ b1 ∧ ∀ f14 : RH, f14 = fset f b1 b2.toNatClampNeg (.int (nI (ln f a12))) → ExC l E w (d + 1) MX7_widths 10 [some (.ref b0), some (.ref b1), some (.int (b2 + 1))] [] s f14 Q))))))))))) : ExC l E w (d + 1) MX7_widths 10 [some (.ref b0), some (.ref b1), some (.int b2)] [] s f Q := by
  intro f0 h hW hF
  refine x_iload_n dX7_widths_10 rfl rfl ?_
  refine x_aload_n dX7_widths_11 rfl rfl rfl ?_
  obtain ⟨t5, hc, hT⟩ := hT
  refine c_alen dX7_widths_12 hc hW ?_
  refine x_icmp_ge (tgt := 32) dX7_widths_13 rfl (fun c => ?_) (fun c => ?_)
  · replace hT := hT.1 c
    obtain ⟨hr, hT⟩ := hT
    refine c_newG (k := 29) dX7_widths_32 (by decide) q1755 q205 hr hW hF ?_
    intro a6 f7 ea6 ef7 h hW hF
    replace hT := hT a6 f7 ea6 ef7
    refine x_dup dX7_widths_35 rfl ?_
    refine x_aload_n dX7_widths_36 rfl rfl rfl ?_
    refine c_invI (b := a6) (vs := [.ref b1]) dX7_widths_37 oX32_init rfl rfl rfl q1396 (Or.inl q1756) rfl rfl (Nat.le_of_ble_eq_true rfl) rfl hW hF hT ?_ ?_
    · intro _ s8 f9 hT h hW hF
      obtain ⟨rfl, hT⟩ := hT
      exact x_aret dX7_widths_40 rfl (by first | exact Or.inl ⟨_, rfl⟩ | exact Or.inr ⟨_, rfl⟩) rfl ⟨_, _, hW, hF, Or.inl ⟨_, rfl, hT⟩⟩
    · intro k s8 f9 hT h a hW hx hF
      exact c_out (rfl) hW hx hF hT
  · replace hT := hT.2 c
    refine x_aload_n dX7_widths_16 rfl rfl rfl ?_
    refine x_iload_n dX7_widths_17 rfl rfl ?_
    refine x_aload_n dX7_widths_18 rfl rfl rfl ?_
    obtain ⟨hc, hT⟩ := hT
    obtain ⟨a10, ev, hT⟩ := hT
    refine c_fgetG dX7_widths_19 f_TallySlate_Works_128 hc (by decide) (by decide) hW ev ?_
    refine x_iload_n dX7_widths_22 rfl rfl ?_
    obtain ⟨t11, ht2, hc, hT⟩ := hT
    obtain ⟨hb, hT⟩ := hT
    obtain ⟨a12, ev, hT⟩ := hT
    refine c_faald dX7_widths_23 hc ht2 hb hW ev ?_
    obtain ⟨t13, hc, hT⟩ := hT
    refine c_alen dX7_widths_24 hc hW ?_
    obtain ⟨hc, hT⟩ := hT
    obtain ⟨hb, hz, hT⟩ := hT
    refine c_fiastG dX7_widths_25 hc hb hz hW hF ?_
    intro f14 ef14 h hW hF
    replace hT := hT f14 ef14
    refine x_iinc (lo' := [some (.ref b0), some (.ref b1), some (.int (b2 + 1))]) dX7_widths_26 rfl (show _ = (b2 + 1) from rfl) rfl ?_
    refine x_goto (tgt := 10) dX7_widths_29 rfl ?_
    exact hT f0 h hW hF
set_option maxHeartbeats 16000000 in
theorem vX7_folds_0 {l : Launch} {E : EN} {w : CO} {d : Nat} {s : CS} {f : RH} {Q : KO → CS → RH → Prop} {x1 : Int32} {x2 : Value} {x3 : Int32} (ix2 : isR x2 = true) (hT : (isT f x2 ∧ ((∀ a2 : Nat, x2 = .ref a2 → tg f a2 = some (.inl 29) → (tg f a2 = some (.inl 29) ∧ (oc f a2 29 ∧ (∃ a3 : Nat, vl f a2 203 = .ref a3 ∧ (EvC l E w d MX7_folded [.ref (w.1 7), .int x1, .ref a3, .int x3] s f (fun o s4 f5 => KP o (fun r => ∃ v6 : Int32, r = some (.int v6) ∧ (EvC l E w d MX3_give [.ref (w.1 3), .int v6, .int 1] s4 f5 (fun o s7 f8 => KP o (fun r => r = none ∧ Q (.inl none) s7 f8) (fun k => Q (.inr k) s7 f8)))) (fun k => Q (.inr k) s4 f5))))))) ∧ ((∀ z : Nat, x2 = .ref z → ¬ tg f z = some (.inl 29)) → (isT f x2 ∧ ((∀ a10 : Nat, x2 = .ref a10 → tg f a10 = some (.inl 30) → (tg f a10 = some (.inl 30) ∧ (oc f a10 30 ∧ (∃ a11 : Nat, vl f a10 204 = .ref a11 ∧ (∃ t12 : Nat, tg f a11 = some (.inr t12) ∧ (¬ (nI (ln f a11)) < 0 ∧ (nI (ln f a11)).toNatClampNeg ≤ 60000000 ∧ rmF E f 1 (nI (ln f a11)).toNatClampNeg ∧ ∀ (a13 : Nat) (f14 : RH), a13 = f.1 → f14 = fnewA f 0 (nI (ln f a11)).toNatClampNeg → ExC l E w (d + 1) MX7_folds 61 [some (.ref (w.1 7)), some (.int x1), none, some (.int x3), none, some (.ref a10), some (.ref a13), some (.int 0)] [] s f14 Q)))))) ∧ ((∀ z : Nat, x2 = .ref z → ¬ tg f z = some (.inl 30)) → ((x2 = .null → ((x1 = 9 → Q (.inl none) s f) ∧ (¬ x1 = 9 → (EvC l E w d MX3_wrong [.ref (w.1 3), .int 3, .int x3] s f (fun o s16 f17 => KP o (fun r => r = some (.ref (w.1 9)) ∧ Q (.inr 9) s16 f17) (fun k => Q (.inr k) s16 f17)))))) ∧ (∀ a15 : Nat, x2 = .ref a15 → (EvC l E w d MX3_wrong [.ref (w.1 3), .int 3, .int x3] s f (fun o s18 f19 => KP o (fun r => r = some (.ref (w.1 9)) ∧ Q (.inr 9) s18 f19) (fun k => Q (.inr k) s18 f19)))))))))))) : ExC l E w (d + 1) MX7_folds 0 [some (.ref (w.1 7)), some (.int x1), some (x2), some (.int x3), none, none, none, none] [] s f Q := by
  intro f0 h hW hF
  refine x_aload_n dX7_folds_0 rfl rfl ix2 ?_
  obtain ⟨ht, hT⟩ := hT
  refine c_instV (K := 29) dX7_folds_1 (by decide) q1755 ht hW (fun a2 ec hi1 => ?_) (fun hi1 => ?_)
  · subst ec
    replace hT := hT.1 a2 rfl hi1
    refine x_if_eq (tgt := 35) dX7_folds_4 rfl (fun c => absurd c (by decide)) (fun _ => ?_)
    refine x_aload_n dX7_folds_7 rfl rfl rfl ?_
    obtain ⟨hc, hT⟩ := hT
    refine c_cast (K := 29) dX7_folds_8 q1755 hc hW ?_
    refine x_astore (lo' := [some (.ref (w.1 7)), some (.int x1), some (.ref a2), some (.int x3), some (.ref a2), none, none, none]) dX7_folds_11 (Nat.le_of_ble_eq_true rfl) rfl rfl ?_
    refine x_aload_n dX7_folds_13 rfl rfl rfl ?_
    refine c_getO dX7_folds_14 f_TallySlate_Works_9 (by decide) (by decide) rfl hW ?_
    refine x_aload_n dX7_folds_17 rfl rfl rfl ?_
    refine x_iload_n dX7_folds_18 rfl rfl ?_
    refine x_aload dX7_folds_19 rfl rfl ?_
    obtain ⟨hc, hT⟩ := hT
    obtain ⟨a3, ev, hT⟩ := hT
    refine c_fgetG dX7_folds_21 f_TallySlate_Works_66 hc (by decide) (by decide) hW ev ?_
    refine x_iload_n dX7_folds_24 rfl rfl ?_
    obtain ⟨-, -, cc, hcc, -⟩ := hW.ob 7 (by decide)
    refine c_invV (vs := [.int x1, .ref a3, .int x3]) dX7_folds_25 oX7_folded q1779 q1777 hcc qs40 (Or.inl rfl) rfl rfl (Nat.le_of_ble_eq_true rfl) rfl hW hF hT ?_ ?_
    · intro _ s4 f5 hT h hW hF
      obtain ⟨v6, rfl, hT⟩ := hT
      refine x_iconst (v := 1) dX7_folds_28 rfl ?_
      obtain ⟨-, -, cc, hcc, -⟩ := hW.ob 3 (by decide)
      refine c_invV (vs := [.int v6, .int 1]) dX7_folds_29 oX3_give q1384 q1747 hcc q1385 (Or.inl rfl) rfl rfl (Nat.le_of_ble_eq_true rfl) rfl hW hF hT ?_ ?_
      · intro _ s7 f8 hT h hW hF
        obtain ⟨rfl, hT⟩ := hT
        refine x_goto (tgt := 135) dX7_folds_32 rfl ?_
        exact x_vret dX7_folds_135 rfl ⟨_, _, hW, hF, Or.inl ⟨_, rfl, hT⟩⟩
      · intro k s7 f8 hT h a hW hx hF
        exact c_out (rfl) hW hx hF hT
    · intro k s4 f5 hT h a hW hx hF
      exact c_out (rfl) hW hx hF hT
  · replace hT := hT.2 hi1
    refine x_if_eq (tgt := 35) dX7_folds_4 rfl (fun _ => ?_) (fun c => absurd c (by decide))
    refine x_aload_n dX7_folds_35 rfl rfl ix2 ?_
    obtain ⟨ht, hT⟩ := hT
    refine c_instV (K := 30) dX7_folds_36 (by decide) q1784 ht hW (fun a10 ec hi9 => ?_) (fun hi9 => ?_)
    · subst ec
      replace hT := hT.1 a10 rfl hi9
      refine x_if_eq (tgt := 115) dX7_folds_39 rfl (fun c => absurd c (by decide)) (fun _ => ?_)
      refine x_aload_n dX7_folds_42 rfl rfl rfl ?_
      obtain ⟨hc, hT⟩ := hT
      refine c_cast (K := 30) dX7_folds_43 q1784 hc hW ?_
      refine x_astore (lo' := [some (.ref (w.1 7)), some (.int x1), some (.ref a10), some (.int x3), none, some (.ref a10), none, none]) dX7_folds_46 (Nat.le_of_ble_eq_true rfl) rfl rfl ?_
      refine x_aload dX7_folds_48 rfl rfl ?_
      obtain ⟨hc, hT⟩ := hT
      obtain ⟨a11, ev, hT⟩ := hT
      refine c_fgetG dX7_folds_50 f_TallySlate_Works_128 hc (by decide) (by decide) hW ev ?_
      obtain ⟨t12, hc, hT⟩ := hT
      refine c_alen dX7_folds_53 hc hW ?_
      obtain ⟨hn, hT⟩ := hT
      obtain ⟨hb, hr, hT⟩ := hT
      refine c_newarrayG (t := 0) dX7_folds_54 (by decide) rfl hn hb hr hW hF ?_
      intro a13 f14 ea13 ef14 h hW hF
      replace hT := hT a13 f14 ea13 ef14
      refine x_astore (lo' := [some (.ref (w.1 7)), some (.int x1), some (.ref a10), some (.int x3), none, some (.ref a10), some (.ref a13), none]) dX7_folds_56 (Nat.le_of_ble_eq_true rfl) rfl rfl ?_
      refine x_iconst (v := 0) dX7_folds_58 rfl ?_
      refine x_istore (lo' := [some (.ref (w.1 7)), some (.int x1), some (.ref a10), some (.int x3), none, some (.ref a10), some (.ref a13), some (.int 0)]) dX7_folds_59 (Nat.le_of_ble_eq_true rfl) rfl ?_
      refine Ex.wkl (lo' := [some (.ref (w.1 7)), some (.int x1), none, some (.int x3), none, some (.ref a10), some (.ref a13), some (.int 0)]) ⟨rfl, rfl, rfl, rfl, rfl, rfl, trivial⟩ ?_
      exact hT f0 h hW hF
    · replace hT := hT.2 hi9
      refine x_if_eq (tgt := 115) dX7_folds_39 rfl (fun _ => ?_) (fun c => absurd c (by decide))
      refine x_aload_n dX7_folds_115 rfl rfl ix2 ?_
      refine x_ifnonnull (tgt := 125) dX7_folds_116 rfl ix2 (fun a15 e => ?_) (fun e => ?_)
      · subst e
        replace hT := hT.2 a15 rfl
        refine x_aload_n dX7_folds_125 rfl rfl rfl ?_
        refine c_getO dX7_folds_126 f_TallySlate_Works_9 (by decide) (by decide) rfl hW ?_
        refine x_iconst (v := 3) dX7_folds_129 rfl ?_
        refine x_iload_n dX7_folds_130 rfl rfl ?_
        obtain ⟨-, -, cc, hcc, -⟩ := hW.ob 3 (by decide)
        refine c_invV (vs := [.int 3, .int x3]) dX7_folds_131 oX3_wrong q1323 q1745 hcc q1324 (Or.inl rfl) rfl rfl (Nat.le_of_ble_eq_true rfl) rfl hW hF hT ?_ ?_
        · intro _ s18 f19 hT h hW hF
          obtain ⟨rfl, hT⟩ := hT
          refine x_athrow dX7_folds_134 ?_
          exact c_out (rfl) hW (Or.inl ⟨rfl, rfl⟩) hF hT
        · intro k s18 f19 hT h a hW hx hF
          exact c_out (rfl) hW hx hF hT
      · subst e
        replace hT := hT.1 rfl
        refine x_iload_n dX7_folds_119 rfl rfl ?_
        refine x_bipush (v := 9) dX7_folds_120 rfl ?_
        refine x_icmp_eq (tgt := 135) dX7_folds_122 rfl (fun c => ?_) (fun c => ?_)
        · replace hT := hT.1 c
          exact x_vret dX7_folds_135 rfl ⟨_, _, hW, hF, Or.inl ⟨_, rfl, hT⟩⟩
        · replace hT := hT.2 c
          refine x_aload_n dX7_folds_125 rfl rfl rfl ?_
          refine c_getO dX7_folds_126 f_TallySlate_Works_9 (by decide) (by decide) rfl hW ?_
          refine x_iconst (v := 3) dX7_folds_129 rfl ?_
          refine x_iload_n dX7_folds_130 rfl rfl ?_
          obtain ⟨-, -, cc, hcc, -⟩ := hW.ob 3 (by decide)
          refine c_invV (vs := [.int 3, .int x3]) dX7_folds_131 oX3_wrong q1323 q1745 hcc q1324 (Or.inl rfl) rfl rfl (Nat.le_of_ble_eq_true rfl) rfl hW hF hT ?_ ?_
          · intro _ s16 f17 hT h hW hF
            obtain ⟨rfl, hT⟩ := hT
            refine x_athrow dX7_folds_134 ?_
            exact c_out (rfl) hW (Or.inl ⟨rfl, rfl⟩) hF hT
          · intro k s16 f17 hT h a hW hx hF
            exact c_out (rfl) hW hx hF hT
theorem eX7_folds {l : Launch} {E : EN} {w : CO} {d : Nat} {s : CS} {f : RH} {Q : KO → CS → RH → Prop} {x1 : Int32} {x2 : Value} {x3 : Int32} (ix2 : isR x2 = true) (hst : l.stackTraces = false) (hT : (isT f x2 ∧ ((∀ a2 : Nat, x2 = .ref a2 → tg f a2 = some (.inl 29) → (tg f a2 = some (.inl 29) ∧ (oc f a2 29 ∧ (∃ a3 : Nat, vl f a2 203 = .ref a3 ∧ (EvC l E w d MX7_folded [.ref (w.1 7), .int x1, .ref a3, .int x3] s f (fun o s4 f5 => KP o (fun r => ∃ v6 : Int32, r = some (.int v6) ∧ (EvC l E w d MX3_give [.ref (w.1 3), .int v6, .int 1] s4 f5 (fun o s7 f8 => KP o (fun r => r = none ∧ Q (.inl none) s7 f8) (fun k => Q (.inr k) s7 f8)))) (fun k => Q (.inr k) s4 f5))))))) ∧ ((∀ z : Nat, x2 = .ref z → ¬ tg f z = some (.inl 29)) → (isT f x2 ∧ ((∀ a10 : Nat, x2 = .ref a10 → tg f a10 = some (.inl 30) → (tg f a10 = some (.inl 30) ∧ (oc f a10 30 ∧ (∃ a11 : Nat, vl f a10 204 = .ref a11 ∧ (∃ t12 : Nat, tg f a11 = some (.inr t12) ∧ (¬ (nI (ln f a11)) < 0 ∧ (nI (ln f a11)).toNatClampNeg ≤ 60000000 ∧ rmF E f 1 (nI (ln f a11)).toNatClampNeg ∧ ∀ (a13 : Nat) (f14 : RH), a13 = f.1 → f14 = fnewA f 0 (nI (ln f a11)).toNatClampNeg → ExC l E w (d + 1) MX7_folds 61 [some (.ref (w.1 7)), some (.int x1), none, some (.int x3), none, some (.ref a10), some (.ref a13), some (.int 0)] [] s f14 Q)))))) ∧ ((∀ z : Nat, x2 = .ref z → ¬ tg f z = some (.inl 30)) → ((x2 = .null → ((x1 = 9 → Q (.inl none) s f) ∧ (¬ x1 = 9 → (EvC l E w d MX3_wrong [.ref (w.1 3), .int 3, .int x3] s f (fun o s16 f17 => KP o (fun r => r = some (.ref (w.1 9)) ∧ Q (.inr 9) s16 f17) (fun k => Q (.inr k) s16 f17)))))) ∧ (∀ a15 : Nat, x2 = .ref a15 → (EvC l E w d MX3_wrong [.ref (w.1 3), .int 3, .int x3] s f (fun o s18 f19 => KP o (fun r => r = some (.ref (w.1 9)) ∧ Q (.inr 9) s18 f19) (fun k => Q (.inr k) s18 f19)))))))))))) : EvC l E w (d + 1) MX7_folds [.ref (w.1 7), .int x1, x2, .int x3] s f Q :=by
  rcases isR_cases ix2 with rfl | ⟨_, rfl⟩ <;> exact
  
  EvC.of hst (by decide) (Nat.le_of_ble_eq_true rfl) (vX7_folds_0 ix2 hT)
theorem vX7_folds_61 {l : Launch} {E : EN} {w : CO} {d : Nat} {s : CS} {f : RH} {Q : KO → CS → RH → Prop} {b1 : Int32} {b3 : Int32} {b5 : Nat} {b6 : Nat} {b7 : Int32}  (hT : (∃ t20 : Nat, tg f b6 = some (.inr t20) ∧ (((nI (ln f b6)) ≤ b7 → (rmF E f 1 1 ∧ ∀ (a21 : Nat) (f22 : RH), a21 = f.1 → f22 = fnew f 29 → (EvC l E w d MX32_init [.ref a21, .ref b6] s f22 (fun o s23 f24 => KP o (fun r => r = none ∧ (EvC l E w d MX3_give_2 [.ref (w.1 3), .ref a21, .int 1, .int b3] s23 f24 (fun o s25 f26 => KP o (fun r => r = none ∧ Q (.inl none) s25 f26) (fun k => Q (.inr k) s25 f26)))) (fun k => Q (.inr k) s23 f24))))) ∧ (¬ (nI (ln f b6)) ≤ b7 → (oc f b5 30 ∧ (∃ a27 : Nat, vl f b5 204 = .ref a27 ∧ (∃ t28 : Nat, 4 ≤ t28 ∧ (tg f a27 = some (.inr t28) ∧ inB b7 (ln f a27) ∧ (∃ a29 : Nat, vl f a27 b7.toNatClampNeg = .ref a29 ∧ (EvC l E w d MX7_folded [.ref (w.1 7), .int b1, .ref a29, .int b3] s f (fun o s30 f31 => KP o (fun r => ∃ v32 : Int32, r = some (.int v32) ∧ (tg f31 b6 = some (.inr 0) ∧ inB b7 (ln f31 b6) ∧ f31.2.2.2 ≤ b6 ∧ ∀ f33 : RH, f33 = fset f31 b6 b7.toNatClampNeg (.int v32) → ExC l E w (d + 1) MX7_folds 61 [some (.ref (w.1 7)), some (.int b1), none, some (.int b3), none, some (.ref b5), some (.ref b6), some (.int (b7 + 1))] [] s30 f33 Q)) (fun k => Q (.inr k) s30 f31)))))))))))) : ExC l E w (d + 1) MX7_folds 61 [some (.ref (w.1 7)), some (.int b1), none, some (.int b3), none, some (.ref b5), some (.ref b6), some (.int b7)] [] s f Q := by
  intro f0 h hW hF
  refine x_iload dX7_folds_61 rfl ?_
  refine x_aload dX7_folds_63 rfl rfl ?_
  obtain ⟨t20, hc, hT⟩ := hT
  refine c_alen dX7_folds_65 hc hW ?_
  refine x_icmp_ge (tgt := 94) dX7_folds_66 rfl (fun c => ?_) (fun c => ?_)
  · replace hT := hT.1 c
    refine x_aload_n dX7_folds_94 rfl rfl rfl ?_
    refine c_getO dX7_folds_95 f_TallySlate_Works_9 (by decide) (by decide) rfl hW ?_
    obtain ⟨hr, hT⟩ := hT
    refine c_newG (k := 29) dX7_folds_98 (by decide) q1755 q205 hr hW hF ?_
    intro a21 f22 ea21 ef22 h hW hF
    replace hT := hT a21 f22 ea21 ef22
    refine x_dup dX7_folds_101 rfl ?_
    refine x_aload dX7_folds_102 rfl rfl ?_
    refine c_invI (b := a21) (vs := [.ref b6]) dX7_folds_104 oX32_init rfl rfl rfl q1396 (Or.inl q1756) rfl rfl (Nat.le_of_ble_eq_true rfl) rfl hW hF hT ?_ ?_
    · intro _ s23 f24 hT h hW hF
      obtain ⟨rfl, hT⟩ := hT
      refine x_iconst (v := 1) dX7_folds_107 rfl ?_
      refine x_iload_n dX7_folds_108 rfl rfl ?_
      obtain ⟨-, -, cc, hcc, -⟩ := hW.ob 3 (by decide)
      refine c_invV (vs := [.ref a21, .int 1, .int b3]) dX7_folds_109 oX3_give_2 q1412 q1757 hcc q1413 (Or.inl rfl) rfl rfl (Nat.le_of_ble_eq_true rfl) rfl hW hF hT ?_ ?_
      · intro _ s25 f26 hT h hW hF
        obtain ⟨rfl, hT⟩ := hT
        refine x_goto (tgt := 135) dX7_folds_112 rfl ?_
        exact x_vret dX7_folds_135 rfl ⟨_, _, hW, hF, Or.inl ⟨_, rfl, hT⟩⟩
      · intro k s25 f26 hT h a hW hx hF
        exact c_out (rfl) hW hx hF hT
    · intro k s23 f24 hT h a hW hx hF
      exact c_out (rfl) hW hx hF hT
  · replace hT := hT.2 c
    refine x_aload dX7_folds_69 rfl rfl ?_
    refine x_iload dX7_folds_71 rfl ?_
    refine x_aload_n dX7_folds_73 rfl rfl rfl ?_
    refine x_iload_n dX7_folds_74 rfl rfl ?_
    refine x_aload dX7_folds_75 rfl rfl ?_
    obtain ⟨hc, hT⟩ := hT
    obtain ⟨a27, ev, hT⟩ := hT
    refine c_fgetG dX7_folds_77 f_TallySlate_Works_128 hc (by decide) (by decide) hW ev ?_
    refine x_iload dX7_folds_80 rfl ?_
    obtain ⟨t28, ht2, hc, hT⟩ := hT
    obtain ⟨hb, hT⟩ := hT
    obtain ⟨a29, ev, hT⟩ := hT
    refine c_faald dX7_folds_82 hc ht2 hb hW ev ?_
    refine x_iload_n dX7_folds_83 rfl rfl ?_
    obtain ⟨-, -, cc, hcc, -⟩ := hW.ob 7 (by decide)
    refine c_invV (vs := [.int b1, .ref a29, .int b3]) dX7_folds_84 oX7_folded q1779 q1777 hcc qs40 (Or.inl rfl) rfl rfl (Nat.le_of_ble_eq_true rfl) rfl hW hF hT ?_ ?_
    · intro _ s30 f31 hT h hW hF
      obtain ⟨v32, rfl, hT⟩ := hT
      obtain ⟨hc, hT⟩ := hT
      obtain ⟨hb, hz, hT⟩ := hT
      refine c_fiastG dX7_folds_87 hc hb hz hW hF ?_
      intro f33 ef33 h hW hF
      replace hT := hT f33 ef33
      refine x_iinc (lo' := [some (.ref (w.1 7)), some (.int b1), none, some (.int b3), none, some (.ref b5), some (.ref b6), some (.int (b7 + 1))]) dX7_folds_88 rfl (show _ = (b7 + 1) from rfl) rfl ?_
      refine x_goto (tgt := 61) dX7_folds_91 rfl ?_
      exact hT f0 h hW hF
    · intro k s30 f31 hT h a hW hx hF
      exact c_out (rfl) hW hx hF hT
theorem vX7_folded_0 {l : Launch} {E : EN} {w : CO} {d : Nat} {s : CS} {f : RH} {Q : KO → CS → RH → Prop} {x1 : Int32} {x2 : Nat} {x3 : Int32}  (hT : ((¬ x1 = 9 → (tg f x2 = some (.inr 0) ∧ ((inB 0 (ln f x2) → (∃ v1 : Int32, vl f x2 (0 : Int32).toNatClampNeg = .int v1 ∧ ExC l E w (d + 1) MX7_folded 60 [none, some (.int x1), some (.ref x2), none, some (.int v1), some (.int 1)] [] s f Q)) ∧ (¬ inB 0 (ln f x2) → (ln f x2 < 2 ^ 31 ∧ rmF E f 3 222 ∧ (∀ (a3 : Nat) (f2 : RH), f2 = fexc f → (EvC l E w d MX3_wrong [.ref (w.1 3), .int 5, .int x3] s f2 (fun o s4 f5 => KP o (fun r => r = some (.ref (w.1 9)) ∧ Q (.inr 9) s4 f5) (fun k => Q (.inr k) s4 f5))))))))) ∧ (x1 = 9 → ExC l E w (d + 1) MX7_folded 12 [none, none, some (.ref x2), none, some (.int 0), some (.int 0)] [] s f Q))) : ExC l E w (d + 1) MX7_folded 0 [some (.ref (w.1 7)), some (.int x1), some (.ref x2), some (.int x3), none, none] [] s f Q := by
  intro f0 h hW hF
  refine x_iload_n dX7_folded_0 rfl rfl ?_
  refine x_bipush (v := 9) dX7_folded_1 rfl ?_
  refine x_icmp_ne (tgt := 37) dX7_folded_3 rfl (fun c => ?_) (fun c => ?_)
  · replace hT := hT.1 c
    refine x_aload_n dX7_folded_37 rfl rfl rfl ?_
    refine x_iconst (v := 0) dX7_folded_38 rfl ?_
    obtain ⟨hc, hT⟩ := hT
    by_cases hb : inB 0 (ln f x2)
    · replace hT := hT.1 hb
      obtain ⟨v1, ev, hT⟩ := hT
      refine c_fiald dX7_folded_39 hc hb hW ev ?_
      refine x_istore (lo' := [some (.ref (w.1 7)), some (.int x1), some (.ref x2), some (.int x3), some (.int v1), none]) dX7_folded_40 (Nat.le_of_ble_eq_true rfl) rfl ?_
      refine x_goto (tgt := 57) dX7_folded_42 rfl ?_
      refine x_iconst (v := 1) dX7_folded_57 rfl ?_
      refine x_istore (lo' := [some (.ref (w.1 7)), some (.int x1), some (.ref x2), some (.int x3), some (.int v1), some (.int 1)]) dX7_folded_58 (Nat.le_of_ble_eq_true rfl) rfl ?_
      refine Ex.wkl (lo' := [none, some (.int x1), some (.ref x2), none, some (.int v1), some (.int 1)]) ⟨rfl, rfl, rfl, rfl, trivial⟩ ?_
      exact hT f0 h hW hF
    · obtain ⟨hn, hr, hT⟩ := hT.2 hb
      refine c_fialdX dX7_folded_39 hc hn hb hr (Nat.le_of_ble_eq_true rfl) rfl hW hF ?_
      intro f2 ef2 h a3 hW hx hF
      replace hT := hT a3 f2 ef2
      refine c_catch (hsr_yes (by decide) (by decide) q1781 (Or.inl rfl)) hW hx ?_
      refine x_astore (lo' := [some (.ref (w.1 7)), some (.int x1), some (.ref x2), some (.int x3), none, some (.ref a3)]) dX7_folded_45 (Nat.le_of_ble_eq_true rfl) rfl rfl ?_
      refine x_aload_n dX7_folded_47 rfl rfl rfl ?_
      refine c_getO dX7_folded_48 f_TallySlate_Works_9 (by decide) (by decide) rfl hW ?_
      refine x_iconst (v := 5) dX7_folded_51 rfl ?_
      refine x_iload_n dX7_folded_52 rfl rfl ?_
      obtain ⟨-, -, cc, hcc, -⟩ := hW.ob 3 (by decide)
      refine c_invV (vs := [.int 5, .int x3]) dX7_folded_53 oX3_wrong q1323 q1745 hcc q1324 (Or.inl rfl) rfl rfl (Nat.le_of_ble_eq_true rfl) rfl hW hF hT ?_ ?_
      · intro _ s4 f5 hT h hW hF
        obtain ⟨rfl, hT⟩ := hT
        refine x_athrow dX7_folded_56 ?_
        exact c_out (hsr_skip (by decide) (rfl)) hW (Or.inl ⟨rfl, rfl⟩) hF hT
      · intro k s4 f5 hT h a hW hx hF
        exact c_out (hsr_skip (by decide) (rfl)) hW hx hF hT
  · replace hT := hT.2 c
    refine x_iconst (v := 0) dX7_folded_6 rfl ?_
    refine x_istore (lo' := [some (.ref (w.1 7)), some (.int x1), some (.ref x2), some (.int x3), some (.int 0), none]) dX7_folded_7 (Nat.le_of_ble_eq_true rfl) rfl ?_
    refine x_iconst (v := 0) dX7_folded_9 rfl ?_
    refine x_istore (lo' := [some (.ref (w.1 7)), some (.int x1), some (.ref x2), some (.int x3), some (.int 0), some (.int 0)]) dX7_folded_10 (Nat.le_of_ble_eq_true rfl) rfl ?_
    refine Ex.wkl (lo' := [none, none, some (.ref x2), none, some (.int 0), some (.int 0)]) ⟨rfl, rfl, rfl, trivial⟩ ?_
    exact hT f0 h hW hF
theorem eX7_folded {l : Launch} {E : EN} {w : CO} {d : Nat} {s : CS} {f : RH} {Q : KO → CS → RH → Prop} {x1 : Int32} {x2 : Nat} {x3 : Int32}  (hst : l.stackTraces = false) (hT : ((¬ x1 = 9 → (tg f x2 = some (.inr 0) ∧ ((inB 0 (ln f x2) → (∃ v1 : Int32, vl f x2 (0 : Int32).toNatClampNeg = .int v1 ∧ ExC l E w (d + 1) MX7_folded 60 [none, some (.int x1), some (.ref x2), none, some (.int v1), some (.int 1)] [] s f Q)) ∧ (¬ inB 0 (ln f x2) → (ln f x2 < 2 ^ 31 ∧ rmF E f 3 222 ∧ (∀ (a3 : Nat) (f2 : RH), f2 = fexc f → (EvC l E w d MX3_wrong [.ref (w.1 3), .int 5, .int x3] s f2 (fun o s4 f5 => KP o (fun r => r = some (.ref (w.1 9)) ∧ Q (.inr 9) s4 f5) (fun k => Q (.inr k) s4 f5))))))))) ∧ (x1 = 9 → ExC l E w (d + 1) MX7_folded 12 [none, none, some (.ref x2), none, some (.int 0), some (.int 0)] [] s f Q))) : EvC l E w (d + 1) MX7_folded [.ref (w.1 7), .int x1, .ref x2, .int x3] s f Q :=
  EvC.of hst (by decide) (Nat.le_of_ble_eq_true rfl) (vX7_folded_0  hT)
theorem vX7_folded_60 {l : Launch} {E : EN} {w : CO} {d : Nat} {s : CS} {f : RH} {Q : KO → CS → RH → Prop} {b1 : Int32} {b2 : Nat} {b4 : Int32} {b5 : Int32}  (hT : (∃ t6 : Nat, tg f b2 = some (.inr t6) ∧ (((nI (ln f b2)) ≤ b5 → Q (.inl (some (.int b4))) s f) ∧ (¬ (nI (ln f b2)) ≤ b5 → ((¬ b1 = 10 → (tg f b2 = some (.inr 0) ∧ ((inB b5 (ln f b2) → (∃ v7 : Int32, vl f b2 b5.toNatClampNeg = .int v7 ∧ (∀ y8 : Int32, y8 = (if v7 < b4 then v7 else b4) → ExC l E w (d + 1) MX7_folded 60 [none, some (.int b1), some (.ref b2), none, some (.int y8), some (.int (b5 + 1))] [] s f Q))) ∧ (¬ inB b5 (ln f b2) → (ln f b2 < 2 ^ 31 ∧ rmF E f 3 222 ∧ (∀ (a10 : Nat) (f9 : RH), f9 = fexc f → Q (.inr 35) s f9)))))) ∧ (b1 = 10 → (tg f b2 = some (.inr 0) ∧ ((inB b5 (ln f b2) → (∃ v11 : Int32, vl f b2 b5.toNatClampNeg = .int v11 ∧ (∀ y12 : Int32, y12 = (if b4 < v11 then v11 else b4) → ExC l E w (d + 1) MX7_folded 60 [none, some (.int b1), some (.ref b2), none, some (.int y12), some (.int (b5 + 1))] [] s f Q))) ∧ (¬ inB b5 (ln f b2) → (ln f b2 < 2 ^ 31 ∧ rmF E f 3 222 ∧ (∀ (a14 : Nat) (f13 : RH), f13 = fexc f → Q (.inr 35) s f13))))))))))) : ExC l E w (d + 1) MX7_folded 60 [none, some (.int b1), some (.ref b2), none, some (.int b4), some (.int b5)] [] s f Q := by
  intro f0 h hW hF
  refine x_iload dX7_folded_60 rfl ?_
  refine x_aload_n dX7_folded_62 rfl rfl rfl ?_
  obtain ⟨t6, hc, hT⟩ := hT
  refine c_alen dX7_folded_63 hc hW ?_
  refine x_icmp_ge (tgt := 102) dX7_folded_64 rfl (fun c => ?_) (fun c => ?_)
  · replace hT := hT.1 c
    refine x_iload dX7_folded_102 rfl ?_
    exact x_iret dX7_folded_104 rfl rfl ⟨_, _, hW, hF, Or.inl ⟨_, rfl, hT⟩⟩
  · replace hT := hT.2 c
    refine x_iload_n dX7_folded_67 rfl rfl ?_
    refine x_bipush (v := 10) dX7_folded_68 rfl ?_
    refine x_icmp_ne (tgt := 85) dX7_folded_70 rfl (fun c => ?_) (fun c => ?_)
    · replace hT := hT.1 c
      refine x_iload dX7_folded_85 rfl ?_
      refine x_aload_n dX7_folded_87 rfl rfl rfl ?_
      refine x_iload dX7_folded_88 rfl ?_
      obtain ⟨hc, hT⟩ := hT
      by_cases hb : inB b5 (ln f b2)
      · replace hT := hT.1 hb
        obtain ⟨v7, ev, hT⟩ := hT
        refine c_fiald dX7_folded_90 hc hb hW ev ?_
        refine x_mmin dX7_folded_91 q1783 q672 q181 mq_min (Nat.le_of_ble_eq_true rfl) rfl ?_
        obtain ⟨y8, ey8⟩ : ∃ z : Int32, z = (if v7 < b4 then v7 else b4) := ⟨_, rfl⟩
        replace hT := hT y8 ey8
        refine x_istore (lo' := [none, some (.int b1), some (.ref b2), none, some (.int y8), some (.int b5)]) dX7_folded_94 (Nat.le_of_ble_eq_true rfl) (by rw [ey8]; exact rfl) ?_
        refine x_iinc (lo' := [none, some (.int b1), some (.ref b2), none, some (.int y8), some (.int (b5 + 1))]) dX7_folded_96 rfl (show _ = (b5 + 1) from rfl) rfl ?_
        refine x_goto (tgt := 60) dX7_folded_99 rfl ?_
        exact hT f0 h hW hF
      · obtain ⟨hn, hr, hT⟩ := hT.2 hb
        refine c_fialdX dX7_folded_90 hc hn hb hr (Nat.le_of_ble_eq_true rfl) rfl hW hF ?_
        intro f9 ef9 h a10 hW hx hF
        replace hT := hT a10 f9 ef9
        exact c_out (hsr_skip (by decide) (rfl)) hW hx hF hT
    · replace hT := hT.2 c
      refine x_iload dX7_folded_73 rfl ?_
      refine x_aload_n dX7_folded_75 rfl rfl rfl ?_
      refine x_iload dX7_folded_76 rfl ?_
      obtain ⟨hc, hT⟩ := hT
      by_cases hb : inB b5 (ln f b2)
      · replace hT := hT.1 hb
        obtain ⟨v11, ev, hT⟩ := hT
        refine c_fiald dX7_folded_78 hc hb hW ev ?_
        refine x_mmax dX7_folded_79 q1782 q669 q181 mq_max (Nat.le_of_ble_eq_true rfl) rfl ?_
        refine x_goto (tgt := 94) dX7_folded_82 rfl ?_
        obtain ⟨y12, ey12⟩ : ∃ z : Int32, z = (if b4 < v11 then v11 else b4) := ⟨_, rfl⟩
        replace hT := hT y12 ey12
        refine x_istore (lo' := [none, some (.int b1), some (.ref b2), none, some (.int y12), some (.int b5)]) dX7_folded_94 (Nat.le_of_ble_eq_true rfl) (by rw [ey12]; exact rfl) ?_
        refine x_iinc (lo' := [none, some (.int b1), some (.ref b2), none, some (.int y12), some (.int (b5 + 1))]) dX7_folded_96 rfl (show _ = (b5 + 1) from rfl) rfl ?_
        refine x_goto (tgt := 60) dX7_folded_99 rfl ?_
        exact hT f0 h hW hF
      · obtain ⟨hn, hr, hT⟩ := hT.2 hb
        refine c_fialdX dX7_folded_78 hc hn hb hr (Nat.le_of_ble_eq_true rfl) rfl hW hF ?_
        intro f13 ef13 h a14 hW hx hF
        replace hT := hT a14 f13 ef13
        exact c_out (hsr_skip (by decide) (rfl)) hW hx hF hT
theorem vX7_folded_12 {l : Launch} {E : EN} {w : CO} {d : Nat} {s : CS} {f : RH} {Q : KO → CS → RH → Prop} {b2 : Nat} {b4 : Int32} {b5 : Int32}  (hT : (∃ t15 : Nat, tg f b2 = some (.inr t15) ∧ (((nI (ln f b2)) ≤ b5 → Q (.inl (some (.int b4))) s f) ∧ (¬ (nI (ln f b2)) ≤ b5 → (tg f b2 = some (.inr 0) ∧ ((inB b5 (ln f b2) → (∃ v16 : Int32, vl f b2 b5.toNatClampNeg = .int v16 ∧ (∀ y17 : Int32, y17 = (b4 + v16) → ExC l E w (d + 1) MX7_folded 12 [none, none, some (.ref b2), none, some (.int y17), some (.int (b5 + 1))] [] s f Q))) ∧ (¬ inB b5 (ln f b2) → (ln f b2 < 2 ^ 31 ∧ rmF E f 3 222 ∧ (∀ (a19 : Nat) (f18 : RH), f18 = fexc f → Q (.inr 35) s f18))))))))) : ExC l E w (d + 1) MX7_folded 12 [none, none, some (.ref b2), none, some (.int b4), some (.int b5)] [] s f Q := by
  intro f0 h hW hF
  refine x_iload dX7_folded_12 rfl ?_
  refine x_aload_n dX7_folded_14 rfl rfl rfl ?_
  obtain ⟨t15, hc, hT⟩ := hT
  refine c_alen dX7_folded_15 hc hW ?_
  refine x_icmp_ge (tgt := 34) dX7_folded_16 rfl (fun c => ?_) (fun c => ?_)
  · replace hT := hT.1 c
    refine x_iload dX7_folded_34 rfl ?_
    exact x_iret dX7_folded_36 rfl rfl ⟨_, _, hW, hF, Or.inl ⟨_, rfl, hT⟩⟩
  · replace hT := hT.2 c
    refine x_iload dX7_folded_19 rfl ?_
    refine x_aload_n dX7_folded_21 rfl rfl rfl ?_
    refine x_iload dX7_folded_22 rfl ?_
    obtain ⟨hc, hT⟩ := hT
    by_cases hb : inB b5 (ln f b2)
    · replace hT := hT.1 hb
      obtain ⟨v16, ev, hT⟩ := hT
      refine c_fiald dX7_folded_24 hc hb hW ev ?_
      refine x_iadd dX7_folded_25 ?_
      obtain ⟨y17, ey17⟩ : ∃ z : Int32, z = (b4 + v16) := ⟨_, rfl⟩
      replace hT := hT y17 ey17
      refine x_istore (lo' := [none, none, some (.ref b2), none, some (.int y17), some (.int b5)]) dX7_folded_26 (Nat.le_of_ble_eq_true rfl) (by rw [ey17]; exact rfl) ?_
      refine x_iinc (lo' := [none, none, some (.ref b2), none, some (.int y17), some (.int (b5 + 1))]) dX7_folded_28 rfl (show _ = (b5 + 1) from rfl) rfl ?_
      refine x_goto (tgt := 12) dX7_folded_31 rfl ?_
      exact hT f0 h hW hF
    · obtain ⟨hn, hr, hT⟩ := hT.2 hb
      refine c_fialdX dX7_folded_24 hc hn hb hr (Nat.le_of_ble_eq_true rfl) rfl hW hF ?_
      intro f18 ef18 h a19 hW hx hF
      replace hT := hT a19 f18 ef18
      exact c_out (hsr_skip (by decide) (rfl)) hW hx hF hT
set_option maxHeartbeats 16000000 in
theorem vX7_turns_0 {l : Launch} {E : EN} {w : CO} {d : Nat} {s : CS} {f : RH} {Q : KO → CS → RH → Prop} {x1 : Int32} {x2 : Value} {x3 : Int32} (ix2 : isR x2 = true) (hT : (isT f x2 ∧ ((∀ a2 : Nat, x2 = .ref a2 → tg f a2 = some (.inl 29) → (tg f a2 = some (.inl 29) ∧ (rmF E f 1 1 ∧ ∀ (a3 : Nat) (f4 : RH), a3 = f.1 → f4 = fnew f 29 → ((¬ x1 = 12 → (oc f4 a2 29 ∧ (∃ a5 : Nat, vl f4 a2 203 = .ref a5 ∧ (EvC l E w d MX7_sorted [.ref a5] s f4 (fun o s6 f7 => KP o (fun r => ∃ a8 : Nat, r = some (.ref a8) ∧ (EvC l E w d MX32_init [.ref a3, .ref a8] s6 f7 (fun o s9 f10 => KP o (fun r => r = none ∧ (EvC l E w d MX3_give_2 [.ref (w.1 3), .ref a3, .int 1, .int x3] s9 f10 (fun o s11 f12 => KP o (fun r => r = none ∧ Q (.inl none) s11 f12) (fun k => Q (.inr k) s11 f12)))) (fun k => Q (.inr k) s9 f10)))) (fun k => Q (.inr k) s6 f7)))))) ∧ (x1 = 12 → (oc f4 a2 29 ∧ (∃ a13 : Nat, vl f4 a2 203 = .ref a13 ∧ (EvC l E w d MX7_scanned [.ref a13] s f4 (fun o s14 f15 => KP o (fun r => ∃ a16 : Nat, r = some (.ref a16) ∧ (EvC l E w d MX32_init [.ref a3, .ref a16] s14 f15 (fun o s17 f18 => KP o (fun r => r = none ∧ (EvC l E w d MX3_give_2 [.ref (w.1 3), .ref a3, .int 1, .int x3] s17 f18 (fun o s19 f20 => KP o (fun r => r = none ∧ Q (.inl none) s19 f20) (fun k => Q (.inr k) s19 f20)))) (fun k => Q (.inr k) s17 f18)))) (fun k => Q (.inr k) s14 f15)))))))))) ∧ ((∀ z : Nat, x2 = .ref z → ¬ tg f z = some (.inl 29)) → (EvC l E w d MX3_asTable [.ref (w.1 3), .int ((s.1 26) - 1), .int x3] s f (fun o s21 f22 => KP o (fun r => ∃ a23 : Nat, r = some (.ref a23) ∧ (oc f22 a23 30 ∧ (∃ a24 : Nat, vl f22 a23 204 = .ref a24 ∧ (∃ t25 : Nat, tg f22 a24 = some (.inr t25) ∧ (¬ (nI (ln f22 a24)) < 0 ∧ (nI (ln f22 a24)).toNatClampNeg ≤ 60000000 ∧ rmF E f22 1 (nI (ln f22 a24)).toNatClampNeg ∧ ∀ (a26 : Nat) (f27 : RH), a26 = f22.1 → f27 = fnewA f22 11 (nI (ln f22 a24)).toNatClampNeg → ExC l E w (d + 1) MX7_turns 88 [some (.ref (w.1 7)), some (.int x1), none, some (.int x3), some (.ref a23), some (.ref a26), some (.int 0)] [] s21 f27 Q))))) (fun k => Q (.inr k) s21 f22))))))) : ExC l E w (d + 1) MX7_turns 0 [some (.ref (w.1 7)), some (.int x1), some (x2), some (.int x3), none, none, none] [] s f Q := by
  intro f0 h hW hF
  refine x_aload_n dX7_turns_0 rfl rfl ix2 ?_
  obtain ⟨ht, hT⟩ := hT
  refine c_instV (K := 29) dX7_turns_1 (by decide) q1755 ht hW (fun a2 ec hi1 => ?_) (fun hi1 => ?_)
  · subst ec
    replace hT := hT.1 a2 rfl hi1
    refine x_if_eq (tgt := 55) dX7_turns_4 rfl (fun c => absurd c (by decide)) (fun _ => ?_)
    refine x_aload_n dX7_turns_7 rfl rfl rfl ?_
    obtain ⟨hc, hT⟩ := hT
    refine c_cast (K := 29) dX7_turns_8 q1755 hc hW ?_
    refine x_astore (lo' := [some (.ref (w.1 7)), some (.int x1), some (.ref a2), some (.int x3), some (.ref a2), none, none]) dX7_turns_11 (Nat.le_of_ble_eq_true rfl) rfl rfl ?_
    refine x_aload_n dX7_turns_13 rfl rfl rfl ?_
    refine c_getO dX7_turns_14 f_TallySlate_Works_9 (by decide) (by decide) rfl hW ?_
    obtain ⟨hr, hT⟩ := hT
    refine c_newG (k := 29) dX7_turns_17 (by decide) q1755 q205 hr hW hF ?_
    intro a3 f4 ea3 ef4 h hW hF
    replace hT := hT a3 f4 ea3 ef4
    refine x_dup dX7_turns_20 rfl ?_
    refine x_iload_n dX7_turns_21 rfl rfl ?_
    refine x_bipush (v := 12) dX7_turns_22 rfl ?_
    refine x_icmp_ne (tgt := 38) dX7_turns_24 rfl (fun c => ?_) (fun c => ?_)
    · replace hT := hT.1 c
      refine x_aload dX7_turns_38 rfl rfl ?_
      obtain ⟨hc, hT⟩ := hT
      obtain ⟨a5, ev, hT⟩ := hT
      refine c_fgetG dX7_turns_40 f_TallySlate_Works_66 hc (by decide) (by decide) hW ev ?_
      refine c_invS (vs := [.ref a5]) dX7_turns_43 oX7_sorted q1800 (Or.inl q1799) rfl rfl (Nat.le_of_ble_eq_true rfl) rfl hW hF hT ?_ ?_
      · intro _ s6 f7 hT h hW hF
        obtain ⟨a8, rfl, hT⟩ := hT
        refine c_invI (b := a3) (vs := [.ref a8]) dX7_turns_46 oX32_init rfl rfl rfl q1396 (Or.inl q1756) rfl rfl (Nat.le_of_ble_eq_true rfl) rfl hW hF hT ?_ ?_
        · intro _ s9 f10 hT h hW hF
          obtain ⟨rfl, hT⟩ := hT
          refine x_iconst (v := 1) dX7_turns_49 rfl ?_
          refine x_iload_n dX7_turns_50 rfl rfl ?_
          obtain ⟨-, -, cc, hcc, -⟩ := hW.ob 3 (by decide)
          refine c_invV (vs := [.ref a3, .int 1, .int x3]) dX7_turns_51 oX3_give_2 q1412 q1757 hcc q1413 (Or.inl rfl) rfl rfl (Nat.le_of_ble_eq_true rfl) rfl hW hF hT ?_ ?_
          · intro _ s11 f12 hT h hW hF
            obtain ⟨rfl, hT⟩ := hT
            exact x_vret dX7_turns_54 rfl ⟨_, _, hW, hF, Or.inl ⟨_, rfl, hT⟩⟩
          · intro k s11 f12 hT h a hW hx hF
            exact c_out (rfl) hW hx hF hT
        · intro k s9 f10 hT h a hW hx hF
          exact c_out (rfl) hW hx hF hT
      · intro k s6 f7 hT h a hW hx hF
        exact c_out (rfl) hW hx hF hT
    · replace hT := hT.2 c
      refine x_aload dX7_turns_27 rfl rfl ?_
      obtain ⟨hc, hT⟩ := hT
      obtain ⟨a13, ev, hT⟩ := hT
      refine c_fgetG dX7_turns_29 f_TallySlate_Works_66 hc (by decide) (by decide) hW ev ?_
      refine c_invS (vs := [.ref a13]) dX7_turns_32 oX7_scanned q1790 (Or.inl q1789) rfl rfl (Nat.le_of_ble_eq_true rfl) rfl hW hF hT ?_ ?_
      · intro _ s14 f15 hT h hW hF
        obtain ⟨a16, rfl, hT⟩ := hT
        refine x_goto (tgt := 46) dX7_turns_35 rfl ?_
        refine c_invI (b := a3) (vs := [.ref a16]) dX7_turns_46 oX32_init rfl rfl rfl q1396 (Or.inl q1756) rfl rfl (Nat.le_of_ble_eq_true rfl) rfl hW hF hT ?_ ?_
        · intro _ s17 f18 hT h hW hF
          obtain ⟨rfl, hT⟩ := hT
          refine x_iconst (v := 1) dX7_turns_49 rfl ?_
          refine x_iload_n dX7_turns_50 rfl rfl ?_
          obtain ⟨-, -, cc, hcc, -⟩ := hW.ob 3 (by decide)
          refine c_invV (vs := [.ref a3, .int 1, .int x3]) dX7_turns_51 oX3_give_2 q1412 q1757 hcc q1413 (Or.inl rfl) rfl rfl (Nat.le_of_ble_eq_true rfl) rfl hW hF hT ?_ ?_
          · intro _ s19 f20 hT h hW hF
            obtain ⟨rfl, hT⟩ := hT
            exact x_vret dX7_turns_54 rfl ⟨_, _, hW, hF, Or.inl ⟨_, rfl, hT⟩⟩
          · intro k s19 f20 hT h a hW hx hF
            exact c_out (rfl) hW hx hF hT
        · intro k s17 f18 hT h a hW hx hF
          exact c_out (rfl) hW hx hF hT
      · intro k s14 f15 hT h a hW hx hF
        exact c_out (rfl) hW hx hF hT
  · replace hT := hT.2 hi1
    refine x_if_eq (tgt := 55) dX7_turns_4 rfl (fun _ => ?_) (fun c => absurd c (by decide))
    refine x_aload_n dX7_turns_55 rfl rfl rfl ?_
    refine c_getO dX7_turns_56 f_TallySlate_Works_9 (by decide) (by decide) rfl hW ?_
    refine x_aload_n dX7_turns_59 rfl rfl rfl ?_
    refine c_getO dX7_turns_60 f_TallySlate_Works_9 (by decide) (by decide) rfl hW ?_
    refine c_getI (v := (s.1 26)) dX7_turns_63 f_TallySlate_Works_15 (by decide) (by decide) rfl hW rfl ?_
    refine x_iconst (v := 1) dX7_turns_66 rfl ?_
    refine x_isub dX7_turns_67 ?_
    refine x_iload_n dX7_turns_68 rfl rfl ?_
    obtain ⟨-, -, cc, hcc, -⟩ := hW.ob 3 (by decide)
    refine c_invV (vs := [.int ((s.1 26) - 1), .int x3]) dX7_turns_69 oX3_asTable q1749 q1748 hcc q1750 (Or.inl rfl) rfl rfl (Nat.le_of_ble_eq_true rfl) rfl hW hF hT ?_ ?_
    · intro _ s21 f22 hT h hW hF
      obtain ⟨a23, rfl, hT⟩ := hT
      refine x_astore (lo' := [some (.ref (w.1 7)), some (.int x1), some (x2), some (.int x3), some (.ref a23), none, none]) dX7_turns_72 (Nat.le_of_ble_eq_true rfl) rfl rfl ?_
      refine x_aload dX7_turns_74 rfl rfl ?_
      obtain ⟨hc, hT⟩ := hT
      obtain ⟨a24, ev, hT⟩ := hT
      refine c_fgetG dX7_turns_76 f_TallySlate_Works_128 hc (by decide) (by decide) hW ev ?_
      obtain ⟨t25, hc, hT⟩ := hT
      refine c_alen dX7_turns_79 hc hW ?_
      obtain ⟨hn, hT⟩ := hT
      obtain ⟨hb, hr, hT⟩ := hT
      refine c_anewarrayG (t := 11) dX7_turns_80 (by decide) (by decide) (by decide) rfl q1463 (Or.inr ⟨_, rfl, q1798⟩) hn hb hr hW hF ?_
      intro a26 f27 ea26 ef27 h hW hF
      replace hT := hT a26 f27 ea26 ef27
      refine x_astore (lo' := [some (.ref (w.1 7)), some (.int x1), some (x2), some (.int x3), some (.ref a23), some (.ref a26), none]) dX7_turns_83 (Nat.le_of_ble_eq_true rfl) rfl rfl ?_
      refine x_iconst (v := 0) dX7_turns_85 rfl ?_
      refine x_istore (lo' := [some (.ref (w.1 7)), some (.int x1), some (x2), some (.int x3), some (.ref a23), some (.ref a26), some (.int 0)]) dX7_turns_86 (Nat.le_of_ble_eq_true rfl) rfl ?_
      refine Ex.wkl (lo' := [some (.ref (w.1 7)), some (.int x1), none, some (.int x3), some (.ref a23), some (.ref a26), some (.int 0)]) ⟨rfl, rfl, rfl, rfl, rfl, rfl, trivial⟩ ?_
      exact hT f0 h hW hF
    · intro k s21 f22 hT h a hW hx hF
      exact c_out (rfl) hW hx hF hT
theorem eX7_turns {l : Launch} {E : EN} {w : CO} {d : Nat} {s : CS} {f : RH} {Q : KO → CS → RH → Prop} {x1 : Int32} {x2 : Value} {x3 : Int32} (ix2 : isR x2 = true) (hst : l.stackTraces = false) (hT : (isT f x2 ∧ ((∀ a2 : Nat, x2 = .ref a2 → tg f a2 = some (.inl 29) → (tg f a2 = some (.inl 29) ∧ (rmF E f 1 1 ∧ ∀ (a3 : Nat) (f4 : RH), a3 = f.1 → f4 = fnew f 29 → ((¬ x1 = 12 → (oc f4 a2 29 ∧ (∃ a5 : Nat, vl f4 a2 203 = .ref a5 ∧ (EvC l E w d MX7_sorted [.ref a5] s f4 (fun o s6 f7 => KP o (fun r => ∃ a8 : Nat, r = some (.ref a8) ∧ (EvC l E w d MX32_init [.ref a3, .ref a8] s6 f7 (fun o s9 f10 => KP o (fun r => r = none ∧ (EvC l E w d MX3_give_2 [.ref (w.1 3), .ref a3, .int 1, .int x3] s9 f10 (fun o s11 f12 => KP o (fun r => r = none ∧ Q (.inl none) s11 f12) (fun k => Q (.inr k) s11 f12)))) (fun k => Q (.inr k) s9 f10)))) (fun k => Q (.inr k) s6 f7)))))) ∧ (x1 = 12 → (oc f4 a2 29 ∧ (∃ a13 : Nat, vl f4 a2 203 = .ref a13 ∧ (EvC l E w d MX7_scanned [.ref a13] s f4 (fun o s14 f15 => KP o (fun r => ∃ a16 : Nat, r = some (.ref a16) ∧ (EvC l E w d MX32_init [.ref a3, .ref a16] s14 f15 (fun o s17 f18 => KP o (fun r => r = none ∧ (EvC l E w d MX3_give_2 [.ref (w.1 3), .ref a3, .int 1, .int x3] s17 f18 (fun o s19 f20 => KP o (fun r => r = none ∧ Q (.inl none) s19 f20) (fun k => Q (.inr k) s19 f20)))) (fun k => Q (.inr k) s17 f18)))) (fun k => Q (.inr k) s14 f15)))))))))) ∧ ((∀ z : Nat, x2 = .ref z → ¬ tg f z = some (.inl 29)) → (EvC l E w d MX3_asTable [.ref (w.1 3), .int ((s.1 26) - 1), .int x3] s f (fun o s21 f22 => KP o (fun r => ∃ a23 : Nat, r = some (.ref a23) ∧ (oc f22 a23 30 ∧ (∃ a24 : Nat, vl f22 a23 204 = .ref a24 ∧ (∃ t25 : Nat, tg f22 a24 = some (.inr t25) ∧ (¬ (nI (ln f22 a24)) < 0 ∧ (nI (ln f22 a24)).toNatClampNeg ≤ 60000000 ∧ rmF E f22 1 (nI (ln f22 a24)).toNatClampNeg ∧ ∀ (a26 : Nat) (f27 : RH), a26 = f22.1 → f27 = fnewA f22 11 (nI (ln f22 a24)).toNatClampNeg → ExC l E w (d + 1) MX7_turns 88 [some (.ref (w.1 7)), some (.int x1), none, some (.int x3), some (.ref a23), some (.ref a26), some (.int 0)] [] s21 f27 Q))))) (fun k => Q (.inr k) s21 f22))))))) : EvC l E w (d + 1) MX7_turns [.ref (w.1 7), .int x1, x2, .int x3] s f Q :=by
  rcases isR_cases ix2 with rfl | ⟨_, rfl⟩ <;> exact
  
  EvC.of hst (by decide) (Nat.le_of_ble_eq_true rfl) (vX7_turns_0 ix2 hT)
set_option maxHeartbeats 16000000 in
theorem vX7_turns_88 {l : Launch} {E : EN} {w : CO} {d : Nat} {s : CS} {f : RH} {Q : KO → CS → RH → Prop} {b1 : Int32} {b3 : Int32} {b4 : Nat} {b5 : Nat} {b6 : Int32}  (hT : (∃ t28 : Nat, tg f b5 = some (.inr t28) ∧ (((nI (ln f b5)) ≤ b6 → (rmF E f 1 2 ∧ ∀ (a29 : Nat) (f30 : RH), a29 = f.1 → f30 = fnew f 30 → (EvC l E w d MX33_init [.ref a29, .ref b5] s f30 (fun o s31 f32 => KP o (fun r => r = none ∧ (EvC l E w d MX3_give_2 [.ref (w.1 3), .ref a29, .int 1, .int b3] s31 f32 (fun o s33 f34 => KP o (fun r => r = none ∧ Q (.inl none) s33 f34) (fun k => Q (.inr k) s33 f34)))) (fun k => Q (.inr k) s31 f32))))) ∧ (¬ (nI (ln f b5)) ≤ b6 → ((¬ b1 = 12 → (oc f b4 30 ∧ (∃ a35 : Nat, vl f b4 204 = .ref a35 ∧ (∃ t36 : Nat, 4 ≤ t36 ∧ (tg f a35 = some (.inr t36) ∧ inB b6 (ln f a35) ∧ (∃ a37 : Nat, vl f a35 b6.toNatClampNeg = .ref a37 ∧ (EvC l E w d MX7_sorted [.ref a37] s f (fun o s38 f39 => KP o (fun r => ∃ a40 : Nat, r = some (.ref a40) ∧ (tg f39 b5 = some (.inr 11) ∧ tg f39 a40 = some (.inr 0) ∧ ez E ≤ a40 ∧ inB b6 (ln f39 b5) ∧ f39.2.2.2 ≤ b5 ∧ ∀ f41 : RH, f41 = fset f39 b5 b6.toNatClampNeg (.ref a40) → ExC l E w (d + 1) MX7_turns 88 [some (.ref (w.1 7)), some (.int b1), none, some (.int b3), some (.ref b4), some (.ref b5), some (.int (b6 + 1))] [] s38 f41 Q)) (fun k => Q (.inr k) s38 f39))))))))) ∧ (b1 = 12 → (oc f b4 30 ∧ (∃ a42 : Nat, vl f b4 204 = .ref a42 ∧ (∃ t43 : Nat, 4 ≤ t43 ∧ (tg f a42 = some (.inr t43) ∧ inB b6 (ln f a42) ∧ (∃ a44 : Nat, vl f a42 b6.toNatClampNeg = .ref a44 ∧ (EvC l E w d MX7_scanned [.ref a44] s f (fun o s45 f46 => KP o (fun r => ∃ a47 : Nat, r = some (.ref a47) ∧ (tg f46 b5 = some (.inr 11) ∧ tg f46 a47 = some (.inr 0) ∧ ez E ≤ a47 ∧ inB b6 (ln f46 b5) ∧ f46.2.2.2 ≤ b5 ∧ ∀ f48 : RH, f48 = fset f46 b5 b6.toNatClampNeg (.ref a47) → ExC l E w (d + 1) MX7_turns 88 [some (.ref (w.1 7)), some (.int b1), none, some (.int b3), some (.ref b4), some (.ref b5), some (.int (b6 + 1))] [] s45 f48 Q)) (fun k => Q (.inr k) s45 f46)))))))))))))) : ExC l E w (d + 1) MX7_turns 88 [some (.ref (w.1 7)), some (.int b1), none, some (.int b3), some (.ref b4), some (.ref b5), some (.int b6)] [] s f Q := by
  intro f0 h hW hF
  refine x_iload dX7_turns_88 rfl ?_
  refine x_aload dX7_turns_90 rfl rfl ?_
  obtain ⟨t28, hc, hT⟩ := hT
  refine c_alen dX7_turns_92 hc hW ?_
  refine x_icmp_ge (tgt := 138) dX7_turns_93 rfl (fun c => ?_) (fun c => ?_)
  · replace hT := hT.1 c
    refine x_aload_n dX7_turns_138 rfl rfl rfl ?_
    refine c_getO dX7_turns_139 f_TallySlate_Works_9 (by decide) (by decide) rfl hW ?_
    obtain ⟨hr, hT⟩ := hT
    refine c_newG (k := 30) dX7_turns_142 (by decide) q1784 q206 hr hW hF ?_
    intro a29 f30 ea29 ef30 h hW hF
    replace hT := hT a29 f30 ea29 ef30
    refine x_dup dX7_turns_145 rfl ?_
    refine x_aload dX7_turns_146 rfl rfl ?_
    refine c_invI (b := a29) (vs := [.ref b5]) dX7_turns_148 oX33_init rfl rfl rfl q1469 (Or.inl q1802) rfl rfl (Nat.le_of_ble_eq_true rfl) rfl hW hF hT ?_ ?_
    · intro _ s31 f32 hT h hW hF
      obtain ⟨rfl, hT⟩ := hT
      refine x_iconst (v := 1) dX7_turns_151 rfl ?_
      refine x_iload_n dX7_turns_152 rfl rfl ?_
      obtain ⟨-, -, cc, hcc, -⟩ := hW.ob 3 (by decide)
      refine c_invV (vs := [.ref a29, .int 1, .int b3]) dX7_turns_153 oX3_give_2 q1412 q1757 hcc q1413 (Or.inl rfl) rfl rfl (Nat.le_of_ble_eq_true rfl) rfl hW hF hT ?_ ?_
      · intro _ s33 f34 hT h hW hF
        obtain ⟨rfl, hT⟩ := hT
        exact x_vret dX7_turns_156 rfl ⟨_, _, hW, hF, Or.inl ⟨_, rfl, hT⟩⟩
      · intro k s33 f34 hT h a hW hx hF
        exact c_out (rfl) hW hx hF hT
    · intro k s31 f32 hT h a hW hx hF
      exact c_out (rfl) hW hx hF hT
  · replace hT := hT.2 c
    refine x_aload dX7_turns_96 rfl rfl ?_
    refine x_iload dX7_turns_98 rfl ?_
    refine x_iload_n dX7_turns_100 rfl rfl ?_
    refine x_bipush (v := 12) dX7_turns_101 rfl ?_
    refine x_icmp_ne (tgt := 120) dX7_turns_103 rfl (fun c => ?_) (fun c => ?_)
    · replace hT := hT.1 c
      refine x_aload dX7_turns_120 rfl rfl ?_
      obtain ⟨hc, hT⟩ := hT
      obtain ⟨a35, ev, hT⟩ := hT
      refine c_fgetG dX7_turns_122 f_TallySlate_Works_128 hc (by decide) (by decide) hW ev ?_
      refine x_iload dX7_turns_125 rfl ?_
      obtain ⟨t36, ht2, hc, hT⟩ := hT
      obtain ⟨hb, hT⟩ := hT
      obtain ⟨a37, ev, hT⟩ := hT
      refine c_faald dX7_turns_127 hc ht2 hb hW ev ?_
      refine c_invS (vs := [.ref a37]) dX7_turns_128 oX7_sorted q1800 (Or.inl q1799) rfl rfl (Nat.le_of_ble_eq_true rfl) rfl hW hF hT ?_ ?_
      · intro _ s38 f39 hT h hW hF
        obtain ⟨a40, rfl, hT⟩ := hT
        obtain ⟨hc, hv, hzb, hT⟩ := hT
        obtain ⟨hb, hz, hT⟩ := hT
        refine c_faastAG dX7_turns_131 hc hv hzb hb hz hW hF ?_
        intro f41 ef41 h hW hF
        replace hT := hT f41 ef41
        refine x_iinc (lo' := [some (.ref (w.1 7)), some (.int b1), none, some (.int b3), some (.ref b4), some (.ref b5), some (.int (b6 + 1))]) dX7_turns_132 rfl (show _ = (b6 + 1) from rfl) rfl ?_
        refine x_goto (tgt := 88) dX7_turns_135 rfl ?_
        exact hT f0 h hW hF
      · intro k s38 f39 hT h a hW hx hF
        exact c_out (rfl) hW hx hF hT
    · replace hT := hT.2 c
      refine x_aload dX7_turns_106 rfl rfl ?_
      obtain ⟨hc, hT⟩ := hT
      obtain ⟨a42, ev, hT⟩ := hT
      refine c_fgetG dX7_turns_108 f_TallySlate_Works_128 hc (by decide) (by decide) hW ev ?_
      refine x_iload dX7_turns_111 rfl ?_
      obtain ⟨t43, ht2, hc, hT⟩ := hT
      obtain ⟨hb, hT⟩ := hT
      obtain ⟨a44, ev, hT⟩ := hT
      refine c_faald dX7_turns_113 hc ht2 hb hW ev ?_
      refine c_invS (vs := [.ref a44]) dX7_turns_114 oX7_scanned q1790 (Or.inl q1789) rfl rfl (Nat.le_of_ble_eq_true rfl) rfl hW hF hT ?_ ?_
      · intro _ s45 f46 hT h hW hF
        obtain ⟨a47, rfl, hT⟩ := hT
        refine x_goto (tgt := 131) dX7_turns_117 rfl ?_
        obtain ⟨hc, hv, hzb, hT⟩ := hT
        obtain ⟨hb, hz, hT⟩ := hT
        refine c_faastAG dX7_turns_131 hc hv hzb hb hz hW hF ?_
        intro f48 ef48 h hW hF
        replace hT := hT f48 ef48
        refine x_iinc (lo' := [some (.ref (w.1 7)), some (.int b1), none, some (.int b3), some (.ref b4), some (.ref b5), some (.int (b6 + 1))]) dX7_turns_132 rfl (show _ = (b6 + 1) from rfl) rfl ?_
        refine x_goto (tgt := 88) dX7_turns_135 rfl ?_
        exact hT f0 h hW hF
      · intro k s45 f46 hT h a hW hx hF
        exact c_out (rfl) hW hx hF hT
theorem vX7_grade_0 {l : Launch} {E : EN} {w : CO} {d : Nat} {s : CS} {f : RH} {Q : KO → CS → RH → Prop} {x1 : Nat}  (hT : (∃ t1 : Nat, tg f x1 = some (.inr t1) ∧ (¬ (nI (ln f x1)) < 0 ∧ (nI (ln f x1)).toNatClampNeg ≤ 60000000 ∧ rmF E f 1 (nI (ln f x1)).toNatClampNeg ∧ ∀ (a2 : Nat) (f3 : RH), a2 = f.1 → f3 = fnewA f 0 (nI (ln f x1)).toNatClampNeg → ExC l E w d MX7_grade 7 [some (.ref x1), some (.ref a2), some (.int 0), none] [] s f3 Q))) : ExC l E w d MX7_grade 0 [some (.ref x1), none, none, none] [] s f Q := by
  intro f0 h hW hF
  refine x_aload_n dX7_grade_0 rfl rfl rfl ?_
  obtain ⟨t1, hc, hT⟩ := hT
  refine c_alen dX7_grade_1 hc hW ?_
  obtain ⟨hn, hT⟩ := hT
  obtain ⟨hb, hr, hT⟩ := hT
  refine c_newarrayG (t := 0) dX7_grade_2 (by decide) rfl hn hb hr hW hF ?_
  intro a2 f3 ea2 ef3 h hW hF
  replace hT := hT a2 f3 ea2 ef3
  refine x_astore_n (lo' := [some (.ref x1), some (.ref a2), none, none]) dX7_grade_4 rfl (Nat.le_of_ble_eq_true rfl) rfl rfl ?_
  refine x_iconst (v := 0) dX7_grade_5 rfl ?_
  refine x_istore_n (lo' := [some (.ref x1), some (.ref a2), some (.int 0), none]) dX7_grade_6 rfl (Nat.le_of_ble_eq_true rfl) rfl ?_
  exact hT f0 h hW hF
theorem eX7_grade {l : Launch} {E : EN} {w : CO} {d : Nat} {s : CS} {f : RH} {Q : KO → CS → RH → Prop} {x1 : Nat}  (hst : l.stackTraces = false) (hT : (∃ t1 : Nat, tg f x1 = some (.inr t1) ∧ (¬ (nI (ln f x1)) < 0 ∧ (nI (ln f x1)).toNatClampNeg ≤ 60000000 ∧ rmF E f 1 (nI (ln f x1)).toNatClampNeg ∧ ∀ (a2 : Nat) (f3 : RH), a2 = f.1 → f3 = fnewA f 0 (nI (ln f x1)).toNatClampNeg → ExC l E w d MX7_grade 7 [some (.ref x1), some (.ref a2), some (.int 0), none] [] s f3 Q))) : EvC l E w d MX7_grade [.ref x1] s f Q :=
  EvC.of hst (by decide) (Nat.le_of_ble_eq_true rfl) (vX7_grade_0  hT)
theorem vX7_grade_7 {l : Launch} {E : EN} {w : CO} {d : Nat} {s : CS} {f : RH} {Q : KO → CS → RH → Prop} {b0 : Nat} {b1 : Nat} {b2 : Int32}  (hT : (∃ t4 : Nat, tg f b1 = some (.inr t4) ∧ (((nI (ln f b1)) ≤ b2 → Q (.inl (some (.ref b1))) s f) ∧ (¬ (nI (ln f b1)) ≤ b2 → ExC l E w d MX7_grade 15 [some (.ref b0), some (.ref b1), some (.int b2), some (.int b2)] [] s f Q)))) : ExC l E w d MX7_grade 7 [some (.ref b0), some (.ref b1), some (.int b2), none] [] s f Q := by
  intro f0 h hW hF
  refine x_iload_n dX7_grade_7 rfl rfl ?_
  refine x_aload_n dX7_grade_8 rfl rfl rfl ?_
  obtain ⟨t4, hc, hT⟩ := hT
  refine c_alen dX7_grade_9 hc hW ?_
  refine x_icmp_ge (tgt := 56) dX7_grade_10 rfl (fun c => ?_) (fun c => ?_)
  · replace hT := hT.1 c
    refine x_aload_n dX7_grade_56 rfl rfl rfl ?_
    exact x_aret dX7_grade_57 rfl (by first | exact Or.inl ⟨_, rfl⟩ | exact Or.inr ⟨_, rfl⟩) rfl ⟨_, _, hW, hF, Or.inl ⟨_, rfl, hT⟩⟩
  · replace hT := hT.2 c
    refine x_iload_n dX7_grade_13 rfl rfl ?_
    refine x_istore_n (lo' := [some (.ref b0), some (.ref b1), some (.int b2), some (.int b2)]) dX7_grade_14 rfl (Nat.le_of_ble_eq_true rfl) rfl ?_
    exact hT f0 h hW hF
set_option maxHeartbeats 16000000 in
theorem vX7_grade_15 {l : Launch} {E : EN} {w : CO} {d : Nat} {s : CS} {f : RH} {Q : KO → CS → RH → Prop} {b0 : Nat} {b1 : Nat} {b2 : Int32} {b3 : Int32}  (hT : ((b3 ≤ 0 → (tg f b1 = some (.inr 0) ∧ inB b3 (ln f b1) ∧ f.2.2.2 ≤ b1 ∧ ∀ f5 : RH, f5 = fset f b1 b3.toNatClampNeg (.int b2) → ExC l E w d MX7_grade 7 [some (.ref b0), some (.ref b1), some (.int (b2 + 1)), none] [] s f5 Q)) ∧ (¬ b3 ≤ 0 → (tg f b1 = some (.inr 0) ∧ inB (b3 - 1) (ln f b1) ∧ (∃ v6 : Int32, vl f b1 (b3 - 1).toNatClampNeg = .int v6 ∧ (tg f b0 = some (.inr 0) ∧ inB v6 (ln f b0) ∧ (∃ v7 : Int32, vl f b0 v6.toNatClampNeg = .int v7 ∧ (tg f b0 = some (.inr 0) ∧ inB b2 (ln f b0) ∧ (∃ v8 : Int32, vl f b0 b2.toNatClampNeg = .int v8 ∧ ((v7 ≤ v8 → (tg f b1 = some (.inr 0) ∧ inB b3 (ln f b1) ∧ f.2.2.2 ≤ b1 ∧ ∀ f9 : RH, f9 = fset f b1 b3.toNatClampNeg (.int b2) → ExC l E w d MX7_grade 7 [some (.ref b0), some (.ref b1), some (.int (b2 + 1)), none] [] s f9 Q)) ∧ (¬ v7 ≤ v8 → (tg f b1 = some (.inr 0) ∧ inB (b3 - 1) (ln f b1) ∧ (∃ v10 : Int32, vl f b1 (b3 - 1).toNatClampNeg = .int v10 ∧ (tg f b1 = some (.inr 0) ∧ inB b3 (ln f b1) ∧ f.2.2.2 ≤ b1 ∧ ∀ f11 : RH, f11 = fset f b1 b3.toNatClampNeg (.int v10) → ExC l E w d MX7_grade 15 [some (.ref b0), some (.ref b1), some (.int b2), some (.int (b3 + (-1)))] [] s f11 Q)))))))))))))) : ExC l E w d MX7_grade 15 [some (.ref b0), some (.ref b1), some (.int b2), some (.int b3)] [] s f Q := by
  intro f0 h hW hF
  refine x_iload_n dX7_grade_15 rfl rfl ?_
  refine x_if_le (tgt := 46) dX7_grade_16 rfl (fun c => ?_) (fun c => ?_)
  · replace hT := hT.1 c
    refine x_aload_n dX7_grade_46 rfl rfl rfl ?_
    refine x_iload_n dX7_grade_47 rfl rfl ?_
    refine x_iload_n dX7_grade_48 rfl rfl ?_
    obtain ⟨hc, hT⟩ := hT
    obtain ⟨hb, hz, hT⟩ := hT
    refine c_fiastG dX7_grade_49 hc hb hz hW hF ?_
    intro f5 ef5 h hW hF
    replace hT := hT f5 ef5
    refine x_iinc (lo' := [some (.ref b0), some (.ref b1), some (.int (b2 + 1)), some (.int b3)]) dX7_grade_50 rfl (show _ = (b2 + 1) from rfl) rfl ?_
    refine x_goto (tgt := 7) dX7_grade_53 rfl ?_
    refine Ex.wkl (lo' := [some (.ref b0), some (.ref b1), some (.int (b2 + 1)), none]) ⟨rfl, rfl, rfl, trivial⟩ ?_
    exact hT f0 h hW hF
  · replace hT := hT.2 c
    refine x_aload_n dX7_grade_19 rfl rfl rfl ?_
    refine x_aload_n dX7_grade_20 rfl rfl rfl ?_
    refine x_iload_n dX7_grade_21 rfl rfl ?_
    refine x_iconst (v := 1) dX7_grade_22 rfl ?_
    refine x_isub dX7_grade_23 ?_
    obtain ⟨hc, hT⟩ := hT
    obtain ⟨hb, hT⟩ := hT
    obtain ⟨v6, ev, hT⟩ := hT
    refine c_fiald dX7_grade_24 hc hb hW ev ?_
    obtain ⟨hc, hT⟩ := hT
    obtain ⟨hb, hT⟩ := hT
    obtain ⟨v7, ev, hT⟩ := hT
    refine c_fiald dX7_grade_25 hc hb hW ev ?_
    refine x_aload_n dX7_grade_26 rfl rfl rfl ?_
    refine x_iload_n dX7_grade_27 rfl rfl ?_
    obtain ⟨hc, hT⟩ := hT
    obtain ⟨hb, hT⟩ := hT
    obtain ⟨v8, ev, hT⟩ := hT
    refine c_fiald dX7_grade_28 hc hb hW ev ?_
    refine x_icmp_le (tgt := 46) dX7_grade_29 rfl (fun c => ?_) (fun c => ?_)
    · replace hT := hT.1 c
      refine x_aload_n dX7_grade_46 rfl rfl rfl ?_
      refine x_iload_n dX7_grade_47 rfl rfl ?_
      refine x_iload_n dX7_grade_48 rfl rfl ?_
      obtain ⟨hc, hT⟩ := hT
      obtain ⟨hb, hz, hT⟩ := hT
      refine c_fiastG dX7_grade_49 hc hb hz hW hF ?_
      intro f9 ef9 h hW hF
      replace hT := hT f9 ef9
      refine x_iinc (lo' := [some (.ref b0), some (.ref b1), some (.int (b2 + 1)), some (.int b3)]) dX7_grade_50 rfl (show _ = (b2 + 1) from rfl) rfl ?_
      refine x_goto (tgt := 7) dX7_grade_53 rfl ?_
      refine Ex.wkl (lo' := [some (.ref b0), some (.ref b1), some (.int (b2 + 1)), none]) ⟨rfl, rfl, rfl, trivial⟩ ?_
      exact hT f0 h hW hF
    · replace hT := hT.2 c
      refine x_aload_n dX7_grade_32 rfl rfl rfl ?_
      refine x_iload_n dX7_grade_33 rfl rfl ?_
      refine x_aload_n dX7_grade_34 rfl rfl rfl ?_
      refine x_iload_n dX7_grade_35 rfl rfl ?_
      refine x_iconst (v := 1) dX7_grade_36 rfl ?_
      refine x_isub dX7_grade_37 ?_
      obtain ⟨hc, hT⟩ := hT
      obtain ⟨hb, hT⟩ := hT
      obtain ⟨v10, ev, hT⟩ := hT
      refine c_fiald dX7_grade_38 hc hb hW ev ?_
      obtain ⟨hc, hT⟩ := hT
      obtain ⟨hb, hz, hT⟩ := hT
      refine c_fiastG dX7_grade_39 hc hb hz hW hF ?_
      intro f11 ef11 h hW hF
      replace hT := hT f11 ef11
      refine x_iinc (lo' := [some (.ref b0), some (.ref b1), some (.int b2), some (.int (b3 + (-1)))]) dX7_grade_40 rfl (show _ = (b3 + (-1)) from rfl) rfl ?_
      refine x_goto (tgt := 15) dX7_grade_43 rfl ?_
      exact hT f0 h hW hF
set_option maxHeartbeats 16000000 in
theorem vX7_back_0 {l : Launch} {E : EN} {w : CO} {d : Nat} {s : CS} {f : RH} {Q : KO → CS → RH → Prop} {x1 : Value} {x2 : Int32} (ix1 : isR x1 = true) (hT : ((x1 = .null → (EvC l E w d MX3_wrong [.ref (w.1 3), .int 3, .int x2] s f (fun o s2 f3 => KP o (fun r => r = some (.ref (w.1 9)) ∧ Q (.inr 9) s2 f3) (fun k => Q (.inr k) s2 f3)))) ∧ (∀ a1 : Nat, x1 = .ref a1 → (∃ P16 : KO → CS → RH → Prop, (∀ o s4 f5, P16 o s4 f5 → KP o (fun r => ∃ v6 : Int32, r = some (.int v6) ∧ (isT f5 (.ref a1) ∧ ((tg f5 a1 = some (.inl 29) → (tg f5 a1 = some (.inl 29) ∧ (¬ v6 < 0 ∧ v6.toNatClampNeg ≤ 60000000 ∧ rmF E f5 1 v6.toNatClampNeg ∧ ∀ (a8 : Nat) (f9 : RH), a8 = f5.1 → f9 = fnewA f5 0 v6.toNatClampNeg → ExC l E w (d + 1) MX7_back 40 [none, none, none, some (.int v6), some (.ref a1), some (.ref a8), some (.int 0)] [] s4 f9 Q))) ∧ (¬ tg f5 a1 = some (.inl 29) → (isT f5 (.ref a1) ∧ ((tg f5 a1 = some (.inl 30) → (tg f5 a1 = some (.inl 30) ∧ (¬ v6 < 0 ∧ v6.toNatClampNeg ≤ 60000000 ∧ rmF E f5 1 v6.toNatClampNeg ∧ ∀ (a11 : Nat) (f12 : RH), a11 = f5.1 → f12 = fnewA f5 11 v6.toNatClampNeg → ExC l E w (d + 1) MX7_back 101 [none, none, none, some (.int v6), some (.ref a1), some (.ref a11), some (.int 0)] [] s4 f12 Q))) ∧ (¬ tg f5 a1 = some (.inl 30) → (¬ v6 < 0 ∧ v6.toNatClampNeg ≤ 60000000 ∧ rmF E f5 1 v6.toNatClampNeg ∧ ∀ (a13 : Nat) (f14 : RH), a13 = f5.1 → f14 = fnewA f5 4 v6.toNatClampNeg → ExC l E w (d + 1) MX7_back 149 [none, some (.ref a1), none, some (.int v6), some (.ref a13), some (.int 0), none] [] s4 f14 Q)))))))) (fun k => Q (.inr k) s4 f5)) ∧ ∃ k15 : Nat, oc f a1 k15 ∧ ((k15 = 29 ∧ EvC l E w d MX32_size [.ref a1] s f P16) ∨ (k15 = 30 ∧ EvC l E w d MX33_size [.ref a1] s f P16) ∨ (k15 = 31 ∧ EvC l E w d MX34_size [.ref a1] s f P16) ∨ (k15 = 32 ∧ EvC l E w d MX35_size [.ref a1] s f P16)))))) : ExC l E w (d + 1) MX7_back 0 [some (.ref (w.1 7)), some (x1), some (.int x2), none, none, none, none] [] s f Q := by
  intro f0 h hW hF
  refine x_aload_n dX7_back_0 rfl rfl ix1 ?_
  refine x_ifnonnull (tgt := 14) dX7_back_1 rfl ix1 (fun a1 e => ?_) (fun e => ?_)
  · subst e
    replace hT := hT.2 a1 rfl
    refine x_aload_n dX7_back_14 rfl rfl rfl ?_
    obtain ⟨P16, hP, k15, hc, hT⟩ := hT
    have kr : ∀ r s4 f5, P16 (.inl r) s4 f5 → ∀ h, CW E w s4 f5 h → Frz f0 f5 → Ex l E (d + 1) MX7_back (15 + 3) [some (.ref (w.1 7)), some (.ref a1), some (.int x2), none, none, none, none] (r.toList ++ []) h (PoC E w f0 Q) := by
      intro r s4 f5 h0 h hW hF
      have hT := hP _ _ _ h0
      clear h0
      obtain ⟨v6, rfl, hT⟩ := hT
      refine x_istore_n (lo' := [some (.ref (w.1 7)), some (.ref a1), some (.int x2), some (.int v6), none, none, none]) dX7_back_18 rfl (Nat.le_of_ble_eq_true rfl) rfl ?_
      refine x_aload_n dX7_back_19 rfl rfl rfl ?_
      obtain ⟨ht, hT⟩ := hT
      refine c_inst (K := 29) dX7_back_20 (by decide) q1755 ht hW (fun hi7 => ?_) (fun hi7 => ?_)
      · replace hT := hT.1 hi7
        refine x_if_eq (tgt := 79) dX7_back_23 rfl (fun c => absurd c (by decide)) (fun _ => ?_)
        refine x_aload_n dX7_back_26 rfl rfl rfl ?_
        obtain ⟨hc, hT⟩ := hT
        refine c_cast (K := 29) dX7_back_27 q1755 hc hW ?_
        refine x_astore (lo' := [some (.ref (w.1 7)), some (.ref a1), some (.int x2), some (.int v6), some (.ref a1), none, none]) dX7_back_30 (Nat.le_of_ble_eq_true rfl) rfl rfl ?_
        refine x_iload_n dX7_back_32 rfl rfl ?_
        obtain ⟨hn, hT⟩ := hT
        obtain ⟨hb, hr, hT⟩ := hT
        refine c_newarrayG (t := 0) dX7_back_33 (by decide) rfl hn hb hr hW hF ?_
        intro a8 f9 ea8 ef9 h hW hF
        replace hT := hT a8 f9 ea8 ef9
        refine x_astore (lo' := [some (.ref (w.1 7)), some (.ref a1), some (.int x2), some (.int v6), some (.ref a1), some (.ref a8), none]) dX7_back_35 (Nat.le_of_ble_eq_true rfl) rfl rfl ?_
        refine x_iconst (v := 0) dX7_back_37 rfl ?_
        refine x_istore (lo' := [some (.ref (w.1 7)), some (.ref a1), some (.int x2), some (.int v6), some (.ref a1), some (.ref a8), some (.int 0)]) dX7_back_38 (Nat.le_of_ble_eq_true rfl) rfl ?_
        refine Ex.wkl (lo' := [none, none, none, some (.int v6), some (.ref a1), some (.ref a8), some (.int 0)]) ⟨rfl, rfl, rfl, rfl, trivial⟩ ?_
        exact hT f0 h hW hF
      · replace hT := hT.2 hi7
        refine x_if_eq (tgt := 79) dX7_back_23 rfl (fun _ => ?_) (fun c => absurd c (by decide))
        refine x_aload_n dX7_back_79 rfl rfl rfl ?_
        obtain ⟨ht, hT⟩ := hT
        refine c_inst (K := 30) dX7_back_80 (by decide) q1784 ht hW (fun hi10 => ?_) (fun hi10 => ?_)
        · replace hT := hT.1 hi10
          refine x_if_eq (tgt := 140) dX7_back_83 rfl (fun c => absurd c (by decide)) (fun _ => ?_)
          refine x_aload_n dX7_back_86 rfl rfl rfl ?_
          obtain ⟨hc, hT⟩ := hT
          refine c_cast (K := 30) dX7_back_87 q1784 hc hW ?_
          refine x_astore (lo' := [some (.ref (w.1 7)), some (.ref a1), some (.int x2), some (.int v6), some (.ref a1), none, none]) dX7_back_90 (Nat.le_of_ble_eq_true rfl) rfl rfl ?_
          refine x_iload_n dX7_back_92 rfl rfl ?_
          obtain ⟨hn, hT⟩ := hT
          obtain ⟨hb, hr, hT⟩ := hT
          refine c_anewarrayG (t := 11) dX7_back_93 (by decide) (by decide) (by decide) rfl q1463 (Or.inr ⟨_, rfl, q1798⟩) hn hb hr hW hF ?_
          intro a11 f12 ea11 ef12 h hW hF
          replace hT := hT a11 f12 ea11 ef12
          refine x_astore (lo' := [some (.ref (w.1 7)), some (.ref a1), some (.int x2), some (.int v6), some (.ref a1), some (.ref a11), none]) dX7_back_96 (Nat.le_of_ble_eq_true rfl) rfl rfl ?_
          refine x_iconst (v := 0) dX7_back_98 rfl ?_
          refine x_istore (lo' := [some (.ref (w.1 7)), some (.ref a1), some (.int x2), some (.int v6), some (.ref a1), some (.ref a11), some (.int 0)]) dX7_back_99 (Nat.le_of_ble_eq_true rfl) rfl ?_
          refine Ex.wkl (lo' := [none, none, none, some (.int v6), some (.ref a1), some (.ref a11), some (.int 0)]) ⟨rfl, rfl, rfl, rfl, trivial⟩ ?_
          exact hT f0 h hW hF
        · replace hT := hT.2 hi10
          refine x_if_eq (tgt := 140) dX7_back_83 rfl (fun _ => ?_) (fun c => absurd c (by decide))
          refine x_iload_n dX7_back_140 rfl rfl ?_
          obtain ⟨hn, hT⟩ := hT
          obtain ⟨hb, hr, hT⟩ := hT
          refine c_anewarrayG (t := 4) dX7_back_141 (by decide) (by decide) (by decide) rfl q337 (Or.inl ⟨_, rfl, q1811⟩) hn hb hr hW hF ?_
          intro a13 f14 ea13 ef14 h hW hF
          replace hT := hT a13 f14 ea13 ef14
          refine x_astore (lo' := [some (.ref (w.1 7)), some (.ref a1), some (.int x2), some (.int v6), some (.ref a13), none, none]) dX7_back_144 (Nat.le_of_ble_eq_true rfl) rfl rfl ?_
          refine x_iconst (v := 0) dX7_back_146 rfl ?_
          refine x_istore (lo' := [some (.ref (w.1 7)), some (.ref a1), some (.int x2), some (.int v6), some (.ref a13), some (.int 0), none]) dX7_back_147 (Nat.le_of_ble_eq_true rfl) rfl ?_
          refine Ex.wkl (lo' := [none, some (.ref a1), none, some (.int v6), some (.ref a13), some (.int 0), none]) ⟨rfl, rfl, rfl, rfl, trivial⟩ ?_
          exact hT f0 h hW hF
    have kt : ∀ k s4 f5, P16 (.inr k) s4 f5 → ∀ h a, CW E w s4 f5 h → xA w h k a → Frz f0 f5 → ExT l E (d + 1) MX7_back 15 [some (.ref (w.1 7)), some (.ref a1), some (.int x2), none, none, none, none] [] a h (PoC E w f0 Q) := by
      intro k s4 f5 h0 h a hW hx hF
      have hT := hP _ _ _ h0
      clear h0
      exact c_out (rfl) hW hx hF hT
    obtain ⟨cc, hcc⟩ := hW.ocell hc
    rcases hT with ⟨rfl, hT⟩ | ⟨rfl, hT⟩ | ⟨rfl, hT⟩ | ⟨rfl, hT⟩
    · exact c_invV (vs := []) dX7_back_15 oX32_size q1454 q1746 hcc q1453 (Or.inr hy_Thing_size) rfl rfl (Nat.le_of_ble_eq_true rfl) rfl hW hF hT kr kt
    · exact c_invV (vs := []) dX7_back_15 oX33_size q1457 q1746 hcc q1456 (Or.inr hy_Thing_size) rfl rfl (Nat.le_of_ble_eq_true rfl) rfl hW hF hT kr kt
    · exact c_invV (vs := []) dX7_back_15 oX34_size q1451 q1746 hcc q1450 (Or.inr hy_Thing_size) rfl rfl (Nat.le_of_ble_eq_true rfl) rfl hW hF hT kr kt
    · exact c_invV (vs := []) dX7_back_15 oX35_size q1460 q1746 hcc q1459 (Or.inr hy_Thing_size) rfl rfl (Nat.le_of_ble_eq_true rfl) rfl hW hF hT kr kt
  · subst e
    replace hT := hT.1 rfl
    refine x_aload_n dX7_back_4 rfl rfl rfl ?_
    refine c_getO dX7_back_5 f_TallySlate_Works_9 (by decide) (by decide) rfl hW ?_
    refine x_iconst (v := 3) dX7_back_8 rfl ?_
    refine x_iload_n dX7_back_9 rfl rfl ?_
    obtain ⟨-, -, cc, hcc, -⟩ := hW.ob 3 (by decide)
    refine c_invV (vs := [.int 3, .int x2]) dX7_back_10 oX3_wrong q1323 q1745 hcc q1324 (Or.inl rfl) rfl rfl (Nat.le_of_ble_eq_true rfl) rfl hW hF hT ?_ ?_
    · intro _ s2 f3 hT h hW hF
      obtain ⟨rfl, hT⟩ := hT
      refine x_athrow dX7_back_13 ?_
      exact c_out (rfl) hW (Or.inl ⟨rfl, rfl⟩) hF hT
    · intro k s2 f3 hT h a hW hx hF
      exact c_out (rfl) hW hx hF hT
theorem eX7_back {l : Launch} {E : EN} {w : CO} {d : Nat} {s : CS} {f : RH} {Q : KO → CS → RH → Prop} {x1 : Value} {x2 : Int32} (ix1 : isR x1 = true) (hst : l.stackTraces = false) (hT : ((x1 = .null → (EvC l E w d MX3_wrong [.ref (w.1 3), .int 3, .int x2] s f (fun o s2 f3 => KP o (fun r => r = some (.ref (w.1 9)) ∧ Q (.inr 9) s2 f3) (fun k => Q (.inr k) s2 f3)))) ∧ (∀ a1 : Nat, x1 = .ref a1 → (∃ P16 : KO → CS → RH → Prop, (∀ o s4 f5, P16 o s4 f5 → KP o (fun r => ∃ v6 : Int32, r = some (.int v6) ∧ (isT f5 (.ref a1) ∧ ((tg f5 a1 = some (.inl 29) → (tg f5 a1 = some (.inl 29) ∧ (¬ v6 < 0 ∧ v6.toNatClampNeg ≤ 60000000 ∧ rmF E f5 1 v6.toNatClampNeg ∧ ∀ (a8 : Nat) (f9 : RH), a8 = f5.1 → f9 = fnewA f5 0 v6.toNatClampNeg → ExC l E w (d + 1) MX7_back 40 [none, none, none, some (.int v6), some (.ref a1), some (.ref a8), some (.int 0)] [] s4 f9 Q))) ∧ (¬ tg f5 a1 = some (.inl 29) → (isT f5 (.ref a1) ∧ ((tg f5 a1 = some (.inl 30) → (tg f5 a1 = some (.inl 30) ∧ (¬ v6 < 0 ∧ v6.toNatClampNeg ≤ 60000000 ∧ rmF E f5 1 v6.toNatClampNeg ∧ ∀ (a11 : Nat) (f12 : RH), a11 = f5.1 → f12 = fnewA f5 11 v6.toNatClampNeg → ExC l E w (d + 1) MX7_back 101 [none, none, none, some (.int v6), some (.ref a1), some (.ref a11), some (.int 0)] [] s4 f12 Q))) ∧ (¬ tg f5 a1 = some (.inl 30) → (¬ v6 < 0 ∧ v6.toNatClampNeg ≤ 60000000 ∧ rmF E f5 1 v6.toNatClampNeg ∧ ∀ (a13 : Nat) (f14 : RH), a13 = f5.1 → f14 = fnewA f5 4 v6.toNatClampNeg → ExC l E w (d + 1) MX7_back 149 [none, some (.ref a1), none, some (.int v6), some (.ref a13), some (.int 0), none] [] s4 f14 Q)))))))) (fun k => Q (.inr k) s4 f5)) ∧ ∃ k15 : Nat, oc f a1 k15 ∧ ((k15 = 29 ∧ EvC l E w d MX32_size [.ref a1] s f P16) ∨ (k15 = 30 ∧ EvC l E w d MX33_size [.ref a1] s f P16) ∨ (k15 = 31 ∧ EvC l E w d MX34_size [.ref a1] s f P16) ∨ (k15 = 32 ∧ EvC l E w d MX35_size [.ref a1] s f P16)))))) : EvC l E w (d + 1) MX7_back [.ref (w.1 7), x1, .int x2] s f Q :=by
  rcases isR_cases ix1 with rfl | ⟨_, rfl⟩ <;> exact
  
  EvC.of hst (by decide) (Nat.le_of_ble_eq_true rfl) (vX7_back_0 ix1 hT)
theorem vX7_back_40 {l : Launch} {E : EN} {w : CO} {d : Nat} {s : CS} {f : RH} {Q : KO → CS → RH → Prop} {b3 : Int32} {b4 : Nat} {b5 : Nat} {b6 : Int32}  (hT : ((b3 ≤ b6 → (rmF E f 1 1 ∧ ∀ (a17 : Nat) (f18 : RH), a17 = f.1 → f18 = fnew f 29 → (EvC l E w d MX32_init [.ref a17, .ref b5] s f18 (fun o s19 f20 => KP o (fun r => r = none ∧ Q (.inl (some (.ref a17))) s19 f20) (fun k => Q (.inr k) s19 f20))))) ∧ (¬ b3 ≤ b6 → (oc f b4 29 ∧ (∃ a21 : Nat, vl f b4 203 = .ref a21 ∧ (tg f a21 = some (.inr 0) ∧ inB ((b3 - 1) - b6) (ln f a21) ∧ (∃ v22 : Int32, vl f a21 ((b3 - 1) - b6).toNatClampNeg = .int v22 ∧ (tg f b5 = some (.inr 0) ∧ inB b6 (ln f b5) ∧ f.2.2.2 ≤ b5 ∧ ∀ f23 : RH, f23 = fset f b5 b6.toNatClampNeg (.int v22) → ExC l E w (d + 1) MX7_back 40 [none, none, none, some (.int b3), some (.ref b4), some (.ref b5), some (.int (b6 + 1))] [] s f23 Q)))))))) : ExC l E w (d + 1) MX7_back 40 [none, none, none, some (.int b3), some (.ref b4), some (.ref b5), some (.int b6)] [] s f Q := by
  intro f0 h hW hF
  refine x_iload dX7_back_40 rfl ?_
  refine x_iload_n dX7_back_42 rfl rfl ?_
  refine x_icmp_ge (tgt := 69) dX7_back_43 rfl (fun c => ?_) (fun c => ?_)
  · replace hT := hT.1 c
    obtain ⟨hr, hT⟩ := hT
    refine c_newG (k := 29) dX7_back_69 (by decide) q1755 q205 hr hW hF ?_
    intro a17 f18 ea17 ef18 h hW hF
    replace hT := hT a17 f18 ea17 ef18
    refine x_dup dX7_back_72 rfl ?_
    refine x_aload dX7_back_73 rfl rfl ?_
    refine c_invI (b := a17) (vs := [.ref b5]) dX7_back_75 oX32_init rfl rfl rfl q1396 (Or.inl q1756) rfl rfl (Nat.le_of_ble_eq_true rfl) rfl hW hF hT ?_ ?_
    · intro _ s19 f20 hT h hW hF
      obtain ⟨rfl, hT⟩ := hT
      exact x_aret dX7_back_78 rfl (by first | exact Or.inl ⟨_, rfl⟩ | exact Or.inr ⟨_, rfl⟩) rfl ⟨_, _, hW, hF, Or.inl ⟨_, rfl, hT⟩⟩
    · intro k s19 f20 hT h a hW hx hF
      exact c_out (rfl) hW hx hF hT
  · replace hT := hT.2 c
    refine x_aload dX7_back_46 rfl rfl ?_
    refine x_iload dX7_back_48 rfl ?_
    refine x_aload dX7_back_50 rfl rfl ?_
    obtain ⟨hc, hT⟩ := hT
    obtain ⟨a21, ev, hT⟩ := hT
    refine c_fgetG dX7_back_52 f_TallySlate_Works_66 hc (by decide) (by decide) hW ev ?_
    refine x_iload_n dX7_back_55 rfl rfl ?_
    refine x_iconst (v := 1) dX7_back_56 rfl ?_
    refine x_isub dX7_back_57 ?_
    refine x_iload dX7_back_58 rfl ?_
    refine x_isub dX7_back_60 ?_
    obtain ⟨hc, hT⟩ := hT
    obtain ⟨hb, hT⟩ := hT
    obtain ⟨v22, ev, hT⟩ := hT
    refine c_fiald dX7_back_61 hc hb hW ev ?_
    obtain ⟨hc, hT⟩ := hT
    obtain ⟨hb, hz, hT⟩ := hT
    refine c_fiastG dX7_back_62 hc hb hz hW hF ?_
    intro f23 ef23 h hW hF
    replace hT := hT f23 ef23
    refine x_iinc (lo' := [none, none, none, some (.int b3), some (.ref b4), some (.ref b5), some (.int (b6 + 1))]) dX7_back_63 rfl (show _ = (b6 + 1) from rfl) rfl ?_
    refine x_goto (tgt := 40) dX7_back_66 rfl ?_
    exact hT f0 h hW hF
theorem vX7_back_101 {l : Launch} {E : EN} {w : CO} {d : Nat} {s : CS} {f : RH} {Q : KO → CS → RH → Prop} {b3 : Int32} {b4 : Nat} {b5 : Nat} {b6 : Int32}  (hT : ((b3 ≤ b6 → (rmF E f 1 2 ∧ ∀ (a24 : Nat) (f25 : RH), a24 = f.1 → f25 = fnew f 30 → (EvC l E w d MX33_init [.ref a24, .ref b5] s f25 (fun o s26 f27 => KP o (fun r => r = none ∧ Q (.inl (some (.ref a24))) s26 f27) (fun k => Q (.inr k) s26 f27))))) ∧ (¬ b3 ≤ b6 → (oc f b4 30 ∧ (∃ a28 : Nat, vl f b4 204 = .ref a28 ∧ (∃ t29 : Nat, 4 ≤ t29 ∧ (tg f a28 = some (.inr t29) ∧ inB ((b3 - 1) - b6) (ln f a28) ∧ (∃ a30 : Nat, vl f a28 ((b3 - 1) - b6).toNatClampNeg = .ref a30 ∧ (tg f b5 = some (.inr 11) ∧ tg f a30 = some (.inr 0) ∧ ez E ≤ a30 ∧ inB b6 (ln f b5) ∧ f.2.2.2 ≤ b5 ∧ ∀ f31 : RH, f31 = fset f b5 b6.toNatClampNeg (.ref a30) → ExC l E w (d + 1) MX7_back 101 [none, none, none, some (.int b3), some (.ref b4), some (.ref b5), some (.int (b6 + 1))] [] s f31 Q))))))))) : ExC l E w (d + 1) MX7_back 101 [none, none, none, some (.int b3), some (.ref b4), some (.ref b5), some (.int b6)] [] s f Q := by
  intro f0 h hW hF
  refine x_iload dX7_back_101 rfl ?_
  refine x_iload_n dX7_back_103 rfl rfl ?_
  refine x_icmp_ge (tgt := 130) dX7_back_104 rfl (fun c => ?_) (fun c => ?_)
  · replace hT := hT.1 c
    obtain ⟨hr, hT⟩ := hT
    refine c_newG (k := 30) dX7_back_130 (by decide) q1784 q206 hr hW hF ?_
    intro a24 f25 ea24 ef25 h hW hF
    replace hT := hT a24 f25 ea24 ef25
    refine x_dup dX7_back_133 rfl ?_
    refine x_aload dX7_back_134 rfl rfl ?_
    refine c_invI (b := a24) (vs := [.ref b5]) dX7_back_136 oX33_init rfl rfl rfl q1469 (Or.inl q1802) rfl rfl (Nat.le_of_ble_eq_true rfl) rfl hW hF hT ?_ ?_
    · intro _ s26 f27 hT h hW hF
      obtain ⟨rfl, hT⟩ := hT
      exact x_aret dX7_back_139 rfl (by first | exact Or.inl ⟨_, rfl⟩ | exact Or.inr ⟨_, rfl⟩) rfl ⟨_, _, hW, hF, Or.inl ⟨_, rfl, hT⟩⟩
    · intro k s26 f27 hT h a hW hx hF
      exact c_out (rfl) hW hx hF hT
  · replace hT := hT.2 c
    refine x_aload dX7_back_107 rfl rfl ?_
    refine x_iload dX7_back_109 rfl ?_
    refine x_aload dX7_back_111 rfl rfl ?_
    obtain ⟨hc, hT⟩ := hT
    obtain ⟨a28, ev, hT⟩ := hT
    refine c_fgetG dX7_back_113 f_TallySlate_Works_128 hc (by decide) (by decide) hW ev ?_
    refine x_iload_n dX7_back_116 rfl rfl ?_
    refine x_iconst (v := 1) dX7_back_117 rfl ?_
    refine x_isub dX7_back_118 ?_
    refine x_iload dX7_back_119 rfl ?_
    refine x_isub dX7_back_121 ?_
    obtain ⟨t29, ht2, hc, hT⟩ := hT
    obtain ⟨hb, hT⟩ := hT
    obtain ⟨a30, ev, hT⟩ := hT
    refine c_faald dX7_back_122 hc ht2 hb hW ev ?_
    obtain ⟨hc, hv, hzb, hT⟩ := hT
    obtain ⟨hb, hz, hT⟩ := hT
    refine c_faastAG dX7_back_123 hc hv hzb hb hz hW hF ?_
    intro f31 ef31 h hW hF
    replace hT := hT f31 ef31
    refine x_iinc (lo' := [none, none, none, some (.int b3), some (.ref b4), some (.ref b5), some (.int (b6 + 1))]) dX7_back_124 rfl (show _ = (b6 + 1) from rfl) rfl ?_
    refine x_goto (tgt := 101) dX7_back_127 rfl ?_
    exact hT f0 h hW hF
theorem vX7_back_149 {l : Launch} {E : EN} {w : CO} {d : Nat} {s : CS} {f : RH} {Q : KO → CS → RH → Prop} {b1 : Nat} {b3 : Int32} {b4 : Nat} {b5 : Int32}  (hT : ((b3 ≤ b5 → (rmF E f 1 3 ∧ ∀ (a32 : Nat) (f33 : RH), a32 = f.1 → f33 = fnew f 31 → (EvC l E w d MX34_init [.ref a32, .ref b4] s f33 (fun o s34 f35 => KP o (fun r => r = none ∧ Q (.inl (some (.ref a32))) s34 f35) (fun k => Q (.inr k) s34 f35))))) ∧ (¬ b3 ≤ b5 → (tg f b1 = some (.inl 31) ∧ (oc f b1 31 ∧ (∃ a36 : Nat, vl f b1 206 = .ref a36 ∧ (∃ t37 : Nat, 4 ≤ t37 ∧ (tg f a36 = some (.inr t37) ∧ inB ((b3 - 1) - b5) (ln f a36) ∧ (∃ a38 : Nat, vl f a36 ((b3 - 1) - b5).toNatClampNeg = .ref a38 ∧ (∃ k40 : Nat, (tg f b4 = some (.inr 4) ∧ tg f a38 = some (.inl k40) ∧ k40 ∈ CKs 4 ∧ inB b5 (ln f b4) ∧ f.2.2.2 ≤ b4 ∧ ∀ f39 : RH, f39 = fset f b4 b5.toNatClampNeg (.ref a38) → ExC l E w (d + 1) MX7_back 149 [none, some (.ref b1), none, some (.int b3), some (.ref b4), some (.int (b5 + 1)), none] [] s f39 Q))))))))))) : ExC l E w (d + 1) MX7_back 149 [none, some (.ref b1), none, some (.int b3), some (.ref b4), some (.int b5), none] [] s f Q := by
  intro f0 h hW hF
  refine x_iload dX7_back_149 rfl ?_
  refine x_iload_n dX7_back_151 rfl rfl ?_
  refine x_icmp_ge (tgt := 180) dX7_back_152 rfl (fun c => ?_) (fun c => ?_)
  · replace hT := hT.1 c
    obtain ⟨hr, hT⟩ := hT
    refine c_newG (k := 31) dX7_back_180 (by decide) q1812 q209 hr hW hF ?_
    intro a32 f33 ea32 ef33 h hW hF
    replace hT := hT a32 f33 ea32 ef33
    refine x_dup dX7_back_183 rfl ?_
    refine x_aload dX7_back_184 rfl rfl ?_
    refine c_invI (b := a32) (vs := [.ref b4]) dX7_back_186 oX34_init rfl rfl rfl q1559 (Or.inl q1813) rfl rfl (Nat.le_of_ble_eq_true rfl) rfl hW hF hT ?_ ?_
    · intro _ s34 f35 hT h hW hF
      obtain ⟨rfl, hT⟩ := hT
      exact x_aret dX7_back_189 rfl (by first | exact Or.inl ⟨_, rfl⟩ | exact Or.inr ⟨_, rfl⟩) rfl ⟨_, _, hW, hF, Or.inl ⟨_, rfl, hT⟩⟩
    · intro k s34 f35 hT h a hW hx hF
      exact c_out (rfl) hW hx hF hT
  · replace hT := hT.2 c
    refine x_aload dX7_back_155 rfl rfl ?_
    refine x_iload dX7_back_157 rfl ?_
    refine x_aload_n dX7_back_159 rfl rfl rfl ?_
    obtain ⟨hc, hT⟩ := hT
    refine c_cast (K := 31) dX7_back_160 q1812 hc hW ?_
    obtain ⟨hc, hT⟩ := hT
    obtain ⟨a36, ev, hT⟩ := hT
    refine c_fgetG dX7_back_163 f_TallySlate_Works_172 hc (by decide) (by decide) hW ev ?_
    refine x_iload_n dX7_back_166 rfl rfl ?_
    refine x_iconst (v := 1) dX7_back_167 rfl ?_
    refine x_isub dX7_back_168 ?_
    refine x_iload dX7_back_169 rfl ?_
    refine x_isub dX7_back_171 ?_
    obtain ⟨t37, ht2, hc, hT⟩ := hT
    obtain ⟨hb, hT⟩ := hT
    obtain ⟨a38, ev, hT⟩ := hT
    refine c_faald dX7_back_172 hc ht2 hb hW ev ?_
    obtain ⟨k40, hc, hv, hck, hT⟩ := hT
    obtain ⟨hb, hz, hT⟩ := hT
    refine c_faastG dX7_back_173 hc (by decide) hv hck hb hz hW hF ?_
    intro f39 ef39 h hW hF
    replace hT := hT f39 ef39
    refine x_iinc (lo' := [none, some (.ref b1), none, some (.int b3), some (.ref b4), some (.int (b5 + 1)), none]) dX7_back_174 rfl (show _ = (b5 + 1) from rfl) rfl ?_
    refine x_goto (tgt := 149) dX7_back_177 rfl ?_
    exact hT f0 h hW hF
theorem vX7_intsOf_0 {l : Launch} {E : EN} {w : CO} {d : Nat} {s : CS} {f : RH} {Q : KO → CS → RH → Prop} {x1 : Value} (ix1 : isR x1 = true) (hT : (isT f x1 ∧ ((∀ a2 : Nat, x1 = .ref a2 → tg f a2 = some (.inl 29) → (tg f a2 = some (.inl 29) ∧ (oc f a2 29 ∧ (∃ a3 : Nat, vl f a2 203 = .ref a3 ∧ (∃ t4 : Nat, tg f a3 = some (.inr t4) ∧ Q (.inl (some (.int (nI (ln f a3))))) s f))))) ∧ ((∀ z : Nat, x1 = .ref z → ¬ tg f z = some (.inl 29)) → Q (.inl (some (.int 1))) s f)))) : ExC l E w d MX7_intsOf 0 [some (x1), none] [] s f Q := by
  intro f0 h hW hF
  refine x_aload_n dX7_intsOf_0 rfl rfl ix1 ?_
  obtain ⟨ht, hT⟩ := hT
  refine c_instV (K := 29) dX7_intsOf_1 (by decide) q1755 ht hW (fun a2 ec hi1 => ?_) (fun hi1 => ?_)
  · subst ec
    replace hT := hT.1 a2 rfl hi1
    refine x_if_eq (tgt := 20) dX7_intsOf_4 rfl (fun c => absurd c (by decide)) (fun _ => ?_)
    refine x_aload_n dX7_intsOf_7 rfl rfl rfl ?_
    obtain ⟨hc, hT⟩ := hT
    refine c_cast (K := 29) dX7_intsOf_8 q1755 hc hW ?_
    refine x_astore_n (lo' := [some (.ref a2), some (.ref a2)]) dX7_intsOf_11 rfl (Nat.le_of_ble_eq_true rfl) rfl rfl ?_
    refine x_aload_n dX7_intsOf_12 rfl rfl rfl ?_
    obtain ⟨hc, hT⟩ := hT
    obtain ⟨a3, ev, hT⟩ := hT
    refine c_fgetG dX7_intsOf_13 f_TallySlate_Works_66 hc (by decide) (by decide) hW ev ?_
    obtain ⟨t4, hc, hT⟩ := hT
    refine c_alen dX7_intsOf_16 hc hW ?_
    refine x_goto (tgt := 21) dX7_intsOf_17 rfl ?_
    exact x_iret dX7_intsOf_21 rfl rfl ⟨_, _, hW, hF, Or.inl ⟨_, rfl, hT⟩⟩
  · replace hT := hT.2 hi1
    refine x_if_eq (tgt := 20) dX7_intsOf_4 rfl (fun _ => ?_) (fun c => absurd c (by decide))
    refine x_iconst (v := 1) dX7_intsOf_20 rfl ?_
    exact x_iret dX7_intsOf_21 rfl rfl ⟨_, _, hW, hF, Or.inl ⟨_, rfl, hT⟩⟩
theorem eX7_intsOf {l : Launch} {E : EN} {w : CO} {d : Nat} {s : CS} {f : RH} {Q : KO → CS → RH → Prop} {x1 : Value} (ix1 : isR x1 = true) (hst : l.stackTraces = false) (hT : (isT f x1 ∧ ((∀ a2 : Nat, x1 = .ref a2 → tg f a2 = some (.inl 29) → (tg f a2 = some (.inl 29) ∧ (oc f a2 29 ∧ (∃ a3 : Nat, vl f a2 203 = .ref a3 ∧ (∃ t4 : Nat, tg f a3 = some (.inr t4) ∧ Q (.inl (some (.int (nI (ln f a3))))) s f))))) ∧ ((∀ z : Nat, x1 = .ref z → ¬ tg f z = some (.inl 29)) → Q (.inl (some (.int 1))) s f)))) : EvC l E w d MX7_intsOf [x1] s f Q :=by
  rcases isR_cases ix1 with rfl | ⟨_, rfl⟩ <;> exact
  
  EvC.of hst (by decide) (Nat.le_of_ble_eq_true rfl) (vX7_intsOf_0 ix1 hT)
theorem vX7_turned_0 {l : Launch} {E : EN} {w : CO} {d : Nat} {s : CS} {f : RH} {Q : KO → CS → RH → Prop} {x1 : Nat} {x2 : Int32}  (hT : (oc f x1 30 ∧ EvC l E w d MX33_widest [.ref x1] s f (fun o s1 f2 => KP o (fun r => ∃ v3 : Int32, r = some (.int v3) ∧ ((v3 ≤ 20 → (¬ v3 < 0 ∧ v3.toNatClampNeg ≤ 60000000 ∧ rmF E f2 1 v3.toNatClampNeg ∧ ∀ (a4 : Nat) (f5 : RH), a4 = f2.1 → f5 = fnewA f2 0 v3.toNatClampNeg → ExC l E w (d + 1) MX7_turned 29 [none, some (.ref x1), none, some (.int v3), some (.ref a4), some (.int 0), none, none] [] s1 f5 Q)) ∧ (¬ v3 ≤ 20 → (EvC l E w d MX3_wrong [.ref (w.1 3), .int 2, .int x2] s1 f2 (fun o s6 f7 => KP o (fun r => r = some (.ref (w.1 9)) ∧ Q (.inr 9) s6 f7) (fun k => Q (.inr k) s6 f7)))))) (fun k => Q (.inr k) s1 f2)))) : ExC l E w (d + 1) MX7_turned 0 [some (.ref (w.1 7)), some (.ref x1), some (.int x2), none, none, none, none, none] [] s f Q := by
  intro f0 h hW hF
  refine x_aload_n dX7_turned_0 rfl rfl rfl ?_
  obtain ⟨hc, hT⟩ := hT
  obtain ⟨cc, hcc⟩ := hW.ocell hc
  refine c_invV (vs := []) dX7_turned_1 oX33_widest q1833 q1832 hcc q1834 (Or.inl rfl) rfl rfl (Nat.le_of_ble_eq_true rfl) rfl hW hF hT ?_ ?_
  · intro _ s1 f2 hT h hW hF
    obtain ⟨v3, rfl, hT⟩ := hT
    refine x_istore_n (lo' := [some (.ref (w.1 7)), some (.ref x1), some (.int x2), some (.int v3), none, none, none, none]) dX7_turned_4 rfl (Nat.le_of_ble_eq_true rfl) rfl ?_
    refine x_iload_n dX7_turned_5 rfl rfl ?_
    refine x_bipush (v := 20) dX7_turned_6 rfl ?_
    refine x_icmp_le (tgt := 21) dX7_turned_8 rfl (fun c => ?_) (fun c => ?_)
    · replace hT := hT.1 c
      refine x_iload_n dX7_turned_21 rfl rfl ?_
      obtain ⟨hn, hT⟩ := hT
      obtain ⟨hb, hr, hT⟩ := hT
      refine c_newarrayG (t := 0) dX7_turned_22 (by decide) rfl hn hb hr hW hF ?_
      intro a4 f5 ea4 ef5 h hW hF
      replace hT := hT a4 f5 ea4 ef5
      refine x_astore (lo' := [some (.ref (w.1 7)), some (.ref x1), some (.int x2), some (.int v3), some (.ref a4), none, none, none]) dX7_turned_24 (Nat.le_of_ble_eq_true rfl) rfl rfl ?_
      refine x_iconst (v := 0) dX7_turned_26 rfl ?_
      refine x_istore (lo' := [some (.ref (w.1 7)), some (.ref x1), some (.int x2), some (.int v3), some (.ref a4), some (.int 0), none, none]) dX7_turned_27 (Nat.le_of_ble_eq_true rfl) rfl ?_
      refine Ex.wkl (lo' := [none, some (.ref x1), none, some (.int v3), some (.ref a4), some (.int 0), none, none]) ⟨rfl, rfl, rfl, rfl, trivial⟩ ?_
      exact hT f0 h hW hF
    · replace hT := hT.2 c
      refine x_aload_n dX7_turned_11 rfl rfl rfl ?_
      refine c_getO dX7_turned_12 f_TallySlate_Works_9 (by decide) (by decide) rfl hW ?_
      refine x_iconst (v := 2) dX7_turned_15 rfl ?_
      refine x_iload_n dX7_turned_16 rfl rfl ?_
      obtain ⟨-, -, cc, hcc, -⟩ := hW.ob 3 (by decide)
      refine c_invV (vs := [.int 2, .int x2]) dX7_turned_17 oX3_wrong q1323 q1745 hcc q1324 (Or.inl rfl) rfl rfl (Nat.le_of_ble_eq_true rfl) rfl hW hF hT ?_ ?_
      · intro _ s6 f7 hT h hW hF
        obtain ⟨rfl, hT⟩ := hT
        refine x_athrow dX7_turned_20 ?_
        exact c_out (rfl) hW (Or.inl ⟨rfl, rfl⟩) hF hT
      · intro k s6 f7 hT h a hW hx hF
        exact c_out (rfl) hW hx hF hT
  · intro k s1 f2 hT h a hW hx hF
    exact c_out (rfl) hW hx hF hT
theorem eX7_turned {l : Launch} {E : EN} {w : CO} {d : Nat} {s : CS} {f : RH} {Q : KO → CS → RH → Prop} {x1 : Nat} {x2 : Int32}  (hst : l.stackTraces = false) (hT : (oc f x1 30 ∧ EvC l E w d MX33_widest [.ref x1] s f (fun o s1 f2 => KP o (fun r => ∃ v3 : Int32, r = some (.int v3) ∧ ((v3 ≤ 20 → (¬ v3 < 0 ∧ v3.toNatClampNeg ≤ 60000000 ∧ rmF E f2 1 v3.toNatClampNeg ∧ ∀ (a4 : Nat) (f5 : RH), a4 = f2.1 → f5 = fnewA f2 0 v3.toNatClampNeg → ExC l E w (d + 1) MX7_turned 29 [none, some (.ref x1), none, some (.int v3), some (.ref a4), some (.int 0), none, none] [] s1 f5 Q)) ∧ (¬ v3 ≤ 20 → (EvC l E w d MX3_wrong [.ref (w.1 3), .int 2, .int x2] s1 f2 (fun o s6 f7 => KP o (fun r => r = some (.ref (w.1 9)) ∧ Q (.inr 9) s6 f7) (fun k => Q (.inr k) s6 f7)))))) (fun k => Q (.inr k) s1 f2)))) : EvC l E w (d + 1) MX7_turned [.ref (w.1 7), .ref x1, .int x2] s f Q :=
  EvC.of hst (by decide) (Nat.le_of_ble_eq_true rfl) (vX7_turned_0  hT)
theorem vX7_turned_29 {l : Launch} {E : EN} {w : CO} {d : Nat} {s : CS} {f : RH} {Q : KO → CS → RH → Prop} {b1 : Nat} {b3 : Int32} {b4 : Nat} {b5 : Int32}  (hT : (oc f b1 30 ∧ (∃ a9 : Nat, vl f b1 204 = .ref a9 ∧ (∃ t10 : Nat, tg f a9 = some (.inr t10) ∧ (((nI (ln f a9)) ≤ b5 → (¬ b3 < 0 ∧ b3.toNatClampNeg ≤ 60000000 ∧ rmF E f 1 b3.toNatClampNeg ∧ ∀ (a11 : Nat) (f12 : RH), a11 = f.1 → f12 = fnewA f 11 b3.toNatClampNeg → ExC l E w (d + 1) MX7_turned 85 [none, some (.ref b1), none, some (.int b3), some (.ref b4), some (.ref a11), some (.int 0), none] [] s f12 Q)) ∧ (¬ (nI (ln f a9)) ≤ b5 → ExC l E w (d + 1) MX7_turned 42 [none, some (.ref b1), none, some (.int b3), some (.ref b4), some (.int b5), some (.int 0), none] [] s f Q)))))) : ExC l E w (d + 1) MX7_turned 29 [none, some (.ref b1), none, some (.int b3), some (.ref b4), some (.int b5), none, none] [] s f Q := by
  intro f0 h hW hF
  refine x_iload dX7_turned_29 rfl ?_
  refine x_aload_n dX7_turned_31 rfl rfl rfl ?_
  obtain ⟨hc, hT⟩ := hT
  obtain ⟨a9, ev, hT⟩ := hT
  refine c_fgetG dX7_turned_32 f_TallySlate_Works_128 hc (by decide) (by decide) hW ev ?_
  obtain ⟨t10, hc, hT⟩ := hT
  refine c_alen dX7_turned_35 hc hW ?_
  refine x_icmp_ge (tgt := 76) dX7_turned_36 rfl (fun c => ?_) (fun c => ?_)
  · replace hT := hT.1 c
    refine x_iload_n dX7_turned_76 rfl rfl ?_
    obtain ⟨hn, hT⟩ := hT
    obtain ⟨hb, hr, hT⟩ := hT
    refine c_anewarrayG (t := 11) dX7_turned_77 (by decide) (by decide) (by decide) rfl q1463 (Or.inr ⟨_, rfl, q1798⟩) hn hb hr hW hF ?_
    intro a11 f12 ea11 ef12 h hW hF
    replace hT := hT a11 f12 ea11 ef12
    refine x_astore (lo' := [none, some (.ref b1), none, some (.int b3), some (.ref b4), some (.ref a11), none, none]) dX7_turned_80 (Nat.le_of_ble_eq_true rfl) rfl rfl ?_
    refine x_iconst (v := 0) dX7_turned_82 rfl ?_
    refine x_istore (lo' := [none, some (.ref b1), none, some (.int b3), some (.ref b4), some (.ref a11), some (.int 0), none]) dX7_turned_83 (Nat.le_of_ble_eq_true rfl) rfl ?_
    exact hT f0 h hW hF
  · replace hT := hT.2 c
    refine x_iconst (v := 0) dX7_turned_39 rfl ?_
    refine x_istore (lo' := [none, some (.ref b1), none, some (.int b3), some (.ref b4), some (.int b5), some (.int 0), none]) dX7_turned_40 (Nat.le_of_ble_eq_true rfl) rfl ?_
    exact hT f0 h hW hF
theorem vX7_turned_85 {l : Launch} {E : EN} {w : CO} {d : Nat} {s : CS} {f : RH} {Q : KO → CS → RH → Prop} {b1 : Nat} {b3 : Int32} {b4 : Nat} {b5 : Nat} {b6 : Int32}  (hT : ((b3 ≤ b6 → (oc f b1 30 ∧ (∃ a13 : Nat, vl f b1 204 = .ref a13 ∧ (∃ t14 : Nat, tg f a13 = some (.inr t14) ∧ (∀ y15 : Int32, y15 = ((nI (ln f a13)) - 1) → ExC l E w (d + 1) MX7_turned 118 [none, some (.ref b1), none, none, some (.ref b4), some (.ref b5), some (.int y15), none] [] s f Q))))) ∧ (¬ b3 ≤ b6 → (tg f b4 = some (.inr 0) ∧ inB b6 (ln f b4) ∧ (∃ v16 : Int32, vl f b4 b6.toNatClampNeg = .int v16 ∧ (¬ v16 < 0 ∧ v16.toNatClampNeg ≤ 60000000 ∧ rmF E f 1 v16.toNatClampNeg ∧ ∀ (a17 : Nat) (f18 : RH), a17 = f.1 → f18 = fnewA f 0 v16.toNatClampNeg → (tg f18 b5 = some (.inr 11) ∧ tg f18 a17 = some (.inr 0) ∧ ez E ≤ a17 ∧ inB b6 (ln f18 b5) ∧ f18.2.2.2 ≤ b5 ∧ ∀ f19 : RH, f19 = fset f18 b5 b6.toNatClampNeg (.ref a17) → ExC l E w (d + 1) MX7_turned 85 [none, some (.ref b1), none, some (.int b3), some (.ref b4), some (.ref b5), some (.int (b6 + 1)), none] [] s f19 Q))))))) : ExC l E w (d + 1) MX7_turned 85 [none, some (.ref b1), none, some (.int b3), some (.ref b4), some (.ref b5), some (.int b6), none] [] s f Q := by
  intro f0 h hW hF
  refine x_iload dX7_turned_85 rfl ?_
  refine x_iload_n dX7_turned_87 rfl rfl ?_
  refine x_icmp_ge (tgt := 109) dX7_turned_88 rfl (fun c => ?_) (fun c => ?_)
  · replace hT := hT.1 c
    refine x_aload_n dX7_turned_109 rfl rfl rfl ?_
    obtain ⟨hc, hT⟩ := hT
    obtain ⟨a13, ev, hT⟩ := hT
    refine c_fgetG dX7_turned_110 f_TallySlate_Works_128 hc (by decide) (by decide) hW ev ?_
    obtain ⟨t14, hc, hT⟩ := hT
    refine c_alen dX7_turned_113 hc hW ?_
    refine x_iconst (v := 1) dX7_turned_114 rfl ?_
    refine x_isub dX7_turned_115 ?_
    obtain ⟨y15, ey15⟩ : ∃ z : Int32, z = ((nI (ln f a13)) - 1) := ⟨_, rfl⟩
    replace hT := hT y15 ey15
    refine x_istore (lo' := [none, some (.ref b1), none, some (.int b3), some (.ref b4), some (.ref b5), some (.int y15), none]) dX7_turned_116 (Nat.le_of_ble_eq_true rfl) (by rw [ey15]; exact rfl) ?_
    refine Ex.wkl (lo' := [none, some (.ref b1), none, none, some (.ref b4), some (.ref b5), some (.int y15), none]) ⟨rfl, rfl, rfl, rfl, trivial⟩ ?_
    exact hT f0 h hW hF
  · replace hT := hT.2 c
    refine x_aload dX7_turned_91 rfl rfl ?_
    refine x_iload dX7_turned_93 rfl ?_
    refine x_aload dX7_turned_95 rfl rfl ?_
    refine x_iload dX7_turned_97 rfl ?_
    obtain ⟨hc, hT⟩ := hT
    obtain ⟨hb, hT⟩ := hT
    obtain ⟨v16, ev, hT⟩ := hT
    refine c_fiald dX7_turned_99 hc hb hW ev ?_
    obtain ⟨hn, hT⟩ := hT
    obtain ⟨hb, hr, hT⟩ := hT
    refine c_newarrayG (t := 0) dX7_turned_100 (by decide) rfl hn hb hr hW hF ?_
    intro a17 f18 ea17 ef18 h hW hF
    replace hT := hT a17 f18 ea17 ef18
    obtain ⟨hc, hv, hzb, hT⟩ := hT
    obtain ⟨hb, hz, hT⟩ := hT
    refine c_faastAG dX7_turned_102 hc hv hzb hb hz hW hF ?_
    intro f19 ef19 h hW hF
    replace hT := hT f19 ef19
    refine x_iinc (lo' := [none, some (.ref b1), none, some (.int b3), some (.ref b4), some (.ref b5), some (.int (b6 + 1)), none]) dX7_turned_103 rfl (show _ = (b6 + 1) from rfl) rfl ?_
    refine x_goto (tgt := 85) dX7_turned_106 rfl ?_
    exact hT f0 h hW hF
theorem vX7_turned_42 {l : Launch} {E : EN} {w : CO} {d : Nat} {s : CS} {f : RH} {Q : KO → CS → RH → Prop} {b1 : Nat} {b3 : Int32} {b4 : Nat} {b5 : Int32} {b6 : Int32}  (hT : (oc f b1 30 ∧ (∃ a20 : Nat, vl f b1 204 = .ref a20 ∧ (∃ t21 : Nat, 4 ≤ t21 ∧ (tg f a20 = some (.inr t21) ∧ inB b5 (ln f a20) ∧ (∃ a22 : Nat, vl f a20 b5.toNatClampNeg = .ref a22 ∧ (∃ t23 : Nat, tg f a22 = some (.inr t23) ∧ (((nI (ln f a22)) ≤ b6 → ExC l E w (d + 1) MX7_turned 29 [none, some (.ref b1), none, some (.int b3), some (.ref b4), some (.int (b5 + 1)), none, none] [] s f Q) ∧ (¬ (nI (ln f a22)) ≤ b6 → (tg f b4 = some (.inr 0) ∧ inB b6 (ln f b4) ∧ (∃ v24 : Int32, vl f b4 b6.toNatClampNeg = .int v24 ∧ (tg f b4 = some (.inr 0) ∧ inB b6 (ln f b4) ∧ f.2.2.2 ≤ b4 ∧ ∀ f25 : RH, f25 = fset f b4 b6.toNatClampNeg (.int (v24 + 1)) → ExC l E w (d + 1) MX7_turned 42 [none, some (.ref b1), none, some (.int b3), some (.ref b4), some (.int b5), some (.int (b6 + 1)), none] [] s f25 Q)))))))))))) : ExC l E w (d + 1) MX7_turned 42 [none, some (.ref b1), none, some (.int b3), some (.ref b4), some (.int b5), some (.int b6), none] [] s f Q := by
  intro f0 h hW hF
  refine x_iload dX7_turned_42 rfl ?_
  refine x_aload_n dX7_turned_44 rfl rfl rfl ?_
  obtain ⟨hc, hT⟩ := hT
  obtain ⟨a20, ev, hT⟩ := hT
  refine c_fgetG dX7_turned_45 f_TallySlate_Works_128 hc (by decide) (by decide) hW ev ?_
  refine x_iload dX7_turned_48 rfl ?_
  obtain ⟨t21, ht2, hc, hT⟩ := hT
  obtain ⟨hb, hT⟩ := hT
  obtain ⟨a22, ev, hT⟩ := hT
  refine c_faald dX7_turned_50 hc ht2 hb hW ev ?_
  obtain ⟨t23, hc, hT⟩ := hT
  refine c_alen dX7_turned_51 hc hW ?_
  refine x_icmp_ge (tgt := 70) dX7_turned_52 rfl (fun c => ?_) (fun c => ?_)
  · replace hT := hT.1 c
    refine x_iinc (lo' := [none, some (.ref b1), none, some (.int b3), some (.ref b4), some (.int (b5 + 1)), some (.int b6), none]) dX7_turned_70 rfl (show _ = (b5 + 1) from rfl) rfl ?_
    refine x_goto (tgt := 29) dX7_turned_73 rfl ?_
    refine Ex.wkl (lo' := [none, some (.ref b1), none, some (.int b3), some (.ref b4), some (.int (b5 + 1)), none, none]) ⟨rfl, rfl, rfl, rfl, trivial⟩ ?_
    exact hT f0 h hW hF
  · replace hT := hT.2 c
    refine x_aload dX7_turned_55 rfl rfl ?_
    refine x_iload dX7_turned_57 rfl ?_
    refine x_dup2 dX7_turned_59 rfl rfl ?_
    obtain ⟨hc, hT⟩ := hT
    obtain ⟨hb, hT⟩ := hT
    obtain ⟨v24, ev, hT⟩ := hT
    refine c_fiald dX7_turned_60 hc hb hW ev ?_
    refine x_iconst (v := 1) dX7_turned_61 rfl ?_
    refine x_iadd dX7_turned_62 ?_
    obtain ⟨hc, hT⟩ := hT
    obtain ⟨hb, hz, hT⟩ := hT
    refine c_fiastG dX7_turned_63 hc hb hz hW hF ?_
    intro f25 ef25 h hW hF
    replace hT := hT f25 ef25
    refine x_iinc (lo' := [none, some (.ref b1), none, some (.int b3), some (.ref b4), some (.int b5), some (.int (b6 + 1)), none]) dX7_turned_64 rfl (show _ = (b6 + 1) from rfl) rfl ?_
    refine x_goto (tgt := 42) dX7_turned_67 rfl ?_
    exact hT f0 h hW hF
theorem vX7_turned_118 {l : Launch} {E : EN} {w : CO} {d : Nat} {s : CS} {f : RH} {Q : KO → CS → RH → Prop} {b1 : Nat} {b4 : Nat} {b5 : Nat} {b6 : Int32}  (hT : ((b6 < 0 → Q (.inl (some (.ref b5))) s f) ∧ (¬ b6 < 0 → ExC l E w (d + 1) MX7_turned 126 [none, some (.ref b1), none, none, some (.ref b4), some (.ref b5), some (.int b6), some (.int 0)] [] s f Q))) : ExC l E w (d + 1) MX7_turned 118 [none, some (.ref b1), none, none, some (.ref b4), some (.ref b5), some (.int b6), none] [] s f Q := by
  intro f0 h hW hF
  refine x_iload dX7_turned_118 rfl ?_
  refine x_if_lt (tgt := 181) dX7_turned_120 rfl (fun c => ?_) (fun c => ?_)
  · replace hT := hT.1 c
    refine x_aload dX7_turned_181 rfl rfl ?_
    exact x_aret dX7_turned_183 rfl (by first | exact Or.inl ⟨_, rfl⟩ | exact Or.inr ⟨_, rfl⟩) rfl ⟨_, _, hW, hF, Or.inl ⟨_, rfl, hT⟩⟩
  · replace hT := hT.2 c
    refine x_iconst (v := 0) dX7_turned_123 rfl ?_
    refine x_istore (lo' := [none, some (.ref b1), none, none, some (.ref b4), some (.ref b5), some (.int b6), some (.int 0)]) dX7_turned_124 (Nat.le_of_ble_eq_true rfl) rfl ?_
    exact hT f0 h hW hF
set_option maxHeartbeats 16000000 in
theorem vX7_turned_126 {l : Launch} {E : EN} {w : CO} {d : Nat} {s : CS} {f : RH} {Q : KO → CS → RH → Prop} {b1 : Nat} {b4 : Nat} {b5 : Nat} {b6 : Int32} {b7 : Int32}  (hT : (oc f b1 30 ∧ (∃ a26 : Nat, vl f b1 204 = .ref a26 ∧ (∃ t27 : Nat, 4 ≤ t27 ∧ (tg f a26 = some (.inr t27) ∧ inB b6 (ln f a26) ∧ (∃ a28 : Nat, vl f a26 b6.toNatClampNeg = .ref a28 ∧ (∃ t29 : Nat, tg f a28 = some (.inr t29) ∧ (((nI (ln f a28)) ≤ b7 → ExC l E w (d + 1) MX7_turned 118 [none, some (.ref b1), none, none, some (.ref b4), some (.ref b5), some (.int (b6 + (-1))), none] [] s f Q) ∧ (¬ (nI (ln f a28)) ≤ b7 → (tg f b4 = some (.inr 0) ∧ inB b7 (ln f b4) ∧ (∃ v30 : Int32, vl f b4 b7.toNatClampNeg = .int v30 ∧ (tg f b4 = some (.inr 0) ∧ inB b7 (ln f b4) ∧ f.2.2.2 ≤ b4 ∧ ∀ f31 : RH, f31 = fset f b4 b7.toNatClampNeg (.int (v30 - 1)) → (∃ t32 : Nat, 4 ≤ t32 ∧ (tg f31 b5 = some (.inr t32) ∧ inB b7 (ln f31 b5) ∧ (∃ a33 : Nat, vl f31 b5 b7.toNatClampNeg = .ref a33 ∧ (tg f31 b4 = some (.inr 0) ∧ inB b7 (ln f31 b4) ∧ (∃ v34 : Int32, vl f31 b4 b7.toNatClampNeg = .int v34 ∧ (oc f31 b1 30 ∧ (∃ a35 : Nat, vl f31 b1 204 = .ref a35 ∧ (∃ t36 : Nat, 4 ≤ t36 ∧ (tg f31 a35 = some (.inr t36) ∧ inB b6 (ln f31 a35) ∧ (∃ a37 : Nat, vl f31 a35 b6.toNatClampNeg = .ref a37 ∧ (tg f31 a37 = some (.inr 0) ∧ inB b7 (ln f31 a37) ∧ (∃ v38 : Int32, vl f31 a37 b7.toNatClampNeg = .int v38 ∧ (tg f31 a33 = some (.inr 0) ∧ inB v34 (ln f31 a33) ∧ f31.2.2.2 ≤ a33 ∧ ∀ f39 : RH, f39 = fset f31 a33 v34.toNatClampNeg (.int v38) → ExC l E w (d + 1) MX7_turned 126 [none, some (.ref b1), none, none, some (.ref b4), some (.ref b5), some (.int b6), some (.int (b7 + 1))] [] s f39 Q))))))))))))))))))))))))) : ExC l E w (d + 1) MX7_turned 126 [none, some (.ref b1), none, none, some (.ref b4), some (.ref b5), some (.int b6), some (.int b7)] [] s f Q := by
  intro f0 h hW hF
  refine x_iload dX7_turned_126 rfl ?_
  refine x_aload_n dX7_turned_128 rfl rfl rfl ?_
  obtain ⟨hc, hT⟩ := hT
  obtain ⟨a26, ev, hT⟩ := hT
  refine c_fgetG dX7_turned_129 f_TallySlate_Works_128 hc (by decide) (by decide) hW ev ?_
  refine x_iload dX7_turned_132 rfl ?_
  obtain ⟨t27, ht2, hc, hT⟩ := hT
  obtain ⟨hb, hT⟩ := hT
  obtain ⟨a28, ev, hT⟩ := hT
  refine c_faald dX7_turned_134 hc ht2 hb hW ev ?_
  obtain ⟨t29, hc, hT⟩ := hT
  refine c_alen dX7_turned_135 hc hW ?_
  refine x_icmp_ge (tgt := 175) dX7_turned_136 rfl (fun c => ?_) (fun c => ?_)
  · replace hT := hT.1 c
    refine x_iinc (lo' := [none, some (.ref b1), none, none, some (.ref b4), some (.ref b5), some (.int (b6 + (-1))), some (.int b7)]) dX7_turned_175 rfl (show _ = (b6 + (-1)) from rfl) rfl ?_
    refine x_goto (tgt := 118) dX7_turned_178 rfl ?_
    refine Ex.wkl (lo' := [none, some (.ref b1), none, none, some (.ref b4), some (.ref b5), some (.int (b6 + (-1))), none]) ⟨rfl, rfl, rfl, rfl, trivial⟩ ?_
    exact hT f0 h hW hF
  · replace hT := hT.2 c
    refine x_aload dX7_turned_139 rfl rfl ?_
    refine x_iload dX7_turned_141 rfl ?_
    refine x_dup2 dX7_turned_143 rfl rfl ?_
    obtain ⟨hc, hT⟩ := hT
    obtain ⟨hb, hT⟩ := hT
    obtain ⟨v30, ev, hT⟩ := hT
    refine c_fiald dX7_turned_144 hc hb hW ev ?_
    refine x_iconst (v := 1) dX7_turned_145 rfl ?_
    refine x_isub dX7_turned_146 ?_
    obtain ⟨hc, hT⟩ := hT
    obtain ⟨hb, hz, hT⟩ := hT
    refine c_fiastG dX7_turned_147 hc hb hz hW hF ?_
    intro f31 ef31 h hW hF
    replace hT := hT f31 ef31
    refine x_aload dX7_turned_148 rfl rfl ?_
    refine x_iload dX7_turned_150 rfl ?_
    obtain ⟨t32, ht2, hc, hT⟩ := hT
    obtain ⟨hb, hT⟩ := hT
    obtain ⟨a33, ev, hT⟩ := hT
    refine c_faald dX7_turned_152 hc ht2 hb hW ev ?_
    refine x_aload dX7_turned_153 rfl rfl ?_
    refine x_iload dX7_turned_155 rfl ?_
    obtain ⟨hc, hT⟩ := hT
    obtain ⟨hb, hT⟩ := hT
    obtain ⟨v34, ev, hT⟩ := hT
    refine c_fiald dX7_turned_157 hc hb hW ev ?_
    refine x_aload_n dX7_turned_158 rfl rfl rfl ?_
    obtain ⟨hc, hT⟩ := hT
    obtain ⟨a35, ev, hT⟩ := hT
    refine c_fgetG dX7_turned_159 f_TallySlate_Works_128 hc (by decide) (by decide) hW ev ?_
    refine x_iload dX7_turned_162 rfl ?_
    obtain ⟨t36, ht2, hc, hT⟩ := hT
    obtain ⟨hb, hT⟩ := hT
    obtain ⟨a37, ev, hT⟩ := hT
    refine c_faald dX7_turned_164 hc ht2 hb hW ev ?_
    refine x_iload dX7_turned_165 rfl ?_
    obtain ⟨hc, hT⟩ := hT
    obtain ⟨hb, hT⟩ := hT
    obtain ⟨v38, ev, hT⟩ := hT
    refine c_fiald dX7_turned_167 hc hb hW ev ?_
    obtain ⟨hc, hT⟩ := hT
    obtain ⟨hb, hz, hT⟩ := hT
    refine c_fiastG dX7_turned_168 hc hb hz hW hF ?_
    intro f39 ef39 h hW hF
    replace hT := hT f39 ef39
    refine x_iinc (lo' := [none, some (.ref b1), none, none, some (.ref b4), some (.ref b5), some (.int b6), some (.int (b7 + 1))]) dX7_turned_169 rfl (show _ = (b7 + 1) from rfl) rfl ?_
    refine x_goto (tgt := 126) dX7_turned_172 rfl ?_
    exact hT f0 h hW hF
theorem vX7_group_0 {l : Launch} {E : EN} {w : CO} {d : Nat} {s : CS} {f : RH} {Q : KO → CS → RH → Prop} {x1 : Nat} {x2 : Int32}  (hT : ExC l E w (d + 1) MX7_group 8 [some (.ref (w.1 7)), some (.ref x1), some (.int x2), some (.int (-1)), some (.int 0), some (.int 0), none, none] [] s f Q) : ExC l E w (d + 1) MX7_group 0 [some (.ref (w.1 7)), some (.ref x1), some (.int x2), none, none, none, none, none] [] s f Q := by
  intro f0 h hW hF
  refine x_iconst (v := (-1)) dX7_group_0 rfl ?_
  refine x_istore_n (lo' := [some (.ref (w.1 7)), some (.ref x1), some (.int x2), some (.int (-1)), none, none, none, none]) dX7_group_1 rfl (Nat.le_of_ble_eq_true rfl) rfl ?_
  refine x_iconst (v := 0) dX7_group_2 rfl ?_
  refine x_istore (lo' := [some (.ref (w.1 7)), some (.ref x1), some (.int x2), some (.int (-1)), some (.int 0), none, none, none]) dX7_group_3 (Nat.le_of_ble_eq_true rfl) rfl ?_
  refine x_iconst (v := 0) dX7_group_5 rfl ?_
  refine x_istore (lo' := [some (.ref (w.1 7)), some (.ref x1), some (.int x2), some (.int (-1)), some (.int 0), some (.int 0), none, none]) dX7_group_6 (Nat.le_of_ble_eq_true rfl) rfl ?_
  exact hT f0 h hW hF
theorem eX7_group {l : Launch} {E : EN} {w : CO} {d : Nat} {s : CS} {f : RH} {Q : KO → CS → RH → Prop} {x1 : Nat} {x2 : Int32}  (hst : l.stackTraces = false) (hT : ExC l E w (d + 1) MX7_group 8 [some (.ref (w.1 7)), some (.ref x1), some (.int x2), some (.int (-1)), some (.int 0), some (.int 0), none, none] [] s f Q) : EvC l E w (d + 1) MX7_group [.ref (w.1 7), .ref x1, .int x2] s f Q :=
  EvC.of hst (by decide) (Nat.le_of_ble_eq_true rfl) (vX7_group_0  hT)
set_option maxHeartbeats 16000000 in
theorem vX7_group_8 {l : Launch} {E : EN} {w : CO} {d : Nat} {s : CS} {f : RH} {Q : KO → CS → RH → Prop} {b1 : Nat} {b2 : Int32} {b3 : Int32} {b4 : Int32} {b5 : Int32}  (hT : (∃ t1 : Nat, tg f b1 = some (.inr t1) ∧ (((nI (ln f b1)) ≤ b5 → ((b3 < 20 → ((0 ≤ b4 → (¬ (b3 + 1) < 0 ∧ (b3 + 1).toNatClampNeg ≤ 60000000 ∧ rmF E f 1 (b3 + 1).toNatClampNeg ∧ ∀ (a2 : Nat) (f3 : RH), a2 = f.1 → f3 = fnewA f 0 (b3 + 1).toNatClampNeg → ExC l E w (d + 1) MX7_group 88 [none, some (.ref b1), none, some (.int b3), none, some (.ref a2), some (.int 0), none] [] s f3 Q)) ∧ (¬ 0 ≤ b4 → (EvC l E w d MX6_ints [.ref (w.1 6), .int b4, .int b2] s f (fun o s4 f5 => KP o (fun r => ∃ a6 : Nat, r = some (.ref a6) ∧ ExC l E w (d + 1) MX7_group 88 [none, some (.ref b1), none, some (.int b3), none, some (.ref a6), some (.int 0), none] [] s4 f5 Q) (fun k => Q (.inr k) s4 f5)))))) ∧ (¬ b3 < 20 → (EvC l E w d MX3_wrong [.ref (w.1 3), .int 2, .int b2] s f (fun o s7 f8 => KP o (fun r => r = some (.ref (w.1 9)) ∧ Q (.inr 9) s7 f8) (fun k => Q (.inr k) s7 f8)))))) ∧ (¬ (nI (ln f b1)) ≤ b5 → (tg f b1 = some (.inr 0) ∧ inB b5 (ln f b1) ∧ (∃ v9 : Int32, vl f b1 b5.toNatClampNeg = .int v9 ∧ (∀ y10 : Int32, y10 = (if b3 < v9 then v9 else b3) → (tg f b1 = some (.inr 0) ∧ inB b5 (ln f b1) ∧ (∃ v11 : Int32, vl f b1 b5.toNatClampNeg = .int v11 ∧ (∀ y12 : Int32, y12 = (if v11 < b4 then v11 else b4) → ExC l E w (d + 1) MX7_group 8 [some (.ref (w.1 7)), some (.ref b1), some (.int b2), some (.int y10), some (.int y12), some (.int (b5 + 1)), none, none] [] s f Q)))))))))) : ExC l E w (d + 1) MX7_group 8 [some (.ref (w.1 7)), some (.ref b1), some (.int b2), some (.int b3), some (.int b4), some (.int b5), none, none] [] s f Q := by
  intro f0 h hW hF
  refine x_iload dX7_group_8 rfl ?_
  refine x_aload_n dX7_group_10 rfl rfl rfl ?_
  obtain ⟨t1, hc, hT⟩ := hT
  refine c_alen dX7_group_11 hc hW ?_
  refine x_icmp_ge (tgt := 41) dX7_group_12 rfl (fun c => ?_) (fun c => ?_)
  · replace hT := hT.1 c
    refine x_iload_n dX7_group_41 rfl rfl ?_
    refine x_bipush (v := 20) dX7_group_42 rfl ?_
    refine x_icmp_lt (tgt := 57) dX7_group_44 rfl (fun c => ?_) (fun c => ?_)
    · replace hT := hT.1 c
      refine x_iload dX7_group_57 rfl ?_
      refine x_if_ge (tgt := 78) dX7_group_59 rfl (fun c => ?_) (fun c => ?_)
      · replace hT := hT.1 c
        refine x_iload_n dX7_group_78 rfl rfl ?_
        refine x_iconst (v := 1) dX7_group_79 rfl ?_
        refine x_iadd dX7_group_80 ?_
        obtain ⟨hn, hT⟩ := hT
        obtain ⟨hb, hr, hT⟩ := hT
        refine c_newarrayG (t := 0) dX7_group_81 (by decide) rfl hn hb hr hW hF ?_
        intro a2 f3 ea2 ef3 h hW hF
        replace hT := hT a2 f3 ea2 ef3
        refine x_astore (lo' := [some (.ref (w.1 7)), some (.ref b1), some (.int b2), some (.int b3), some (.int b4), some (.ref a2), none, none]) dX7_group_83 (Nat.le_of_ble_eq_true rfl) rfl rfl ?_
        refine x_iconst (v := 0) dX7_group_85 rfl ?_
        refine x_istore (lo' := [some (.ref (w.1 7)), some (.ref b1), some (.int b2), some (.int b3), some (.int b4), some (.ref a2), some (.int 0), none]) dX7_group_86 (Nat.le_of_ble_eq_true rfl) rfl ?_
        refine Ex.wkl (lo' := [none, some (.ref b1), none, some (.int b3), none, some (.ref a2), some (.int 0), none]) ⟨rfl, rfl, rfl, rfl, trivial⟩ ?_
        exact hT f0 h hW hF
      · replace hT := hT.2 c
        refine x_aload_n dX7_group_62 rfl rfl rfl ?_
        refine c_getO dX7_group_63 f_TallySlate_Works_9 (by decide) (by decide) rfl hW ?_
        refine c_getO dX7_group_66 f_TallySlate_Works_177 (by decide) (by decide) rfl hW ?_
        refine x_iload dX7_group_69 rfl ?_
        refine x_iload_n dX7_group_71 rfl rfl ?_
        obtain ⟨-, -, cc, hcc, -⟩ := hW.ob 6 (by decide)
        refine c_invV (vs := [.int b4, .int b2]) dX7_group_72 oX6_ints q1701 q1819 hcc q1702 (Or.inl rfl) rfl rfl (Nat.le_of_ble_eq_true rfl) rfl hW hF hT ?_ ?_
        · intro _ s4 f5 hT h hW hF
          obtain ⟨a6, rfl, hT⟩ := hT
          refine x_goto (tgt := 83) dX7_group_75 rfl ?_
          refine x_astore (lo' := [some (.ref (w.1 7)), some (.ref b1), some (.int b2), some (.int b3), some (.int b4), some (.ref a6), none, none]) dX7_group_83 (Nat.le_of_ble_eq_true rfl) rfl rfl ?_
          refine x_iconst (v := 0) dX7_group_85 rfl ?_
          refine x_istore (lo' := [some (.ref (w.1 7)), some (.ref b1), some (.int b2), some (.int b3), some (.int b4), some (.ref a6), some (.int 0), none]) dX7_group_86 (Nat.le_of_ble_eq_true rfl) rfl ?_
          refine Ex.wkl (lo' := [none, some (.ref b1), none, some (.int b3), none, some (.ref a6), some (.int 0), none]) ⟨rfl, rfl, rfl, rfl, trivial⟩ ?_
          exact hT f0 h hW hF
        · intro k s4 f5 hT h a hW hx hF
          exact c_out (rfl) hW hx hF hT
    · replace hT := hT.2 c
      refine x_aload_n dX7_group_47 rfl rfl rfl ?_
      refine c_getO dX7_group_48 f_TallySlate_Works_9 (by decide) (by decide) rfl hW ?_
      refine x_iconst (v := 2) dX7_group_51 rfl ?_
      refine x_iload_n dX7_group_52 rfl rfl ?_
      obtain ⟨-, -, cc, hcc, -⟩ := hW.ob 3 (by decide)
      refine c_invV (vs := [.int 2, .int b2]) dX7_group_53 oX3_wrong q1323 q1745 hcc q1324 (Or.inl rfl) rfl rfl (Nat.le_of_ble_eq_true rfl) rfl hW hF hT ?_ ?_
      · intro _ s7 f8 hT h hW hF
        obtain ⟨rfl, hT⟩ := hT
        refine x_athrow dX7_group_56 ?_
        exact c_out (rfl) hW (Or.inl ⟨rfl, rfl⟩) hF hT
      · intro k s7 f8 hT h a hW hx hF
        exact c_out (rfl) hW hx hF hT
  · replace hT := hT.2 c
    refine x_iload_n dX7_group_15 rfl rfl ?_
    refine x_aload_n dX7_group_16 rfl rfl rfl ?_
    refine x_iload dX7_group_17 rfl ?_
    obtain ⟨hc, hT⟩ := hT
    obtain ⟨hb, hT⟩ := hT
    obtain ⟨v9, ev, hT⟩ := hT
    refine c_fiald dX7_group_19 hc hb hW ev ?_
    refine x_mmax dX7_group_20 q1782 q669 q181 mq_max (Nat.le_of_ble_eq_true rfl) rfl ?_
    obtain ⟨y10, ey10⟩ : ∃ z : Int32, z = (if b3 < v9 then v9 else b3) := ⟨_, rfl⟩
    replace hT := hT y10 ey10
    refine x_istore_n (lo' := [some (.ref (w.1 7)), some (.ref b1), some (.int b2), some (.int y10), some (.int b4), some (.int b5), none, none]) dX7_group_23 rfl (Nat.le_of_ble_eq_true rfl) (by rw [ey10]; exact rfl) ?_
    refine x_iload dX7_group_24 rfl ?_
    refine x_aload_n dX7_group_26 rfl rfl rfl ?_
    refine x_iload dX7_group_27 rfl ?_
    obtain ⟨hc, hT⟩ := hT
    obtain ⟨hb, hT⟩ := hT
    obtain ⟨v11, ev, hT⟩ := hT
    refine c_fiald dX7_group_29 hc hb hW ev ?_
    refine x_mmin dX7_group_30 q1783 q672 q181 mq_min (Nat.le_of_ble_eq_true rfl) rfl ?_
    obtain ⟨y12, ey12⟩ : ∃ z : Int32, z = (if v11 < b4 then v11 else b4) := ⟨_, rfl⟩
    replace hT := hT y12 ey12
    refine x_istore (lo' := [some (.ref (w.1 7)), some (.ref b1), some (.int b2), some (.int y10), some (.int y12), some (.int b5), none, none]) dX7_group_33 (Nat.le_of_ble_eq_true rfl) (by rw [ey12]; exact rfl) ?_
    refine x_iinc (lo' := [some (.ref (w.1 7)), some (.ref b1), some (.int b2), some (.int y10), some (.int y12), some (.int (b5 + 1)), none, none]) dX7_group_35 rfl (show _ = (b5 + 1) from rfl) rfl ?_
    refine x_goto (tgt := 8) dX7_group_38 rfl ?_
    exact hT f0 h hW hF
theorem vX7_group_88 {l : Launch} {E : EN} {w : CO} {d : Nat} {s : CS} {f : RH} {Q : KO → CS → RH → Prop} {b1 : Nat} {b3 : Int32} {b5 : Nat} {b6 : Int32}  (hT : (∃ t13 : Nat, tg f b1 = some (.inr t13) ∧ (((nI (ln f b1)) ≤ b6 → (¬ (b3 + 1) < 0 ∧ (b3 + 1).toNatClampNeg ≤ 60000000 ∧ rmF E f 1 (b3 + 1).toNatClampNeg ∧ ∀ (a14 : Nat) (f15 : RH), a14 = f.1 → f15 = fnewA f 11 (b3 + 1).toNatClampNeg → ExC l E w (d + 1) MX7_group 123 [none, some (.ref b1), none, some (.int b3), none, some (.ref b5), some (.ref a14), some (.int 0)] [] s f15 Q)) ∧ (¬ (nI (ln f b1)) ≤ b6 → (tg f b1 = some (.inr 0) ∧ inB b6 (ln f b1) ∧ (∃ v16 : Int32, vl f b1 b6.toNatClampNeg = .int v16 ∧ (tg f b5 = some (.inr 0) ∧ inB v16 (ln f b5) ∧ (∃ v17 : Int32, vl f b5 v16.toNatClampNeg = .int v17 ∧ (tg f b5 = some (.inr 0) ∧ inB v16 (ln f b5) ∧ f.2.2.2 ≤ b5 ∧ ∀ f18 : RH, f18 = fset f b5 v16.toNatClampNeg (.int (v17 + 1)) → ExC l E w (d + 1) MX7_group 88 [none, some (.ref b1), none, some (.int b3), none, some (.ref b5), some (.int (b6 + 1)), none] [] s f18 Q))))))))) : ExC l E w (d + 1) MX7_group 88 [none, some (.ref b1), none, some (.int b3), none, some (.ref b5), some (.int b6), none] [] s f Q := by
  intro f0 h hW hF
  refine x_iload dX7_group_88 rfl ?_
  refine x_aload_n dX7_group_90 rfl rfl rfl ?_
  obtain ⟨t13, hc, hT⟩ := hT
  refine c_alen dX7_group_91 hc hW ?_
  refine x_icmp_ge (tgt := 112) dX7_group_92 rfl (fun c => ?_) (fun c => ?_)
  · replace hT := hT.1 c
    refine x_iload_n dX7_group_112 rfl rfl ?_
    refine x_iconst (v := 1) dX7_group_113 rfl ?_
    refine x_iadd dX7_group_114 ?_
    obtain ⟨hn, hT⟩ := hT
    obtain ⟨hb, hr, hT⟩ := hT
    refine c_anewarrayG (t := 11) dX7_group_115 (by decide) (by decide) (by decide) rfl q1463 (Or.inr ⟨_, rfl, q1798⟩) hn hb hr hW hF ?_
    intro a14 f15 ea14 ef15 h hW hF
    replace hT := hT a14 f15 ea14 ef15
    refine x_astore (lo' := [none, some (.ref b1), none, some (.int b3), none, some (.ref b5), some (.ref a14), none]) dX7_group_118 (Nat.le_of_ble_eq_true rfl) rfl rfl ?_
    refine x_iconst (v := 0) dX7_group_120 rfl ?_
    refine x_istore (lo' := [none, some (.ref b1), none, some (.int b3), none, some (.ref b5), some (.ref a14), some (.int 0)]) dX7_group_121 (Nat.le_of_ble_eq_true rfl) rfl ?_
    exact hT f0 h hW hF
  · replace hT := hT.2 c
    refine x_aload dX7_group_95 rfl rfl ?_
    refine x_aload_n dX7_group_97 rfl rfl rfl ?_
    refine x_iload dX7_group_98 rfl ?_
    obtain ⟨hc, hT⟩ := hT
    obtain ⟨hb, hT⟩ := hT
    obtain ⟨v16, ev, hT⟩ := hT
    refine c_fiald dX7_group_100 hc hb hW ev ?_
    refine x_dup2 dX7_group_101 rfl rfl ?_
    obtain ⟨hc, hT⟩ := hT
    obtain ⟨hb, hT⟩ := hT
    obtain ⟨v17, ev, hT⟩ := hT
    refine c_fiald dX7_group_102 hc hb hW ev ?_
    refine x_iconst (v := 1) dX7_group_103 rfl ?_
    refine x_iadd dX7_group_104 ?_
    obtain ⟨hc, hT⟩ := hT
    obtain ⟨hb, hz, hT⟩ := hT
    refine c_fiastG dX7_group_105 hc hb hz hW hF ?_
    intro f18 ef18 h hW hF
    replace hT := hT f18 ef18
    refine x_iinc (lo' := [none, some (.ref b1), none, some (.int b3), none, some (.ref b5), some (.int (b6 + 1)), none]) dX7_group_106 rfl (show _ = (b6 + 1) from rfl) rfl ?_
    refine x_goto (tgt := 88) dX7_group_109 rfl ?_
    exact hT f0 h hW hF
theorem vX7_group_123 {l : Launch} {E : EN} {w : CO} {d : Nat} {s : CS} {f : RH} {Q : KO → CS → RH → Prop} {b1 : Nat} {b3 : Int32} {b5 : Nat} {b6 : Nat} {b7 : Int32}  (hT : ((b3 < b7 → (∃ t19 : Nat, tg f b1 = some (.inr t19) ∧ (∀ y20 : Int32, y20 = ((nI (ln f b1)) - 1) → ExC l E w (d + 1) MX7_group 153 [none, some (.ref b1), none, none, none, some (.ref b5), some (.ref b6), some (.int y20)] [] s f Q))) ∧ (¬ b3 < b7 → (tg f b5 = some (.inr 0) ∧ inB b7 (ln f b5) ∧ (∃ v21 : Int32, vl f b5 b7.toNatClampNeg = .int v21 ∧ (¬ v21 < 0 ∧ v21.toNatClampNeg ≤ 60000000 ∧ rmF E f 1 v21.toNatClampNeg ∧ ∀ (a22 : Nat) (f23 : RH), a22 = f.1 → f23 = fnewA f 0 v21.toNatClampNeg → (tg f23 b6 = some (.inr 11) ∧ tg f23 a22 = some (.inr 0) ∧ ez E ≤ a22 ∧ inB b7 (ln f23 b6) ∧ f23.2.2.2 ≤ b6 ∧ ∀ f24 : RH, f24 = fset f23 b6 b7.toNatClampNeg (.ref a22) → ExC l E w (d + 1) MX7_group 123 [none, some (.ref b1), none, some (.int b3), none, some (.ref b5), some (.ref b6), some (.int (b7 + 1))] [] s f24 Q))))))) : ExC l E w (d + 1) MX7_group 123 [none, some (.ref b1), none, some (.int b3), none, some (.ref b5), some (.ref b6), some (.int b7)] [] s f Q := by
  intro f0 h hW hF
  refine x_iload dX7_group_123 rfl ?_
  refine x_iload_n dX7_group_125 rfl rfl ?_
  refine x_icmp_gt (tgt := 147) dX7_group_126 rfl (fun c => ?_) (fun c => ?_)
  · replace hT := hT.1 c
    refine x_aload_n dX7_group_147 rfl rfl rfl ?_
    obtain ⟨t19, hc, hT⟩ := hT
    refine c_alen dX7_group_148 hc hW ?_
    refine x_iconst (v := 1) dX7_group_149 rfl ?_
    refine x_isub dX7_group_150 ?_
    obtain ⟨y20, ey20⟩ : ∃ z : Int32, z = ((nI (ln f b1)) - 1) := ⟨_, rfl⟩
    replace hT := hT y20 ey20
    refine x_istore (lo' := [none, some (.ref b1), none, some (.int b3), none, some (.ref b5), some (.ref b6), some (.int y20)]) dX7_group_151 (Nat.le_of_ble_eq_true rfl) (by rw [ey20]; exact rfl) ?_
    refine Ex.wkl (lo' := [none, some (.ref b1), none, none, none, some (.ref b5), some (.ref b6), some (.int y20)]) ⟨rfl, rfl, rfl, rfl, trivial⟩ ?_
    exact hT f0 h hW hF
  · replace hT := hT.2 c
    refine x_aload dX7_group_129 rfl rfl ?_
    refine x_iload dX7_group_131 rfl ?_
    refine x_aload dX7_group_133 rfl rfl ?_
    refine x_iload dX7_group_135 rfl ?_
    obtain ⟨hc, hT⟩ := hT
    obtain ⟨hb, hT⟩ := hT
    obtain ⟨v21, ev, hT⟩ := hT
    refine c_fiald dX7_group_137 hc hb hW ev ?_
    obtain ⟨hn, hT⟩ := hT
    obtain ⟨hb, hr, hT⟩ := hT
    refine c_newarrayG (t := 0) dX7_group_138 (by decide) rfl hn hb hr hW hF ?_
    intro a22 f23 ea22 ef23 h hW hF
    replace hT := hT a22 f23 ea22 ef23
    obtain ⟨hc, hv, hzb, hT⟩ := hT
    obtain ⟨hb, hz, hT⟩ := hT
    refine c_faastAG dX7_group_140 hc hv hzb hb hz hW hF ?_
    intro f24 ef24 h hW hF
    replace hT := hT f24 ef24
    refine x_iinc (lo' := [none, some (.ref b1), none, some (.int b3), none, some (.ref b5), some (.ref b6), some (.int (b7 + 1))]) dX7_group_141 rfl (show _ = (b7 + 1) from rfl) rfl ?_
    refine x_goto (tgt := 123) dX7_group_144 rfl ?_
    exact hT f0 h hW hF
theorem vX7_group_153 {l : Launch} {E : EN} {w : CO} {d : Nat} {s : CS} {f : RH} {Q : KO → CS → RH → Prop} {b1 : Nat} {b5 : Nat} {b6 : Nat} {b7 : Int32}  (hT : ((b7 < 0 → Q (.inl (some (.ref b6))) s f) ∧ (¬ b7 < 0 → (tg f b1 = some (.inr 0) ∧ inB b7 (ln f b1) ∧ (∃ v25 : Int32, vl f b1 b7.toNatClampNeg = .int v25 ∧ (tg f b5 = some (.inr 0) ∧ inB v25 (ln f b5) ∧ (∃ v26 : Int32, vl f b5 v25.toNatClampNeg = .int v26 ∧ (tg f b5 = some (.inr 0) ∧ inB v25 (ln f b5) ∧ f.2.2.2 ≤ b5 ∧ ∀ f27 : RH, f27 = fset f b5 v25.toNatClampNeg (.int (v26 - 1)) → (tg f27 b1 = some (.inr 0) ∧ inB b7 (ln f27 b1) ∧ (∃ v28 : Int32, vl f27 b1 b7.toNatClampNeg = .int v28 ∧ (∃ t29 : Nat, 4 ≤ t29 ∧ (tg f27 b6 = some (.inr t29) ∧ inB v28 (ln f27 b6) ∧ (∃ a30 : Nat, vl f27 b6 v28.toNatClampNeg = .ref a30 ∧ (tg f27 b1 = some (.inr 0) ∧ inB b7 (ln f27 b1) ∧ (∃ v31 : Int32, vl f27 b1 b7.toNatClampNeg = .int v31 ∧ (tg f27 b5 = some (.inr 0) ∧ inB v31 (ln f27 b5) ∧ (∃ v32 : Int32, vl f27 b5 v31.toNatClampNeg = .int v32 ∧ (tg f27 a30 = some (.inr 0) ∧ inB v32 (ln f27 a30) ∧ f27.2.2.2 ≤ a30 ∧ ∀ f33 : RH, f33 = fset f27 a30 v32.toNatClampNeg (.int b7) → ExC l E w (d + 1) MX7_group 153 [none, some (.ref b1), none, none, none, some (.ref b5), some (.ref b6), some (.int (b7 + (-1)))] [] s f33 Q)))))))))))))))))) : ExC l E w (d + 1) MX7_group 153 [none, some (.ref b1), none, none, none, some (.ref b5), some (.ref b6), some (.int b7)] [] s f Q := by
  intro f0 h hW hF
  refine x_iload dX7_group_153 rfl ?_
  refine x_if_lt (tgt := 192) dX7_group_155 rfl (fun c => ?_) (fun c => ?_)
  · replace hT := hT.1 c
    refine x_aload dX7_group_192 rfl rfl ?_
    exact x_aret dX7_group_194 rfl (by first | exact Or.inl ⟨_, rfl⟩ | exact Or.inr ⟨_, rfl⟩) rfl ⟨_, _, hW, hF, Or.inl ⟨_, rfl, hT⟩⟩
  · replace hT := hT.2 c
    refine x_aload dX7_group_158 rfl rfl ?_
    refine x_aload_n dX7_group_160 rfl rfl rfl ?_
    refine x_iload dX7_group_161 rfl ?_
    obtain ⟨hc, hT⟩ := hT
    obtain ⟨hb, hT⟩ := hT
    obtain ⟨v25, ev, hT⟩ := hT
    refine c_fiald dX7_group_163 hc hb hW ev ?_
    refine x_dup2 dX7_group_164 rfl rfl ?_
    obtain ⟨hc, hT⟩ := hT
    obtain ⟨hb, hT⟩ := hT
    obtain ⟨v26, ev, hT⟩ := hT
    refine c_fiald dX7_group_165 hc hb hW ev ?_
    refine x_iconst (v := 1) dX7_group_166 rfl ?_
    refine x_isub dX7_group_167 ?_
    obtain ⟨hc, hT⟩ := hT
    obtain ⟨hb, hz, hT⟩ := hT
    refine c_fiastG dX7_group_168 hc hb hz hW hF ?_
    intro f27 ef27 h hW hF
    replace hT := hT f27 ef27
    refine x_aload dX7_group_169 rfl rfl ?_
    refine x_aload_n dX7_group_171 rfl rfl rfl ?_
    refine x_iload dX7_group_172 rfl ?_
    obtain ⟨hc, hT⟩ := hT
    obtain ⟨hb, hT⟩ := hT
    obtain ⟨v28, ev, hT⟩ := hT
    refine c_fiald dX7_group_174 hc hb hW ev ?_
    obtain ⟨t29, ht2, hc, hT⟩ := hT
    obtain ⟨hb, hT⟩ := hT
    obtain ⟨a30, ev, hT⟩ := hT
    refine c_faald dX7_group_175 hc ht2 hb hW ev ?_
    refine x_aload dX7_group_176 rfl rfl ?_
    refine x_aload_n dX7_group_178 rfl rfl rfl ?_
    refine x_iload dX7_group_179 rfl ?_
    obtain ⟨hc, hT⟩ := hT
    obtain ⟨hb, hT⟩ := hT
    obtain ⟨v31, ev, hT⟩ := hT
    refine c_fiald dX7_group_181 hc hb hW ev ?_
    obtain ⟨hc, hT⟩ := hT
    obtain ⟨hb, hT⟩ := hT
    obtain ⟨v32, ev, hT⟩ := hT
    refine c_fiald dX7_group_182 hc hb hW ev ?_
    refine x_iload dX7_group_183 rfl ?_
    obtain ⟨hc, hT⟩ := hT
    obtain ⟨hb, hz, hT⟩ := hT
    refine c_fiastG dX7_group_185 hc hb hz hW hF ?_
    intro f33 ef33 h hW hF
    replace hT := hT f33 ef33
    refine x_iinc (lo' := [none, some (.ref b1), none, none, none, some (.ref b5), some (.ref b6), some (.int (b7 + (-1)))]) dX7_group_186 rfl (show _ = (b7 + (-1)) from rfl) rfl ?_
    refine x_goto (tgt := 153) dX7_group_189 rfl ?_
    exact hT f0 h hW hF
set_option maxHeartbeats 16000000 in
theorem vX7_ofTwo_0 {l : Launch} {E : EN} {w : CO} {d : Nat} {s : CS} {f : RH} {Q : KO → CS → RH → Prop} {x1 : Int32} {x2 : Int32}  (hT : (∀ y1 : Int32, y1 = ((s.1 26) - 2) → (inB y1 8400 ∧ ∃ v2 : Value, (s.2.2.2 25 y1.toNatClampNeg) = v2 ∧ isR v2 = true ∧ (inB (y1 + 1) 8400 ∧ ∃ v3 : Value, (s.2.2.2 25 (y1 + 1).toNatClampNeg) = v3 ∧ isR v3 = true ∧ ((x1 = 19 → (EvC l E w d MX7_join [.ref (w.1 7), .int y1, v2, v3, .int x2] s f (fun o s4 f5 => KP o (fun r => ∃ a6 : Nat, r = some (.ref a6) ∧ (EvC l E w d MX3_give_2 [.ref (w.1 3), .ref a6, .int 2, .int x2] s4 f5 (fun o s7 f8 => KP o (fun r => r = none ∧ Q (.inl none) s7 f8) (fun k => Q (.inr k) s7 f8)))) (fun k => Q (.inr k) s4 f5)))) ∧ (¬ (x1 = 19) → ((x1 = 20 → (EvC l E w d MX3_asInt [.ref (w.1 3), .int y1, .int x2] s f (fun o s9 f10 => KP o (fun r => ∃ v11 : Int32, r = some (.int v11) ∧ (EvC l E w d MX7_take [.ref (w.1 7), .int v11, v3, .int x2] s9 f10 (fun o s12 f13 => KP o (fun r => ∃ a14 : Nat, r = some (.ref a14) ∧ (EvC l E w d MX3_give_2 [.ref (w.1 3), .ref a14, .int 2, .int x2] s12 f13 (fun o s15 f16 => KP o (fun r => r = none ∧ Q (.inl none) s15 f16) (fun k => Q (.inr k) s15 f16)))) (fun k => Q (.inr k) s12 f13)))) (fun k => Q (.inr k) s9 f10)))) ∧ (¬ (x1 = 20) → ((x1 = 21 → (EvC l E w d MX3_asInt [.ref (w.1 3), .int y1, .int x2] s f (fun o s17 f18 => KP o (fun r => ∃ v19 : Int32, r = some (.int v19) ∧ (EvC l E w d MX7_drop [.ref (w.1 7), .int v19, v3, .int x2] s17 f18 (fun o s20 f21 => KP o (fun r => ∃ a22 : Nat, r = some (.ref a22) ∧ (EvC l E w d MX3_give_2 [.ref (w.1 3), .ref a22, .int 2, .int x2] s20 f21 (fun o s23 f24 => KP o (fun r => r = none ∧ Q (.inl none) s23 f24) (fun k => Q (.inr k) s23 f24)))) (fun k => Q (.inr k) s20 f21)))) (fun k => Q (.inr k) s17 f18)))) ∧ (¬ (x1 = 21) → ((x1 = 22 → (rmF E f 1 2 ∧ ∀ (a25 : Nat) (f26 : RH), a25 = f.1 → f26 = fnew f 30 → (EvC l E w d MX3_asRow [.ref (w.1 3), .int y1, .int x2] s f26 (fun o s27 f28 => KP o (fun r => ∃ a29 : Nat, r = some (.ref a29) ∧ (oc f28 a29 29 ∧ (∃ a30 : Nat, vl f28 a29 203 = .ref a30 ∧ (EvC l E w d MX3_asRow [.ref (w.1 3), .int (y1 + 1), .int x2] s27 f28 (fun o s31 f32 => KP o (fun r => ∃ a33 : Nat, r = some (.ref a33) ∧ (oc f32 a33 29 ∧ (∃ a34 : Nat, vl f32 a33 203 = .ref a34 ∧ (EvC l E w d MX7_cut [.ref (w.1 7), .ref a30, .ref a34, .int x2] s31 f32 (fun o s35 f36 => KP o (fun r => ∃ a37 : Nat, r = some (.ref a37) ∧ (EvC l E w d MX33_init [.ref a25, .ref a37] s35 f36 (fun o s38 f39 => KP o (fun r => r = none ∧ (EvC l E w d MX3_give_2 [.ref (w.1 3), .ref a25, .int 2, .int x2] s38 f39 (fun o s40 f41 => KP o (fun r => r = none ∧ Q (.inl none) s40 f41) (fun k => Q (.inr k) s40 f41)))) (fun k => Q (.inr k) s38 f39)))) (fun k => Q (.inr k) s35 f36)))))) (fun k => Q (.inr k) s31 f32)))))) (fun k => Q (.inr k) s27 f28))))) ∧ (¬ (x1 = 22) → ((x1 = 23 → (EvC l E w d MX7_pick [.ref (w.1 7), v2, .int (y1 + 1), .int x2] s f (fun o s42 f43 => KP o (fun r => ∃ a44 : Nat, r = some (.ref a44) ∧ (EvC l E w d MX3_give_2 [.ref (w.1 3), .ref a44, .int 2, .int x2] s42 f43 (fun o s45 f46 => KP o (fun r => r = none ∧ Q (.inl none) s45 f46) (fun k => Q (.inr k) s45 f46)))) (fun k => Q (.inr k) s42 f43)))) ∧ (¬ (x1 = 23) → ((x1 = 24 → (EvC l E w d MX3_asRow [.ref (w.1 3), .int y1, .int x2] s f (fun o s47 f48 => KP o (fun r => ∃ a49 : Nat, r = some (.ref a49) ∧ (oc f48 a49 29 ∧ (∃ a50 : Nat, vl f48 a49 203 = .ref a50 ∧ (EvC l E w d MX7_find [.ref (w.1 7), .ref a50, v3, .int x2] s47 f48 (fun o s51 f52 => KP o (fun r => r = none ∧ Q (.inl none) s51 f52) (fun k => Q (.inr k) s51 f52)))))) (fun k => Q (.inr k) s47 f48)))) ∧ (¬ (x1 = 24) → ((x1 = 25 → (rmF E f 1 2 ∧ ∀ (a53 : Nat) (f54 : RH), a53 = f.1 → f54 = fnew f 30 → (EvC l E w d MX3_asTable [.ref (w.1 3), .int y1, .int x2] s f54 (fun o s55 f56 => KP o (fun r => ∃ a57 : Nat, r = some (.ref a57) ∧ (oc f56 a57 30 ∧ (∃ a58 : Nat, vl f56 a57 204 = .ref a58 ∧ (EvC l E w d MX3_asInt [.ref (w.1 3), .int (y1 + 1), .int x2] s55 f56 (fun o s59 f60 => KP o (fun r => ∃ v61 : Int32, r = some (.int v61) ∧ (EvC l E w d MX7_pad [.ref (w.1 7), .ref a58, .int v61, .int x2] s59 f60 (fun o s62 f63 => KP o (fun r => ∃ a64 : Nat, r = some (.ref a64) ∧ (EvC l E w d MX33_init [.ref a53, .ref a64] s62 f63 (fun o s65 f66 => KP o (fun r => r = none ∧ (EvC l E w d MX3_give_2 [.ref (w.1 3), .ref a53, .int 2, .int x2] s65 f66 (fun o s67 f68 => KP o (fun r => r = none ∧ Q (.inl none) s67 f68) (fun k => Q (.inr k) s67 f68)))) (fun k => Q (.inr k) s65 f66)))) (fun k => Q (.inr k) s62 f63)))) (fun k => Q (.inr k) s59 f60)))))) (fun k => Q (.inr k) s55 f56))))) ∧ (¬ (x1 = 25) → ((x1 = 26 → (rmF E f 1 2 ∧ ∀ (a69 : Nat) (f70 : RH), a69 = f.1 → f70 = fnew f 30 → (EvC l E w d MX3_asRow [.ref (w.1 3), .int y1, .int x2] s f70 (fun o s71 f72 => KP o (fun r => ∃ a73 : Nat, r = some (.ref a73) ∧ (oc f72 a73 29 ∧ (∃ a74 : Nat, vl f72 a73 203 = .ref a74 ∧ (EvC l E w d MX3_asRow [.ref (w.1 3), .int (y1 + 1), .int x2] s71 f72 (fun o s75 f76 => KP o (fun r => ∃ a77 : Nat, r = some (.ref a77) ∧ (oc f76 a77 29 ∧ (∃ a78 : Nat, vl f76 a77 203 = .ref a78 ∧ (EvC l E w d MX7_outer [.ref (w.1 7), .ref a74, .ref a78, .int x2] s75 f76 (fun o s79 f80 => KP o (fun r => ∃ a81 : Nat, r = some (.ref a81) ∧ (EvC l E w d MX33_init [.ref a69, .ref a81] s79 f80 (fun o s82 f83 => KP o (fun r => r = none ∧ (EvC l E w d MX3_give_2 [.ref (w.1 3), .ref a69, .int 2, .int x2] s82 f83 (fun o s84 f85 => KP o (fun r => r = none ∧ Q (.inl none) s84 f85) (fun k => Q (.inr k) s84 f85)))) (fun k => Q (.inr k) s82 f83)))) (fun k => Q (.inr k) s79 f80)))))) (fun k => Q (.inr k) s75 f76)))))) (fun k => Q (.inr k) s71 f72))))) ∧ (¬ (x1 = 26) → ((inB y1 8400 ∧ (inB (y1 + 1) 8400 ∧ (EvC l E w d MX0_alike [.int (s.2.2.1 24 y1.toNatClampNeg), v2, .int (s.2.2.1 24 (y1 + 1).toNatClampNeg), v3] s f (fun o s86 f87 => KP o (fun r => ∃ v88 : Int32, r = some (.int v88) ∧ ((v88 = 0 → (EvC l E w d MX3_give [.ref (w.1 3), .int 0, .int 2] s86 f87 (fun o s89 f90 => KP o (fun r => r = none ∧ Q (.inl none) s89 f90) (fun k => Q (.inr k) s89 f90)))) ∧ (¬ v88 = 0 → (EvC l E w d MX3_give [.ref (w.1 3), .int 1, .int 2] s86 f87 (fun o s91 f92 => KP o (fun r => r = none ∧ Q (.inl none) s91 f92) (fun k => Q (.inr k) s91 f92)))))) (fun k => Q (.inr k) s86 f87)))))))))))))))))))))))))) : ExC l E w (d + 1) MX7_ofTwo 0 [some (.ref (w.1 7)), some (.int x1), some (.int x2), none, none, none] [] s f Q := by
  intro f0 h hW hF
  refine x_aload_n dX7_ofTwo_0 rfl rfl rfl ?_
  refine c_getO dX7_ofTwo_1 f_TallySlate_Works_9 (by decide) (by decide) rfl hW ?_
  refine c_getI (v := (s.1 26)) dX7_ofTwo_4 f_TallySlate_Works_15 (by decide) (by decide) rfl hW rfl ?_
  refine x_iconst (v := 2) dX7_ofTwo_7 rfl ?_
  refine x_isub dX7_ofTwo_8 ?_
  obtain ⟨y1, ey1⟩ : ∃ z : Int32, z = ((s.1 26) - 2) := ⟨_, rfl⟩
  replace hT := hT y1 ey1
  refine x_istore_n (lo' := [some (.ref (w.1 7)), some (.int x1), some (.int x2), some (.int y1), none, none]) dX7_ofTwo_9 rfl (Nat.le_of_ble_eq_true rfl) (by rw [ey1]; exact rfl) ?_
  refine x_aload_n dX7_ofTwo_10 rfl rfl rfl ?_
  refine c_getO dX7_ofTwo_11 f_TallySlate_Works_9 (by decide) (by decide) rfl hW ?_
  refine c_getA dX7_ofTwo_14 f_TallySlate_Works_21 (by decide) (by decide) rfl hW ?_
  refine x_iload_n dX7_ofTwo_17 rfl rfl ?_
  obtain ⟨hb, v2, ev, iv2, hT⟩ := hT
  refine c_aald (v := v2) dX7_ofTwo_18 rfl hb hW ev ?_
  refine x_astore (lo' := [some (.ref (w.1 7)), some (.int x1), some (.int x2), some (.int y1), some (v2), none]) dX7_ofTwo_19 (Nat.le_of_ble_eq_true rfl) iv2 rfl ?_
  refine x_aload_n dX7_ofTwo_21 rfl rfl rfl ?_
  refine c_getO dX7_ofTwo_22 f_TallySlate_Works_9 (by decide) (by decide) rfl hW ?_
  refine c_getA dX7_ofTwo_25 f_TallySlate_Works_21 (by decide) (by decide) rfl hW ?_
  refine x_iload_n dX7_ofTwo_28 rfl rfl ?_
  refine x_iconst (v := 1) dX7_ofTwo_29 rfl ?_
  refine x_iadd dX7_ofTwo_30 ?_
  obtain ⟨hb, v3, ev, iv3, hT⟩ := hT
  refine c_aald (v := v3) dX7_ofTwo_31 rfl hb hW ev ?_
  refine x_astore (lo' := [some (.ref (w.1 7)), some (.int x1), some (.int x2), some (.int y1), some (v2), some (v3)]) dX7_ofTwo_32 (Nat.le_of_ble_eq_true rfl) iv3 ((st1_V (k := 4) rfl iv2).trans rfl) ?_
  refine x_iload_n dX7_ofTwo_34 rfl rfl ?_
  by_cases c : x1 = 19
  · replace hT := hT.1 c
    refine x_tableIn (tgt := 80) (off := 45) dX7_ofTwo_35 (by rw [c]; decide) (by rw [c]; decide) (by rw [c]; rfl) rfl ?_
    refine x_aload_n dX7_ofTwo_80 rfl rfl rfl ?_
    refine c_getO dX7_ofTwo_81 f_TallySlate_Works_9 (by decide) (by decide) rfl hW ?_
    refine x_aload_n dX7_ofTwo_84 rfl rfl rfl ?_
    refine x_iload_n dX7_ofTwo_85 rfl rfl ?_
    refine x_aload dX7_ofTwo_86 rfl iv2 ?_
    refine x_aload dX7_ofTwo_88 rfl iv3 ?_
    refine x_iload_n dX7_ofTwo_90 rfl rfl ?_
    obtain ⟨-, -, cc, hcc, -⟩ := hW.ob 7 (by decide)
    refine c_invV (vs := [.int y1, v2, v3, .int x2]) dX7_ofTwo_91 oX7_join q1847 q1845 hcc qs47 (Or.inl rfl) rfl rfl (Nat.le_of_ble_eq_true rfl) rfl hW hF hT ?_ ?_
    · intro _ s4 f5 hT h hW hF
      obtain ⟨a6, rfl, hT⟩ := hT
      refine x_iconst (v := 2) dX7_ofTwo_94 rfl ?_
      refine x_iload_n dX7_ofTwo_95 rfl rfl ?_
      obtain ⟨-, -, cc, hcc, -⟩ := hW.ob 3 (by decide)
      refine c_invV (vs := [.ref a6, .int 2, .int x2]) dX7_ofTwo_96 oX3_give_2 q1412 q1757 hcc q1413 (Or.inl rfl) rfl rfl (Nat.le_of_ble_eq_true rfl) rfl hW hF hT ?_ ?_
      · intro _ s7 f8 hT h hW hF
        obtain ⟨rfl, hT⟩ := hT
        refine x_goto (tgt := 392) dX7_ofTwo_99 rfl ?_
        exact x_vret dX7_ofTwo_392 rfl ⟨_, _, hW, hF, Or.inl ⟨_, rfl, hT⟩⟩
      · intro k s7 f8 hT h a hW hx hF
        exact c_out (rfl) hW hx hF hT
    · intro k s4 f5 hT h a hW hx hF
      exact c_out (rfl) hW hx hF hT
  · replace hT := hT.2 c
    have cs0 := c
    by_cases c : x1 = 20
    · replace hT := hT.1 c
      refine x_tableIn (tgt := 102) (off := 67) dX7_ofTwo_35 (by rw [c]; decide) (by rw [c]; decide) (by rw [c]; rfl) rfl ?_
      refine x_aload_n dX7_ofTwo_102 rfl rfl rfl ?_
      refine c_getO dX7_ofTwo_103 f_TallySlate_Works_9 (by decide) (by decide) rfl hW ?_
      refine x_aload_n dX7_ofTwo_106 rfl rfl rfl ?_
      refine x_aload_n dX7_ofTwo_107 rfl rfl rfl ?_
      refine c_getO dX7_ofTwo_108 f_TallySlate_Works_9 (by decide) (by decide) rfl hW ?_
      refine x_iload_n dX7_ofTwo_111 rfl rfl ?_
      refine x_iload_n dX7_ofTwo_112 rfl rfl ?_
      obtain ⟨-, -, cc, hcc, -⟩ := hW.ob 3 (by decide)
      refine c_invV (vs := [.int y1, .int x2]) dX7_ofTwo_113 oX3_asInt q1697 q1857 hcc q1698 (Or.inl rfl) rfl rfl (Nat.le_of_ble_eq_true rfl) rfl hW hF hT ?_ ?_
      · intro _ s9 f10 hT h hW hF
        obtain ⟨v11, rfl, hT⟩ := hT
        refine x_aload dX7_ofTwo_116 rfl iv3 ?_
        refine x_iload_n dX7_ofTwo_118 rfl rfl ?_
        obtain ⟨-, -, cc, hcc, -⟩ := hW.ob 7 (by decide)
        refine c_invV (vs := [.int v11, v3, .int x2]) dX7_ofTwo_119 oX7_take q1860 q1858 hcc qs49 (Or.inl rfl) rfl rfl (Nat.le_of_ble_eq_true rfl) rfl hW hF hT ?_ ?_
        · intro _ s12 f13 hT h hW hF
          obtain ⟨a14, rfl, hT⟩ := hT
          refine x_iconst (v := 2) dX7_ofTwo_122 rfl ?_
          refine x_iload_n dX7_ofTwo_123 rfl rfl ?_
          obtain ⟨-, -, cc, hcc, -⟩ := hW.ob 3 (by decide)
          refine c_invV (vs := [.ref a14, .int 2, .int x2]) dX7_ofTwo_124 oX3_give_2 q1412 q1757 hcc q1413 (Or.inl rfl) rfl rfl (Nat.le_of_ble_eq_true rfl) rfl hW hF hT ?_ ?_
          · intro _ s15 f16 hT h hW hF
            obtain ⟨rfl, hT⟩ := hT
            refine x_goto (tgt := 392) dX7_ofTwo_127 rfl ?_
            exact x_vret dX7_ofTwo_392 rfl ⟨_, _, hW, hF, Or.inl ⟨_, rfl, hT⟩⟩
          · intro k s15 f16 hT h a hW hx hF
            exact c_out (rfl) hW hx hF hT
        · intro k s12 f13 hT h a hW hx hF
          exact c_out (rfl) hW hx hF hT
      · intro k s9 f10 hT h a hW hx hF
        exact c_out (rfl) hW hx hF hT
    · replace hT := hT.2 c
      have cs1 := c
      by_cases c : x1 = 21
      · replace hT := hT.1 c
        refine x_tableIn (tgt := 130) (off := 95) dX7_ofTwo_35 (by rw [c]; decide) (by rw [c]; decide) (by rw [c]; rfl) rfl ?_
        refine x_aload_n dX7_ofTwo_130 rfl rfl rfl ?_
        refine c_getO dX7_ofTwo_131 f_TallySlate_Works_9 (by decide) (by decide) rfl hW ?_
        refine x_aload_n dX7_ofTwo_134 rfl rfl rfl ?_
        refine x_aload_n dX7_ofTwo_135 rfl rfl rfl ?_
        refine c_getO dX7_ofTwo_136 f_TallySlate_Works_9 (by decide) (by decide) rfl hW ?_
        refine x_iload_n dX7_ofTwo_139 rfl rfl ?_
        refine x_iload_n dX7_ofTwo_140 rfl rfl ?_
        obtain ⟨-, -, cc, hcc, -⟩ := hW.ob 3 (by decide)
        refine c_invV (vs := [.int y1, .int x2]) dX7_ofTwo_141 oX3_asInt q1697 q1857 hcc q1698 (Or.inl rfl) rfl rfl (Nat.le_of_ble_eq_true rfl) rfl hW hF hT ?_ ?_
        · intro _ s17 f18 hT h hW hF
          obtain ⟨v19, rfl, hT⟩ := hT
          refine x_aload dX7_ofTwo_144 rfl iv3 ?_
          refine x_iload_n dX7_ofTwo_146 rfl rfl ?_
          obtain ⟨-, -, cc, hcc, -⟩ := hW.ob 7 (by decide)
          refine c_invV (vs := [.int v19, v3, .int x2]) dX7_ofTwo_147 oX7_drop q1870 q1868 hcc qs51 (Or.inl rfl) rfl rfl (Nat.le_of_ble_eq_true rfl) rfl hW hF hT ?_ ?_
          · intro _ s20 f21 hT h hW hF
            obtain ⟨a22, rfl, hT⟩ := hT
            refine x_iconst (v := 2) dX7_ofTwo_150 rfl ?_
            refine x_iload_n dX7_ofTwo_151 rfl rfl ?_
            obtain ⟨-, -, cc, hcc, -⟩ := hW.ob 3 (by decide)
            refine c_invV (vs := [.ref a22, .int 2, .int x2]) dX7_ofTwo_152 oX3_give_2 q1412 q1757 hcc q1413 (Or.inl rfl) rfl rfl (Nat.le_of_ble_eq_true rfl) rfl hW hF hT ?_ ?_
            · intro _ s23 f24 hT h hW hF
              obtain ⟨rfl, hT⟩ := hT
              refine x_goto (tgt := 392) dX7_ofTwo_155 rfl ?_
              exact x_vret dX7_ofTwo_392 rfl ⟨_, _, hW, hF, Or.inl ⟨_, rfl, hT⟩⟩
            · intro k s23 f24 hT h a hW hx hF
              exact c_out (rfl) hW hx hF hT
          · intro k s20 f21 hT h a hW hx hF
            exact c_out (rfl) hW hx hF hT
        · intro k s17 f18 hT h a hW hx hF
          exact c_out (rfl) hW hx hF hT
      · replace hT := hT.2 c
        have cs2 := c
        by_cases c : x1 = 22
        · replace hT := hT.1 c
          refine x_tableIn (tgt := 158) (off := 123) dX7_ofTwo_35 (by rw [c]; decide) (by rw [c]; decide) (by rw [c]; rfl) rfl ?_
          refine x_aload_n dX7_ofTwo_158 rfl rfl rfl ?_
          refine c_getO dX7_ofTwo_159 f_TallySlate_Works_9 (by decide) (by decide) rfl hW ?_
          obtain ⟨hr, hT⟩ := hT
          refine c_newG (k := 30) dX7_ofTwo_162 (by decide) q1784 q206 hr hW hF ?_
          intro a25 f26 ea25 ef26 h hW hF
          replace hT := hT a25 f26 ea25 ef26
          refine x_dup dX7_ofTwo_165 rfl ?_
          refine x_aload_n dX7_ofTwo_166 rfl rfl rfl ?_
          refine x_aload_n dX7_ofTwo_167 rfl rfl rfl ?_
          refine c_getO dX7_ofTwo_168 f_TallySlate_Works_9 (by decide) (by decide) rfl hW ?_
          refine x_iload_n dX7_ofTwo_171 rfl rfl ?_
          refine x_iload_n dX7_ofTwo_172 rfl rfl ?_
          obtain ⟨-, -, cc, hcc, -⟩ := hW.ob 3 (by decide)
          refine c_invV (vs := [.int y1, .int x2]) dX7_ofTwo_173 oX3_asRow q1731 q1803 hcc q1732 (Or.inl rfl) rfl rfl (Nat.le_of_ble_eq_true rfl) rfl hW hF hT ?_ ?_
          · intro _ s27 f28 hT h hW hF
            obtain ⟨a29, rfl, hT⟩ := hT
            obtain ⟨hc, hT⟩ := hT
            obtain ⟨a30, ev, hT⟩ := hT
            refine c_fgetG dX7_ofTwo_176 f_TallySlate_Works_66 hc (by decide) (by decide) hW ev ?_
            refine x_aload_n dX7_ofTwo_179 rfl rfl rfl ?_
            refine c_getO dX7_ofTwo_180 f_TallySlate_Works_9 (by decide) (by decide) rfl hW ?_
            refine x_iload_n dX7_ofTwo_183 rfl rfl ?_
            refine x_iconst (v := 1) dX7_ofTwo_184 rfl ?_
            refine x_iadd dX7_ofTwo_185 ?_
            refine x_iload_n dX7_ofTwo_186 rfl rfl ?_
            obtain ⟨-, -, cc, hcc, -⟩ := hW.ob 3 (by decide)
            refine c_invV (vs := [.int (y1 + 1), .int x2]) dX7_ofTwo_187 oX3_asRow q1731 q1803 hcc q1732 (Or.inl rfl) rfl rfl (Nat.le_of_ble_eq_true rfl) rfl hW hF hT ?_ ?_
            · intro _ s31 f32 hT h hW hF
              obtain ⟨a33, rfl, hT⟩ := hT
              obtain ⟨hc, hT⟩ := hT
              obtain ⟨a34, ev, hT⟩ := hT
              refine c_fgetG dX7_ofTwo_190 f_TallySlate_Works_66 hc (by decide) (by decide) hW ev ?_
              refine x_iload_n dX7_ofTwo_193 rfl rfl ?_
              obtain ⟨-, -, cc, hcc, -⟩ := hW.ob 7 (by decide)
              refine c_invV (vs := [.ref a30, .ref a34, .int x2]) dX7_ofTwo_194 oX7_cut q1877 q1875 hcc qs52 (Or.inl rfl) rfl rfl (Nat.le_of_ble_eq_true rfl) rfl hW hF hT ?_ ?_
              · intro _ s35 f36 hT h hW hF
                obtain ⟨a37, rfl, hT⟩ := hT
                refine c_invI (b := a25) (vs := [.ref a37]) dX7_ofTwo_197 oX33_init rfl rfl rfl q1469 (Or.inl q1802) rfl rfl (Nat.le_of_ble_eq_true rfl) rfl hW hF hT ?_ ?_
                · intro _ s38 f39 hT h hW hF
                  obtain ⟨rfl, hT⟩ := hT
                  refine x_iconst (v := 2) dX7_ofTwo_200 rfl ?_
                  refine x_iload_n dX7_ofTwo_201 rfl rfl ?_
                  obtain ⟨-, -, cc, hcc, -⟩ := hW.ob 3 (by decide)
                  refine c_invV (vs := [.ref a25, .int 2, .int x2]) dX7_ofTwo_202 oX3_give_2 q1412 q1757 hcc q1413 (Or.inl rfl) rfl rfl (Nat.le_of_ble_eq_true rfl) rfl hW hF hT ?_ ?_
                  · intro _ s40 f41 hT h hW hF
                    obtain ⟨rfl, hT⟩ := hT
                    refine x_goto (tgt := 392) dX7_ofTwo_205 rfl ?_
                    exact x_vret dX7_ofTwo_392 rfl ⟨_, _, hW, hF, Or.inl ⟨_, rfl, hT⟩⟩
                  · intro k s40 f41 hT h a hW hx hF
                    exact c_out (rfl) hW hx hF hT
                · intro k s38 f39 hT h a hW hx hF
                  exact c_out (rfl) hW hx hF hT
              · intro k s35 f36 hT h a hW hx hF
                exact c_out (rfl) hW hx hF hT
            · intro k s31 f32 hT h a hW hx hF
              exact c_out (rfl) hW hx hF hT
          · intro k s27 f28 hT h a hW hx hF
            exact c_out (rfl) hW hx hF hT
        · replace hT := hT.2 c
          have cs3 := c
          by_cases c : x1 = 23
          · replace hT := hT.1 c
            refine x_tableIn (tgt := 208) (off := 173) dX7_ofTwo_35 (by rw [c]; decide) (by rw [c]; decide) (by rw [c]; rfl) rfl ?_
            refine x_aload_n dX7_ofTwo_208 rfl rfl rfl ?_
            refine c_getO dX7_ofTwo_209 f_TallySlate_Works_9 (by decide) (by decide) rfl hW ?_
            refine x_aload_n dX7_ofTwo_212 rfl rfl rfl ?_
            refine x_aload dX7_ofTwo_213 rfl iv2 ?_
            refine x_iload_n dX7_ofTwo_215 rfl rfl ?_
            refine x_iconst (v := 1) dX7_ofTwo_216 rfl ?_
            refine x_iadd dX7_ofTwo_217 ?_
            refine x_iload_n dX7_ofTwo_218 rfl rfl ?_
            obtain ⟨-, -, cc, hcc, -⟩ := hW.ob 7 (by decide)
            refine c_invV (vs := [v2, .int (y1 + 1), .int x2]) dX7_ofTwo_219 oX7_pick q1881 q1879 hcc qs53 (Or.inl rfl) rfl rfl (Nat.le_of_ble_eq_true rfl) rfl hW hF hT ?_ ?_
            · intro _ s42 f43 hT h hW hF
              obtain ⟨a44, rfl, hT⟩ := hT
              refine x_iconst (v := 2) dX7_ofTwo_222 rfl ?_
              refine x_iload_n dX7_ofTwo_223 rfl rfl ?_
              obtain ⟨-, -, cc, hcc, -⟩ := hW.ob 3 (by decide)
              refine c_invV (vs := [.ref a44, .int 2, .int x2]) dX7_ofTwo_224 oX3_give_2 q1412 q1757 hcc q1413 (Or.inl rfl) rfl rfl (Nat.le_of_ble_eq_true rfl) rfl hW hF hT ?_ ?_
              · intro _ s45 f46 hT h hW hF
                obtain ⟨rfl, hT⟩ := hT
                refine x_goto (tgt := 392) dX7_ofTwo_227 rfl ?_
                exact x_vret dX7_ofTwo_392 rfl ⟨_, _, hW, hF, Or.inl ⟨_, rfl, hT⟩⟩
              · intro k s45 f46 hT h a hW hx hF
                exact c_out (rfl) hW hx hF hT
            · intro k s42 f43 hT h a hW hx hF
              exact c_out (rfl) hW hx hF hT
          · replace hT := hT.2 c
            have cs4 := c
            by_cases c : x1 = 24
            · replace hT := hT.1 c
              refine x_tableIn (tgt := 230) (off := 195) dX7_ofTwo_35 (by rw [c]; decide) (by rw [c]; decide) (by rw [c]; rfl) rfl ?_
              refine x_aload_n dX7_ofTwo_230 rfl rfl rfl ?_
              refine x_aload_n dX7_ofTwo_231 rfl rfl rfl ?_
              refine c_getO dX7_ofTwo_232 f_TallySlate_Works_9 (by decide) (by decide) rfl hW ?_
              refine x_iload_n dX7_ofTwo_235 rfl rfl ?_
              refine x_iload_n dX7_ofTwo_236 rfl rfl ?_
              obtain ⟨-, -, cc, hcc, -⟩ := hW.ob 3 (by decide)
              refine c_invV (vs := [.int y1, .int x2]) dX7_ofTwo_237 oX3_asRow q1731 q1803 hcc q1732 (Or.inl rfl) rfl rfl (Nat.le_of_ble_eq_true rfl) rfl hW hF hT ?_ ?_
              · intro _ s47 f48 hT h hW hF
                obtain ⟨a49, rfl, hT⟩ := hT
                obtain ⟨hc, hT⟩ := hT
                obtain ⟨a50, ev, hT⟩ := hT
                refine c_fgetG dX7_ofTwo_240 f_TallySlate_Works_66 hc (by decide) (by decide) hW ev ?_
                refine x_aload dX7_ofTwo_243 rfl iv3 ?_
                refine x_iload_n dX7_ofTwo_245 rfl rfl ?_
                obtain ⟨-, -, cc, hcc, -⟩ := hW.ob 7 (by decide)
                refine c_invV (vs := [.ref a50, v3, .int x2]) dX7_ofTwo_246 oX7_find q1886 q1884 hcc qs54 (Or.inl rfl) rfl rfl (Nat.le_of_ble_eq_true rfl) rfl hW hF hT ?_ ?_
                · intro _ s51 f52 hT h hW hF
                  obtain ⟨rfl, hT⟩ := hT
                  refine x_goto (tgt := 392) dX7_ofTwo_249 rfl ?_
                  exact x_vret dX7_ofTwo_392 rfl ⟨_, _, hW, hF, Or.inl ⟨_, rfl, hT⟩⟩
                · intro k s51 f52 hT h a hW hx hF
                  exact c_out (rfl) hW hx hF hT
              · intro k s47 f48 hT h a hW hx hF
                exact c_out (rfl) hW hx hF hT
            · replace hT := hT.2 c
              have cs5 := c
              by_cases c : x1 = 25
              · replace hT := hT.1 c
                refine x_tableIn (tgt := 252) (off := 217) dX7_ofTwo_35 (by rw [c]; decide) (by rw [c]; decide) (by rw [c]; rfl) rfl ?_
                refine x_aload_n dX7_ofTwo_252 rfl rfl rfl ?_
                refine c_getO dX7_ofTwo_253 f_TallySlate_Works_9 (by decide) (by decide) rfl hW ?_
                obtain ⟨hr, hT⟩ := hT
                refine c_newG (k := 30) dX7_ofTwo_256 (by decide) q1784 q206 hr hW hF ?_
                intro a53 f54 ea53 ef54 h hW hF
                replace hT := hT a53 f54 ea53 ef54
                refine x_dup dX7_ofTwo_259 rfl ?_
                refine x_aload_n dX7_ofTwo_260 rfl rfl rfl ?_
                refine x_aload_n dX7_ofTwo_261 rfl rfl rfl ?_
                refine c_getO dX7_ofTwo_262 f_TallySlate_Works_9 (by decide) (by decide) rfl hW ?_
                refine x_iload_n dX7_ofTwo_265 rfl rfl ?_
                refine x_iload_n dX7_ofTwo_266 rfl rfl ?_
                obtain ⟨-, -, cc, hcc, -⟩ := hW.ob 3 (by decide)
                refine c_invV (vs := [.int y1, .int x2]) dX7_ofTwo_267 oX3_asTable q1749 q1748 hcc q1750 (Or.inl rfl) rfl rfl (Nat.le_of_ble_eq_true rfl) rfl hW hF hT ?_ ?_
                · intro _ s55 f56 hT h hW hF
                  obtain ⟨a57, rfl, hT⟩ := hT
                  obtain ⟨hc, hT⟩ := hT
                  obtain ⟨a58, ev, hT⟩ := hT
                  refine c_fgetG dX7_ofTwo_270 f_TallySlate_Works_128 hc (by decide) (by decide) hW ev ?_
                  refine x_aload_n dX7_ofTwo_273 rfl rfl rfl ?_
                  refine c_getO dX7_ofTwo_274 f_TallySlate_Works_9 (by decide) (by decide) rfl hW ?_
                  refine x_iload_n dX7_ofTwo_277 rfl rfl ?_
                  refine x_iconst (v := 1) dX7_ofTwo_278 rfl ?_
                  refine x_iadd dX7_ofTwo_279 ?_
                  refine x_iload_n dX7_ofTwo_280 rfl rfl ?_
                  obtain ⟨-, -, cc, hcc, -⟩ := hW.ob 3 (by decide)
                  refine c_invV (vs := [.int (y1 + 1), .int x2]) dX7_ofTwo_281 oX3_asInt q1697 q1857 hcc q1698 (Or.inl rfl) rfl rfl (Nat.le_of_ble_eq_true rfl) rfl hW hF hT ?_ ?_
                  · intro _ s59 f60 hT h hW hF
                    obtain ⟨v61, rfl, hT⟩ := hT
                    refine x_iload_n dX7_ofTwo_284 rfl rfl ?_
                    obtain ⟨-, -, cc, hcc, -⟩ := hW.ob 7 (by decide)
                    refine c_invV (vs := [.ref a58, .int v61, .int x2]) dX7_ofTwo_285 oX7_pad q1893 q1891 hcc qs55 (Or.inl rfl) rfl rfl (Nat.le_of_ble_eq_true rfl) rfl hW hF hT ?_ ?_
                    · intro _ s62 f63 hT h hW hF
                      obtain ⟨a64, rfl, hT⟩ := hT
                      refine c_invI (b := a53) (vs := [.ref a64]) dX7_ofTwo_288 oX33_init rfl rfl rfl q1469 (Or.inl q1802) rfl rfl (Nat.le_of_ble_eq_true rfl) rfl hW hF hT ?_ ?_
                      · intro _ s65 f66 hT h hW hF
                        obtain ⟨rfl, hT⟩ := hT
                        refine x_iconst (v := 2) dX7_ofTwo_291 rfl ?_
                        refine x_iload_n dX7_ofTwo_292 rfl rfl ?_
                        obtain ⟨-, -, cc, hcc, -⟩ := hW.ob 3 (by decide)
                        refine c_invV (vs := [.ref a53, .int 2, .int x2]) dX7_ofTwo_293 oX3_give_2 q1412 q1757 hcc q1413 (Or.inl rfl) rfl rfl (Nat.le_of_ble_eq_true rfl) rfl hW hF hT ?_ ?_
                        · intro _ s67 f68 hT h hW hF
                          obtain ⟨rfl, hT⟩ := hT
                          refine x_goto (tgt := 392) dX7_ofTwo_296 rfl ?_
                          exact x_vret dX7_ofTwo_392 rfl ⟨_, _, hW, hF, Or.inl ⟨_, rfl, hT⟩⟩
                        · intro k s67 f68 hT h a hW hx hF
                          exact c_out (rfl) hW hx hF hT
                      · intro k s65 f66 hT h a hW hx hF
                        exact c_out (rfl) hW hx hF hT
                    · intro k s62 f63 hT h a hW hx hF
                      exact c_out (rfl) hW hx hF hT
                  · intro k s59 f60 hT h a hW hx hF
                    exact c_out (rfl) hW hx hF hT
                · intro k s55 f56 hT h a hW hx hF
                  exact c_out (rfl) hW hx hF hT
              · replace hT := hT.2 c
                have cs6 := c
                by_cases c : x1 = 26
                · replace hT := hT.1 c
                  refine x_tableIn (tgt := 299) (off := 264) dX7_ofTwo_35 (by rw [c]; decide) (by rw [c]; decide) (by rw [c]; rfl) rfl ?_
                  refine x_aload_n dX7_ofTwo_299 rfl rfl rfl ?_
                  refine c_getO dX7_ofTwo_300 f_TallySlate_Works_9 (by decide) (by decide) rfl hW ?_
                  obtain ⟨hr, hT⟩ := hT
                  refine c_newG (k := 30) dX7_ofTwo_303 (by decide) q1784 q206 hr hW hF ?_
                  intro a69 f70 ea69 ef70 h hW hF
                  replace hT := hT a69 f70 ea69 ef70
                  refine x_dup dX7_ofTwo_306 rfl ?_
                  refine x_aload_n dX7_ofTwo_307 rfl rfl rfl ?_
                  refine x_aload_n dX7_ofTwo_308 rfl rfl rfl ?_
                  refine c_getO dX7_ofTwo_309 f_TallySlate_Works_9 (by decide) (by decide) rfl hW ?_
                  refine x_iload_n dX7_ofTwo_312 rfl rfl ?_
                  refine x_iload_n dX7_ofTwo_313 rfl rfl ?_
                  obtain ⟨-, -, cc, hcc, -⟩ := hW.ob 3 (by decide)
                  refine c_invV (vs := [.int y1, .int x2]) dX7_ofTwo_314 oX3_asRow q1731 q1803 hcc q1732 (Or.inl rfl) rfl rfl (Nat.le_of_ble_eq_true rfl) rfl hW hF hT ?_ ?_
                  · intro _ s71 f72 hT h hW hF
                    obtain ⟨a73, rfl, hT⟩ := hT
                    obtain ⟨hc, hT⟩ := hT
                    obtain ⟨a74, ev, hT⟩ := hT
                    refine c_fgetG dX7_ofTwo_317 f_TallySlate_Works_66 hc (by decide) (by decide) hW ev ?_
                    refine x_aload_n dX7_ofTwo_320 rfl rfl rfl ?_
                    refine c_getO dX7_ofTwo_321 f_TallySlate_Works_9 (by decide) (by decide) rfl hW ?_
                    refine x_iload_n dX7_ofTwo_324 rfl rfl ?_
                    refine x_iconst (v := 1) dX7_ofTwo_325 rfl ?_
                    refine x_iadd dX7_ofTwo_326 ?_
                    refine x_iload_n dX7_ofTwo_327 rfl rfl ?_
                    obtain ⟨-, -, cc, hcc, -⟩ := hW.ob 3 (by decide)
                    refine c_invV (vs := [.int (y1 + 1), .int x2]) dX7_ofTwo_328 oX3_asRow q1731 q1803 hcc q1732 (Or.inl rfl) rfl rfl (Nat.le_of_ble_eq_true rfl) rfl hW hF hT ?_ ?_
                    · intro _ s75 f76 hT h hW hF
                      obtain ⟨a77, rfl, hT⟩ := hT
                      obtain ⟨hc, hT⟩ := hT
                      obtain ⟨a78, ev, hT⟩ := hT
                      refine c_fgetG dX7_ofTwo_331 f_TallySlate_Works_66 hc (by decide) (by decide) hW ev ?_
                      refine x_iload_n dX7_ofTwo_334 rfl rfl ?_
                      obtain ⟨-, -, cc, hcc, -⟩ := hW.ob 7 (by decide)
                      refine c_invV (vs := [.ref a74, .ref a78, .int x2]) dX7_ofTwo_335 oX7_outer q1898 q1896 hcc qs56 (Or.inl rfl) rfl rfl (Nat.le_of_ble_eq_true rfl) rfl hW hF hT ?_ ?_
                      · intro _ s79 f80 hT h hW hF
                        obtain ⟨a81, rfl, hT⟩ := hT
                        refine c_invI (b := a69) (vs := [.ref a81]) dX7_ofTwo_338 oX33_init rfl rfl rfl q1469 (Or.inl q1802) rfl rfl (Nat.le_of_ble_eq_true rfl) rfl hW hF hT ?_ ?_
                        · intro _ s82 f83 hT h hW hF
                          obtain ⟨rfl, hT⟩ := hT
                          refine x_iconst (v := 2) dX7_ofTwo_341 rfl ?_
                          refine x_iload_n dX7_ofTwo_342 rfl rfl ?_
                          obtain ⟨-, -, cc, hcc, -⟩ := hW.ob 3 (by decide)
                          refine c_invV (vs := [.ref a69, .int 2, .int x2]) dX7_ofTwo_343 oX3_give_2 q1412 q1757 hcc q1413 (Or.inl rfl) rfl rfl (Nat.le_of_ble_eq_true rfl) rfl hW hF hT ?_ ?_
                          · intro _ s84 f85 hT h hW hF
                            obtain ⟨rfl, hT⟩ := hT
                            refine x_goto (tgt := 392) dX7_ofTwo_346 rfl ?_
                            exact x_vret dX7_ofTwo_392 rfl ⟨_, _, hW, hF, Or.inl ⟨_, rfl, hT⟩⟩
                          · intro k s84 f85 hT h a hW hx hF
                            exact c_out (rfl) hW hx hF hT
                        · intro k s82 f83 hT h a hW hx hF
                          exact c_out (rfl) hW hx hF hT
                      · intro k s79 f80 hT h a hW hx hF
                        exact c_out (rfl) hW hx hF hT
                    · intro k s75 f76 hT h a hW hx hF
                      exact c_out (rfl) hW hx hF hT
                  · intro k s71 f72 hT h a hW hx hF
                    exact c_out (rfl) hW hx hF hT
                · replace hT := hT.2 c
                  have cs7 := c
                  refine x_tableD (tgt := 349) [19, 20, 21, 22, 23, 24, 25, 26] dX7_ofTwo_35 (List.forall_mem_cons.mpr ⟨fun h => cs0 (i32_of (h.trans (show (19 : Int) = (19 : Int32).toInt from by decide))), List.forall_mem_cons.mpr ⟨fun h => cs1 (i32_of (h.trans (show (20 : Int) = (20 : Int32).toInt from by decide))), List.forall_mem_cons.mpr ⟨fun h => cs2 (i32_of (h.trans (show (21 : Int) = (21 : Int32).toInt from by decide))), List.forall_mem_cons.mpr ⟨fun h => cs3 (i32_of (h.trans (show (22 : Int) = (22 : Int32).toInt from by decide))), List.forall_mem_cons.mpr ⟨fun h => cs4 (i32_of (h.trans (show (23 : Int) = (23 : Int32).toInt from by decide))), List.forall_mem_cons.mpr ⟨fun h => cs5 (i32_of (h.trans (show (24 : Int) = (24 : Int32).toInt from by decide))), List.forall_mem_cons.mpr ⟨fun h => cs6 (i32_of (h.trans (show (25 : Int) = (25 : Int32).toInt from by decide))), List.forall_mem_cons.mpr ⟨fun h => cs7 (i32_of (h.trans (show (26 : Int) = (26 : Int32).toInt from by decide))), fun _ h => absurd h List.not_mem_nil⟩⟩⟩⟩⟩⟩⟩⟩) (by decide) (by decide) rfl ?_
                  refine x_aload_n dX7_ofTwo_349 rfl rfl rfl ?_
                  refine c_getO dX7_ofTwo_350 f_TallySlate_Works_9 (by decide) (by decide) rfl hW ?_
                  refine x_aload_n dX7_ofTwo_353 rfl rfl rfl ?_
                  refine c_getO dX7_ofTwo_354 f_TallySlate_Works_9 (by decide) (by decide) rfl hW ?_
                  refine c_getA dX7_ofTwo_357 f_TallySlate_Works_138 (by decide) (by decide) rfl hW ?_
                  refine x_iload_n dX7_ofTwo_360 rfl rfl ?_
                  obtain ⟨hb, hT⟩ := hT
                  refine c_iald (v := (s.2.2.1 24 y1.toNatClampNeg)) dX7_ofTwo_361 rfl hb hW rfl ?_
                  refine x_aload dX7_ofTwo_362 rfl iv2 ?_
                  refine x_aload_n dX7_ofTwo_364 rfl rfl rfl ?_
                  refine c_getO dX7_ofTwo_365 f_TallySlate_Works_9 (by decide) (by decide) rfl hW ?_
                  refine c_getA dX7_ofTwo_368 f_TallySlate_Works_138 (by decide) (by decide) rfl hW ?_
                  refine x_iload_n dX7_ofTwo_371 rfl rfl ?_
                  refine x_iconst (v := 1) dX7_ofTwo_372 rfl ?_
                  refine x_iadd dX7_ofTwo_373 ?_
                  obtain ⟨hb, hT⟩ := hT
                  refine c_iald (v := (s.2.2.1 24 (y1 + 1).toNatClampNeg)) dX7_ofTwo_374 rfl hb hW rfl ?_
                  refine x_aload dX7_ofTwo_375 rfl iv3 ?_
                  refine c_invS (vs := [.int (s.2.2.1 24 y1.toNatClampNeg), v2, .int (s.2.2.1 24 (y1 + 1).toNatClampNeg), v3]) dX7_ofTwo_377 oX0_alike q1901 (Or.inr ⟨_, q1900⟩) rfl rfl (Nat.le_of_ble_eq_true rfl) rfl hW hF hT ?_ ?_
                  · intro _ s86 f87 hT h hW hF
                    obtain ⟨v88, rfl, hT⟩ := hT
                    refine x_if_eq (tgt := 387) dX7_ofTwo_380 rfl (fun c => ?_) (fun c => ?_)
                    · replace hT := hT.1 c
                      refine x_iconst (v := 0) dX7_ofTwo_387 rfl ?_
                      refine x_iconst (v := 2) dX7_ofTwo_388 rfl ?_
                      obtain ⟨-, -, cc, hcc, -⟩ := hW.ob 3 (by decide)
                      refine c_invV (vs := [.int 0, .int 2]) dX7_ofTwo_389 oX3_give q1384 q1747 hcc q1385 (Or.inl rfl) rfl rfl (Nat.le_of_ble_eq_true rfl) rfl hW hF hT ?_ ?_
                      · intro _ s89 f90 hT h hW hF
                        obtain ⟨rfl, hT⟩ := hT
                        exact x_vret dX7_ofTwo_392 rfl ⟨_, _, hW, hF, Or.inl ⟨_, rfl, hT⟩⟩
                      · intro k s89 f90 hT h a hW hx hF
                        exact c_out (rfl) hW hx hF hT
                    · replace hT := hT.2 c
                      refine x_iconst (v := 1) dX7_ofTwo_383 rfl ?_
                      refine x_goto (tgt := 388) dX7_ofTwo_384 rfl ?_
                      refine x_iconst (v := 2) dX7_ofTwo_388 rfl ?_
                      obtain ⟨-, -, cc, hcc, -⟩ := hW.ob 3 (by decide)
                      refine c_invV (vs := [.int 1, .int 2]) dX7_ofTwo_389 oX3_give q1384 q1747 hcc q1385 (Or.inl rfl) rfl rfl (Nat.le_of_ble_eq_true rfl) rfl hW hF hT ?_ ?_
                      · intro _ s91 f92 hT h hW hF
                        obtain ⟨rfl, hT⟩ := hT
                        exact x_vret dX7_ofTwo_392 rfl ⟨_, _, hW, hF, Or.inl ⟨_, rfl, hT⟩⟩
                      · intro k s91 f92 hT h a hW hx hF
                        exact c_out (rfl) hW hx hF hT
                  · intro k s86 f87 hT h a hW hx hF
                    exact c_out (rfl) hW hx hF hT
theorem eX7_ofTwo {l : Launch} {E : EN} {w : CO} {d : Nat} {s : CS} {f : RH} {Q : KO → CS → RH → Prop} {x1 : Int32} {x2 : Int32}  (hst : l.stackTraces = false) (hT : (∀ y1 : Int32, y1 = ((s.1 26) - 2) → (inB y1 8400 ∧ ∃ v2 : Value, (s.2.2.2 25 y1.toNatClampNeg) = v2 ∧ isR v2 = true ∧ (inB (y1 + 1) 8400 ∧ ∃ v3 : Value, (s.2.2.2 25 (y1 + 1).toNatClampNeg) = v3 ∧ isR v3 = true ∧ ((x1 = 19 → (EvC l E w d MX7_join [.ref (w.1 7), .int y1, v2, v3, .int x2] s f (fun o s4 f5 => KP o (fun r => ∃ a6 : Nat, r = some (.ref a6) ∧ (EvC l E w d MX3_give_2 [.ref (w.1 3), .ref a6, .int 2, .int x2] s4 f5 (fun o s7 f8 => KP o (fun r => r = none ∧ Q (.inl none) s7 f8) (fun k => Q (.inr k) s7 f8)))) (fun k => Q (.inr k) s4 f5)))) ∧ (¬ (x1 = 19) → ((x1 = 20 → (EvC l E w d MX3_asInt [.ref (w.1 3), .int y1, .int x2] s f (fun o s9 f10 => KP o (fun r => ∃ v11 : Int32, r = some (.int v11) ∧ (EvC l E w d MX7_take [.ref (w.1 7), .int v11, v3, .int x2] s9 f10 (fun o s12 f13 => KP o (fun r => ∃ a14 : Nat, r = some (.ref a14) ∧ (EvC l E w d MX3_give_2 [.ref (w.1 3), .ref a14, .int 2, .int x2] s12 f13 (fun o s15 f16 => KP o (fun r => r = none ∧ Q (.inl none) s15 f16) (fun k => Q (.inr k) s15 f16)))) (fun k => Q (.inr k) s12 f13)))) (fun k => Q (.inr k) s9 f10)))) ∧ (¬ (x1 = 20) → ((x1 = 21 → (EvC l E w d MX3_asInt [.ref (w.1 3), .int y1, .int x2] s f (fun o s17 f18 => KP o (fun r => ∃ v19 : Int32, r = some (.int v19) ∧ (EvC l E w d MX7_drop [.ref (w.1 7), .int v19, v3, .int x2] s17 f18 (fun o s20 f21 => KP o (fun r => ∃ a22 : Nat, r = some (.ref a22) ∧ (EvC l E w d MX3_give_2 [.ref (w.1 3), .ref a22, .int 2, .int x2] s20 f21 (fun o s23 f24 => KP o (fun r => r = none ∧ Q (.inl none) s23 f24) (fun k => Q (.inr k) s23 f24)))) (fun k => Q (.inr k) s20 f21)))) (fun k => Q (.inr k) s17 f18)))) ∧ (¬ (x1 = 21) → ((x1 = 22 → (rmF E f 1 2 ∧ ∀ (a25 : Nat) (f26 : RH), a25 = f.1 → f26 = fnew f 30 → (EvC l E w d MX3_asRow [.ref (w.1 3), .int y1, .int x2] s f26 (fun o s27 f28 => KP o (fun r => ∃ a29 : Nat, r = some (.ref a29) ∧ (oc f28 a29 29 ∧ (∃ a30 : Nat, vl f28 a29 203 = .ref a30 ∧ (EvC l E w d MX3_asRow [.ref (w.1 3), .int (y1 + 1), .int x2] s27 f28 (fun o s31 f32 => KP o (fun r => ∃ a33 : Nat, r = some (.ref a33) ∧ (oc f32 a33 29 ∧ (∃ a34 : Nat, vl f32 a33 203 = .ref a34 ∧ (EvC l E w d MX7_cut [.ref (w.1 7), .ref a30, .ref a34, .int x2] s31 f32 (fun o s35 f36 => KP o (fun r => ∃ a37 : Nat, r = some (.ref a37) ∧ (EvC l E w d MX33_init [.ref a25, .ref a37] s35 f36 (fun o s38 f39 => KP o (fun r => r = none ∧ (EvC l E w d MX3_give_2 [.ref (w.1 3), .ref a25, .int 2, .int x2] s38 f39 (fun o s40 f41 => KP o (fun r => r = none ∧ Q (.inl none) s40 f41) (fun k => Q (.inr k) s40 f41)))) (fun k => Q (.inr k) s38 f39)))) (fun k => Q (.inr k) s35 f36)))))) (fun k => Q (.inr k) s31 f32)))))) (fun k => Q (.inr k) s27 f28))))) ∧ (¬ (x1 = 22) → ((x1 = 23 → (EvC l E w d MX7_pick [.ref (w.1 7), v2, .int (y1 + 1), .int x2] s f (fun o s42 f43 => KP o (fun r => ∃ a44 : Nat, r = some (.ref a44) ∧ (EvC l E w d MX3_give_2 [.ref (w.1 3), .ref a44, .int 2, .int x2] s42 f43 (fun o s45 f46 => KP o (fun r => r = none ∧ Q (.inl none) s45 f46) (fun k => Q (.inr k) s45 f46)))) (fun k => Q (.inr k) s42 f43)))) ∧ (¬ (x1 = 23) → ((x1 = 24 → (EvC l E w d MX3_asRow [.ref (w.1 3), .int y1, .int x2] s f (fun o s47 f48 => KP o (fun r => ∃ a49 : Nat, r = some (.ref a49) ∧ (oc f48 a49 29 ∧ (∃ a50 : Nat, vl f48 a49 203 = .ref a50 ∧ (EvC l E w d MX7_find [.ref (w.1 7), .ref a50, v3, .int x2] s47 f48 (fun o s51 f52 => KP o (fun r => r = none ∧ Q (.inl none) s51 f52) (fun k => Q (.inr k) s51 f52)))))) (fun k => Q (.inr k) s47 f48)))) ∧ (¬ (x1 = 24) → ((x1 = 25 → (rmF E f 1 2 ∧ ∀ (a53 : Nat) (f54 : RH), a53 = f.1 → f54 = fnew f 30 → (EvC l E w d MX3_asTable [.ref (w.1 3), .int y1, .int x2] s f54 (fun o s55 f56 => KP o (fun r => ∃ a57 : Nat, r = some (.ref a57) ∧ (oc f56 a57 30 ∧ (∃ a58 : Nat, vl f56 a57 204 = .ref a58 ∧ (EvC l E w d MX3_asInt [.ref (w.1 3), .int (y1 + 1), .int x2] s55 f56 (fun o s59 f60 => KP o (fun r => ∃ v61 : Int32, r = some (.int v61) ∧ (EvC l E w d MX7_pad [.ref (w.1 7), .ref a58, .int v61, .int x2] s59 f60 (fun o s62 f63 => KP o (fun r => ∃ a64 : Nat, r = some (.ref a64) ∧ (EvC l E w d MX33_init [.ref a53, .ref a64] s62 f63 (fun o s65 f66 => KP o (fun r => r = none ∧ (EvC l E w d MX3_give_2 [.ref (w.1 3), .ref a53, .int 2, .int x2] s65 f66 (fun o s67 f68 => KP o (fun r => r = none ∧ Q (.inl none) s67 f68) (fun k => Q (.inr k) s67 f68)))) (fun k => Q (.inr k) s65 f66)))) (fun k => Q (.inr k) s62 f63)))) (fun k => Q (.inr k) s59 f60)))))) (fun k => Q (.inr k) s55 f56))))) ∧ (¬ (x1 = 25) → ((x1 = 26 → (rmF E f 1 2 ∧ ∀ (a69 : Nat) (f70 : RH), a69 = f.1 → f70 = fnew f 30 → (EvC l E w d MX3_asRow [.ref (w.1 3), .int y1, .int x2] s f70 (fun o s71 f72 => KP o (fun r => ∃ a73 : Nat, r = some (.ref a73) ∧ (oc f72 a73 29 ∧ (∃ a74 : Nat, vl f72 a73 203 = .ref a74 ∧ (EvC l E w d MX3_asRow [.ref (w.1 3), .int (y1 + 1), .int x2] s71 f72 (fun o s75 f76 => KP o (fun r => ∃ a77 : Nat, r = some (.ref a77) ∧ (oc f76 a77 29 ∧ (∃ a78 : Nat, vl f76 a77 203 = .ref a78 ∧ (EvC l E w d MX7_outer [.ref (w.1 7), .ref a74, .ref a78, .int x2] s75 f76 (fun o s79 f80 => KP o (fun r => ∃ a81 : Nat, r = some (.ref a81) ∧ (EvC l E w d MX33_init [.ref a69, .ref a81] s79 f80 (fun o s82 f83 => KP o (fun r => r = none ∧ (EvC l E w d MX3_give_2 [.ref (w.1 3), .ref a69, .int 2, .int x2] s82 f83 (fun o s84 f85 => KP o (fun r => r = none ∧ Q (.inl none) s84 f85) (fun k => Q (.inr k) s84 f85)))) (fun k => Q (.inr k) s82 f83)))) (fun k => Q (.inr k) s79 f80)))))) (fun k => Q (.inr k) s75 f76)))))) (fun k => Q (.inr k) s71 f72))))) ∧ (¬ (x1 = 26) → ((inB y1 8400 ∧ (inB (y1 + 1) 8400 ∧ (EvC l E w d MX0_alike [.int (s.2.2.1 24 y1.toNatClampNeg), v2, .int (s.2.2.1 24 (y1 + 1).toNatClampNeg), v3] s f (fun o s86 f87 => KP o (fun r => ∃ v88 : Int32, r = some (.int v88) ∧ ((v88 = 0 → (EvC l E w d MX3_give [.ref (w.1 3), .int 0, .int 2] s86 f87 (fun o s89 f90 => KP o (fun r => r = none ∧ Q (.inl none) s89 f90) (fun k => Q (.inr k) s89 f90)))) ∧ (¬ v88 = 0 → (EvC l E w d MX3_give [.ref (w.1 3), .int 1, .int 2] s86 f87 (fun o s91 f92 => KP o (fun r => r = none ∧ Q (.inl none) s91 f92) (fun k => Q (.inr k) s91 f92)))))) (fun k => Q (.inr k) s86 f87)))))))))))))))))))))))))) : EvC l E w (d + 1) MX7_ofTwo [.ref (w.1 7), .int x1, .int x2] s f Q :=
  EvC.of hst (by decide) (Nat.le_of_ble_eq_true rfl) (vX7_ofTwo_0  hT)
