/-! weakest preconditions of methods of the component: printed by wpc.py -/
set_option maxRecDepth 100000
theorem vX11_name_0 {l : Launch} {E : EN} {w : CO} {d : Nat} {s : CS} {f : RH} {Q : KO → CS → RH → Prop} {x0 : Nat}  (hT : (oc f x0 11 ∧ EvC l E w d MX11_wantName [.ref x0] s f (fun o s1 f2 => KP o (fun r => r = none ∧ (oc f2 x0 11 ∧ (∃ a3 : Nat, vl f2 x0 147 = .ref a3 ∧ (oc f2 a3 2 ∧ EvC l E w d MX2_name [.ref a3] s1 f2 (fun o s4 f5 => KP o (fun r => ∃ v6 : Int64, r = some (.long v6) ∧ (EvC l E w d MX11_isShelf [.long v6] s4 f5 (fun o s7 f8 => KP o (fun r => ∃ v9 : Int32, r = some (.int v9) ∧ ((v9 = 0 → ExC l E w (d + 1) MX11_name 33 [some (.ref x0), some (.long v6), none, some (.int 0)] [] s7 f8 Q) ∧ (¬ v9 = 0 → (oc f8 x0 11 ∧ (∃ a10 : Nat, vl f8 x0 147 = .ref a10 ∧ (oc f8 a10 2 ∧ EvC l E w d MX2_next [.ref a10] s7 f8 (fun o s11 f12 => KP o (fun r => r = none ∧ Q (.inl (some (.int (v6.toInt32 - 1)))) s11 f12) (fun k => Q (.inr k) s11 f12)))))))) (fun k => Q (.inr k) s7 f8)))) (fun k => Q (.inr k) s4 f5)))))) (fun k => Q (.inr k) s1 f2)))) : ExC l E w (d + 1) MX11_name 0 [some (.ref x0), none, none, none] [] s f Q := by
  intro f0 h hW hF
  refine x_aload_n dX11_name_0 rfl rfl rfl ?_
  obtain ⟨hc, hT⟩ := hT
  obtain ⟨cc, hcc⟩ := hW.ocell hc
  refine c_invV (vs := []) dX11_name_1 oX11_wantName q758 q756 hcc qs7 (Or.inl rfl) rfl rfl (Nat.le_of_ble_eq_true rfl) rfl hW hF hT ?_ ?_
  · intro _ s1 f2 hT h hW hF
    obtain ⟨rfl, hT⟩ := hT
    refine x_aload_n dX11_name_4 rfl rfl rfl ?_
    obtain ⟨hc, hT⟩ := hT
    obtain ⟨a3, ev, hT⟩ := hT
    refine c_fgetG dX11_name_5 f_TallySlate_Reader_23 hc (by decide) (by decide) hW ev ?_
    obtain ⟨hc, hT⟩ := hT
    obtain ⟨cc, hcc⟩ := hW.ocell hc
    refine c_invV (vs := []) dX11_name_8 oX2_name q806 q805 hcc q807 (Or.inl rfl) rfl rfl (Nat.le_of_ble_eq_true rfl) rfl hW hF hT ?_ ?_
    · intro _ s4 f5 hT h hW hF
      obtain ⟨v6, rfl, hT⟩ := hT
      refine x_lstore_n (lo' := [some (.ref x0), some (.long v6), none, none]) dX11_name_11 rfl (Nat.le_of_ble_eq_true rfl) rfl ?_
      refine x_lload_n dX11_name_12 rfl rfl ?_
      refine c_invS (vs := [.long v6]) dX11_name_13 oX11_isShelf q812 (Or.inl q811) rfl rfl (Nat.le_of_ble_eq_true rfl) rfl hW hF hT ?_ ?_
      · intro _ s7 f8 hT h hW hF
        obtain ⟨v9, rfl, hT⟩ := hT
        refine x_if_eq (tgt := 31) dX11_name_16 rfl (fun c => ?_) (fun c => ?_)
        · replace hT := hT.1 c
          refine x_iconst (v := 0) dX11_name_31 rfl ?_
          refine x_istore_n (lo' := [some (.ref x0), some (.long v6), none, some (.int 0)]) dX11_name_32 rfl (Nat.le_of_ble_eq_true rfl) rfl ?_
          exact hT f0 h hW hF
        · replace hT := hT.2 c
          refine x_aload_n dX11_name_19 rfl rfl rfl ?_
          obtain ⟨hc, hT⟩ := hT
          obtain ⟨a10, ev, hT⟩ := hT
          refine c_fgetG dX11_name_20 f_TallySlate_Reader_23 hc (by decide) (by decide) hW ev ?_
          obtain ⟨hc, hT⟩ := hT
          obtain ⟨cc, hcc⟩ := hW.ocell hc
          refine c_invV (vs := []) dX11_name_23 oX2_next q610 q609 hcc q611 (Or.inl rfl) rfl rfl (Nat.le_of_ble_eq_true rfl) rfl hW hF hT ?_ ?_
          · intro _ s11 f12 hT h hW hF
            obtain ⟨rfl, hT⟩ := hT
            refine x_lload_n dX11_name_26 rfl rfl ?_
            refine x_l2i dX11_name_27 ?_
            refine x_iconst (v := 1) dX11_name_28 rfl ?_
            refine x_isub dX11_name_29 ?_
            exact x_iret dX11_name_30 rfl rfl ⟨_, _, hW, hF, Or.inl ⟨_, rfl, hT⟩⟩
          · intro k s11 f12 hT h a hW hx hF
            exact c_out (rfl) hW hx hF hT
      · intro k s7 f8 hT h a hW hx hF
        exact c_out (rfl) hW hx hF hT
    · intro k s4 f5 hT h a hW hx hF
      exact c_out (rfl) hW hx hF hT
  · intro k s1 f2 hT h a hW hx hF
    exact c_out (rfl) hW hx hF hT
theorem eX11_name {l : Launch} {E : EN} {w : CO} {d : Nat} {s : CS} {f : RH} {Q : KO → CS → RH → Prop} {x0 : Nat}  (hst : l.stackTraces = false) (hT : (oc f x0 11 ∧ EvC l E w d MX11_wantName [.ref x0] s f (fun o s1 f2 => KP o (fun r => r = none ∧ (oc f2 x0 11 ∧ (∃ a3 : Nat, vl f2 x0 147 = .ref a3 ∧ (oc f2 a3 2 ∧ EvC l E w d MX2_name [.ref a3] s1 f2 (fun o s4 f5 => KP o (fun r => ∃ v6 : Int64, r = some (.long v6) ∧ (EvC l E w d MX11_isShelf [.long v6] s4 f5 (fun o s7 f8 => KP o (fun r => ∃ v9 : Int32, r = some (.int v9) ∧ ((v9 = 0 → ExC l E w (d + 1) MX11_name 33 [some (.ref x0), some (.long v6), none, some (.int 0)] [] s7 f8 Q) ∧ (¬ v9 = 0 → (oc f8 x0 11 ∧ (∃ a10 : Nat, vl f8 x0 147 = .ref a10 ∧ (oc f8 a10 2 ∧ EvC l E w d MX2_next [.ref a10] s7 f8 (fun o s11 f12 => KP o (fun r => r = none ∧ Q (.inl (some (.int (v6.toInt32 - 1)))) s11 f12) (fun k => Q (.inr k) s11 f12)))))))) (fun k => Q (.inr k) s7 f8)))) (fun k => Q (.inr k) s4 f5)))))) (fun k => Q (.inr k) s1 f2)))) : EvC l E w (d + 1) MX11_name [.ref x0] s f Q :=
  EvC.of hst (by decide) (Nat.le_of_ble_eq_true rfl) (vX11_name_0  hT)
set_option maxHeartbeats 16000000 in
theorem vX11_name_33 {l : Launch} {E : EN} {w : CO} {d : Nat} {s : CS} {f : RH} {Q : KO → CS → RH → Prop} {b0 : Nat} {b1 : Int64} {b3 : Int32}  (hT : (oc f b0 11 ∧ (∃ a16 : Nat, vl f b0 150 = .ref a16 ∧ (oc f a16 12 ∧ (∃ v17 : Int32, vl f a16 156 = .int v17 ∧ ((v17 ≤ b3 → ((¬ b3 = 14 → (oc f b0 11 ∧ (∃ a18 : Nat, vl f b0 150 = .ref a18 ∧ (oc f a18 12 ∧ (∃ a19 : Nat, vl f a18 157 = .ref a19 ∧ (tg f a19 = some (.inr 1) ∧ inB b3 (ln f a19) ∧ f.2.2.2 ≤ a19 ∧ ∀ f20 : RH, f20 = fset f a19 b3.toNatClampNeg (.long b1) → (oc f20 b0 11 ∧ (∃ a21 : Nat, vl f20 b0 150 = .ref a21 ∧ (oc f20 b0 11 ∧ (∃ a22 : Nat, vl f20 b0 150 = .ref a22 ∧ (oc f20 a22 12 ∧ (∃ v23 : Int32, vl f20 a22 156 = .int v23 ∧ (oc f20 a21 12 ∧ f20.2.2.2 ≤ a21 ∧ ∀ f24 : RH, f24 = fset f20 a21 156 (.int (if v23 < (b3 + 1) then (b3 + 1) else v23)) → (oc f24 b0 11 ∧ (∃ a25 : Nat, vl f24 b0 147 = .ref a25 ∧ (oc f24 a25 2 ∧ EvC l E w d MX2_next [.ref a25] s f24 (fun o s26 f27 => KP o (fun r => r = none ∧ Q (.inl (some (.int (8 + b3)))) s26 f27) (fun k => Q (.inr k) s26 f27)))))))))))))))))) ∧ (b3 = 14 → (oc f b0 11 ∧ (∃ a29 : Nat, vl f b0 147 = .ref a29 ∧ (oc f b0 11 ∧ (∃ a30 : Nat, vl f b0 147 = .ref a30 ∧ (oc f a30 2 ∧ (∃ v31 : Int32, vl f a30 21 = .int v31 ∧ (oc f a29 2 ∧ EvC l E w d MX2_wrong [.ref a29, .int 3, .int v31] s f (fun o s32 f33 => KP o (fun r => r = some (.ref (w.1 1)) ∧ Q (.inr 1) s32 f33) (fun k => Q (.inr k) s32 f33)))))))))))) ∧ (¬ v17 ≤ b3 → (oc f b0 11 ∧ (∃ a35 : Nat, vl f b0 150 = .ref a35 ∧ (oc f a35 12 ∧ (∃ a36 : Nat, vl f a35 157 = .ref a36 ∧ (tg f a36 = some (.inr 1) ∧ inB b3 (ln f a36) ∧ (∃ v37 : Int64, vl f a36 b3.toNatClampNeg = .long v37 ∧ (((lg_cmp v37 b1) = 0 → ((¬ b3 = 14 → (oc f b0 11 ∧ (∃ a38 : Nat, vl f b0 150 = .ref a38 ∧ (oc f a38 12 ∧ (∃ a39 : Nat, vl f a38 157 = .ref a39 ∧ (tg f a39 = some (.inr 1) ∧ inB b3 (ln f a39) ∧ f.2.2.2 ≤ a39 ∧ ∀ f40 : RH, f40 = fset f a39 b3.toNatClampNeg (.long b1) → (oc f40 b0 11 ∧ (∃ a41 : Nat, vl f40 b0 150 = .ref a41 ∧ (oc f40 b0 11 ∧ (∃ a42 : Nat, vl f40 b0 150 = .ref a42 ∧ (oc f40 a42 12 ∧ (∃ v43 : Int32, vl f40 a42 156 = .int v43 ∧ (oc f40 a41 12 ∧ f40.2.2.2 ≤ a41 ∧ ∀ f44 : RH, f44 = fset f40 a41 156 (.int (if v43 < (b3 + 1) then (b3 + 1) else v43)) → (oc f44 b0 11 ∧ (∃ a45 : Nat, vl f44 b0 147 = .ref a45 ∧ (oc f44 a45 2 ∧ EvC l E w d MX2_next [.ref a45] s f44 (fun o s46 f47 => KP o (fun r => r = none ∧ Q (.inl (some (.int (8 + b3)))) s46 f47) (fun k => Q (.inr k) s46 f47)))))))))))))))))) ∧ (b3 = 14 → (oc f b0 11 ∧ (∃ a49 : Nat, vl f b0 147 = .ref a49 ∧ (oc f b0 11 ∧ (∃ a50 : Nat, vl f b0 147 = .ref a50 ∧ (oc f a50 2 ∧ (∃ v51 : Int32, vl f a50 21 = .int v51 ∧ (oc f a49 2 ∧ EvC l E w d MX2_wrong [.ref a49, .int 3, .int v51] s f (fun o s52 f53 => KP o (fun r => r = some (.ref (w.1 1)) ∧ Q (.inr 1) s52 f53) (fun k => Q (.inr k) s52 f53)))))))))))) ∧ (¬ (lg_cmp v37 b1) = 0 → ExC l E w (d + 1) MX11_name 33 [some (.ref b0), some (.long b1), none, some (.int (b3 + 1))] [] s f Q))))))))))))))) : ExC l E w (d + 1) MX11_name 33 [some (.ref b0), some (.long b1), none, some (.int b3)] [] s f Q := by
  intro f0 h hW hF
  refine x_iload_n dX11_name_33 rfl rfl ?_
  refine x_aload_n dX11_name_34 rfl rfl rfl ?_
  obtain ⟨hc, hT⟩ := hT
  obtain ⟨a16, ev, hT⟩ := hT
  refine c_fgetG dX11_name_35 f_TallySlate_Reader_100 hc (by decide) (by decide) hW ev ?_
  obtain ⟨hc, hT⟩ := hT
  obtain ⟨v17, ev, hT⟩ := hT
  refine c_fgetG dX11_name_38 f_TallySlate_Reader_134 hc (by decide) (by decide) hW ev ?_
  refine x_icmp_ge (tgt := 64) dX11_name_41 rfl (fun c => ?_) (fun c => ?_)
  · replace hT := hT.1 c
    refine x_iload_n dX11_name_64 rfl rfl ?_
    refine x_bipush (v := 14) dX11_name_65 rfl ?_
    refine x_icmp_ne (tgt := 86) dX11_name_67 rfl (fun c => ?_) (fun c => ?_)
    · replace hT := hT.1 c
      refine x_aload_n dX11_name_86 rfl rfl rfl ?_
      obtain ⟨hc, hT⟩ := hT
      obtain ⟨a18, ev, hT⟩ := hT
      refine c_fgetG dX11_name_87 f_TallySlate_Reader_100 hc (by decide) (by decide) hW ev ?_
      obtain ⟨hc, hT⟩ := hT
      obtain ⟨a19, ev, hT⟩ := hT
      refine c_fgetG dX11_name_90 f_TallySlate_Reader_130 hc (by decide) (by decide) hW ev ?_
      refine x_iload_n dX11_name_93 rfl rfl ?_
      refine x_lload_n dX11_name_94 rfl rfl ?_
      obtain ⟨hc, hT⟩ := hT
      obtain ⟨hb, hz, hT⟩ := hT
      refine c_flastG dX11_name_95 hc hb hz hW hF ?_
      intro f20 ef20 h hW hF
      replace hT := hT f20 ef20
      refine x_aload_n dX11_name_96 rfl rfl rfl ?_
      obtain ⟨hc, hT⟩ := hT
      obtain ⟨a21, ev, hT⟩ := hT
      refine c_fgetG dX11_name_97 f_TallySlate_Reader_100 hc (by decide) (by decide) hW ev ?_
      refine x_aload_n dX11_name_100 rfl rfl rfl ?_
      obtain ⟨hc, hT⟩ := hT
      obtain ⟨a22, ev, hT⟩ := hT
      refine c_fgetG dX11_name_101 f_TallySlate_Reader_100 hc (by decide) (by decide) hW ev ?_
      obtain ⟨hc, hT⟩ := hT
      obtain ⟨v23, ev, hT⟩ := hT
      refine c_fgetG dX11_name_104 f_TallySlate_Reader_134 hc (by decide) (by decide) hW ev ?_
      refine x_iload_n dX11_name_107 rfl rfl ?_
      refine x_iconst (v := 1) dX11_name_108 rfl ?_
      refine x_iadd dX11_name_109 ?_
      refine x_mmax dX11_name_110 q1073 q669 q181 mq_max (Nat.le_of_ble_eq_true rfl) rfl ?_
      obtain ⟨hc, hz, hT⟩ := hT
      refine c_fputG dX11_name_113 f_TallySlate_Reader_134 hc (by decide) (by decide) hz (Or.inl rfl) rfl rfl hW hF ?_
      intro f24 ef24 h hW hF
      replace hT := hT f24 ef24
      refine x_aload_n dX11_name_116 rfl rfl rfl ?_
      obtain ⟨hc, hT⟩ := hT
      obtain ⟨a25, ev, hT⟩ := hT
      refine c_fgetG dX11_name_117 f_TallySlate_Reader_23 hc (by decide) (by decide) hW ev ?_
      obtain ⟨hc, hT⟩ := hT
      obtain ⟨cc, hcc⟩ := hW.ocell hc
      refine c_invV (vs := []) dX11_name_120 oX2_next q610 q609 hcc q611 (Or.inl rfl) rfl rfl (Nat.le_of_ble_eq_true rfl) rfl hW hF hT ?_ ?_
      · intro _ s26 f27 hT h hW hF
        obtain ⟨rfl, hT⟩ := hT
        refine x_bipush (v := 8) dX11_name_123 rfl ?_
        refine x_iload_n dX11_name_125 rfl rfl ?_
        refine x_iadd dX11_name_126 ?_
        exact x_iret dX11_name_127 rfl rfl ⟨_, _, hW, hF, Or.inl ⟨_, rfl, hT⟩⟩
      · intro k s26 f27 hT h a hW hx hF
        exact c_out (rfl) hW hx hF hT
    · replace hT := hT.2 c
      refine x_aload_n dX11_name_70 rfl rfl rfl ?_
      obtain ⟨hc, hT⟩ := hT
      obtain ⟨a29, ev, hT⟩ := hT
      refine c_fgetG dX11_name_71 f_TallySlate_Reader_23 hc (by decide) (by decide) hW ev ?_
      refine x_iconst (v := 3) dX11_name_74 rfl ?_
      refine x_aload_n dX11_name_75 rfl rfl rfl ?_
      obtain ⟨hc, hT⟩ := hT
      obtain ⟨a30, ev, hT⟩ := hT
      refine c_fgetG dX11_name_76 f_TallySlate_Reader_23 hc (by decide) (by decide) hW ev ?_
      obtain ⟨hc, hT⟩ := hT
      obtain ⟨v31, ev, hT⟩ := hT
      refine c_fgetG dX11_name_79 f_TallySlate_Reader_45 hc (by decide) (by decide) hW ev ?_
      obtain ⟨hc, hT⟩ := hT
      obtain ⟨cc, hcc⟩ := hW.ocell hc
      refine c_invV (vs := [.int 3, .int v31]) dX11_name_82 oX2_wrong q564 q772 hcc q565 (Or.inl rfl) rfl rfl (Nat.le_of_ble_eq_true rfl) rfl hW hF hT ?_ ?_
      · intro _ s32 f33 hT h hW hF
        obtain ⟨rfl, hT⟩ := hT
        refine x_athrow dX11_name_85 ?_
        exact c_out (rfl) hW (Or.inr (Or.inl ⟨rfl, rfl⟩)) hF hT
      · intro k s32 f33 hT h a hW hx hF
        exact c_out (rfl) hW hx hF hT
  · replace hT := hT.2 c
    refine x_aload_n dX11_name_44 rfl rfl rfl ?_
    obtain ⟨hc, hT⟩ := hT
    obtain ⟨a35, ev, hT⟩ := hT
    refine c_fgetG dX11_name_45 f_TallySlate_Reader_100 hc (by decide) (by decide) hW ev ?_
    obtain ⟨hc, hT⟩ := hT
    obtain ⟨a36, ev, hT⟩ := hT
    refine c_fgetG dX11_name_48 f_TallySlate_Reader_130 hc (by decide) (by decide) hW ev ?_
    refine x_iload_n dX11_name_51 rfl rfl ?_
    obtain ⟨hc, hT⟩ := hT
    obtain ⟨hb, hT⟩ := hT
    obtain ⟨v37, ev, hT⟩ := hT
    refine c_flald dX11_name_52 hc hb hW ev ?_
    refine x_lload_n dX11_name_53 rfl rfl ?_
    refine x_lcmp dX11_name_54 ?_
    refine x_if_eq (tgt := 64) dX11_name_55 rfl (fun c => ?_) (fun c => ?_)
    · replace hT := hT.1 c
      refine x_iload_n dX11_name_64 rfl rfl ?_
      refine x_bipush (v := 14) dX11_name_65 rfl ?_
      refine x_icmp_ne (tgt := 86) dX11_name_67 rfl (fun c => ?_) (fun c => ?_)
      · replace hT := hT.1 c
        refine x_aload_n dX11_name_86 rfl rfl rfl ?_
        obtain ⟨hc, hT⟩ := hT
        obtain ⟨a38, ev, hT⟩ := hT
        refine c_fgetG dX11_name_87 f_TallySlate_Reader_100 hc (by decide) (by decide) hW ev ?_
        obtain ⟨hc, hT⟩ := hT
        obtain ⟨a39, ev, hT⟩ := hT
        refine c_fgetG dX11_name_90 f_TallySlate_Reader_130 hc (by decide) (by decide) hW ev ?_
        refine x_iload_n dX11_name_93 rfl rfl ?_
        refine x_lload_n dX11_name_94 rfl rfl ?_
        obtain ⟨hc, hT⟩ := hT
        obtain ⟨hb, hz, hT⟩ := hT
        refine c_flastG dX11_name_95 hc hb hz hW hF ?_
        intro f40 ef40 h hW hF
        replace hT := hT f40 ef40
        refine x_aload_n dX11_name_96 rfl rfl rfl ?_
        obtain ⟨hc, hT⟩ := hT
        obtain ⟨a41, ev, hT⟩ := hT
        refine c_fgetG dX11_name_97 f_TallySlate_Reader_100 hc (by decide) (by decide) hW ev ?_
        refine x_aload_n dX11_name_100 rfl rfl rfl ?_
        obtain ⟨hc, hT⟩ := hT
        obtain ⟨a42, ev, hT⟩ := hT
        refine c_fgetG dX11_name_101 f_TallySlate_Reader_100 hc (by decide) (by decide) hW ev ?_
        obtain ⟨hc, hT⟩ := hT
        obtain ⟨v43, ev, hT⟩ := hT
        refine c_fgetG dX11_name_104 f_TallySlate_Reader_134 hc (by decide) (by decide) hW ev ?_
        refine x_iload_n dX11_name_107 rfl rfl ?_
        refine x_iconst (v := 1) dX11_name_108 rfl ?_
        refine x_iadd dX11_name_109 ?_
        refine x_mmax dX11_name_110 q1073 q669 q181 mq_max (Nat.le_of_ble_eq_true rfl) rfl ?_
        obtain ⟨hc, hz, hT⟩ := hT
        refine c_fputG dX11_name_113 f_TallySlate_Reader_134 hc (by decide) (by decide) hz (Or.inl rfl) rfl rfl hW hF ?_
        intro f44 ef44 h hW hF
        replace hT := hT f44 ef44
        refine x_aload_n dX11_name_116 rfl rfl rfl ?_
        obtain ⟨hc, hT⟩ := hT
        obtain ⟨a45, ev, hT⟩ := hT
        refine c_fgetG dX11_name_117 f_TallySlate_Reader_23 hc (by decide) (by decide) hW ev ?_
        obtain ⟨hc, hT⟩ := hT
        obtain ⟨cc, hcc⟩ := hW.ocell hc
        refine c_invV (vs := []) dX11_name_120 oX2_next q610 q609 hcc q611 (Or.inl rfl) rfl rfl (Nat.le_of_ble_eq_true rfl) rfl hW hF hT ?_ ?_
        · intro _ s46 f47 hT h hW hF
          obtain ⟨rfl, hT⟩ := hT
          refine x_bipush (v := 8) dX11_name_123 rfl ?_
          refine x_iload_n dX11_name_125 rfl rfl ?_
          refine x_iadd dX11_name_126 ?_
          exact x_iret dX11_name_127 rfl rfl ⟨_, _, hW, hF, Or.inl ⟨_, rfl, hT⟩⟩
        · intro k s46 f47 hT h a hW hx hF
          exact c_out (rfl) hW hx hF hT
      · replace hT := hT.2 c
        refine x_aload_n dX11_name_70 rfl rfl rfl ?_
        obtain ⟨hc, hT⟩ := hT
        obtain ⟨a49, ev, hT⟩ := hT
        refine c_fgetG dX11_name_71 f_TallySlate_Reader_23 hc (by decide) (by decide) hW ev ?_
        refine x_iconst (v := 3) dX11_name_74 rfl ?_
        refine x_aload_n dX11_name_75 rfl rfl rfl ?_
        obtain ⟨hc, hT⟩ := hT
        obtain ⟨a50, ev, hT⟩ := hT
        refine c_fgetG dX11_name_76 f_TallySlate_Reader_23 hc (by decide) (by decide) hW ev ?_
        obtain ⟨hc, hT⟩ := hT
        obtain ⟨v51, ev, hT⟩ := hT
        refine c_fgetG dX11_name_79 f_TallySlate_Reader_45 hc (by decide) (by decide) hW ev ?_
        obtain ⟨hc, hT⟩ := hT
        obtain ⟨cc, hcc⟩ := hW.ocell hc
        refine c_invV (vs := [.int 3, .int v51]) dX11_name_82 oX2_wrong q564 q772 hcc q565 (Or.inl rfl) rfl rfl (Nat.le_of_ble_eq_true rfl) rfl hW hF hT ?_ ?_
        · intro _ s52 f53 hT h hW hF
          obtain ⟨rfl, hT⟩ := hT
          refine x_athrow dX11_name_85 ?_
          exact c_out (rfl) hW (Or.inr (Or.inl ⟨rfl, rfl⟩)) hF hT
        · intro k s52 f53 hT h a hW hx hF
          exact c_out (rfl) hW hx hF hT
    · replace hT := hT.2 c
      refine x_iinc (lo' := [some (.ref b0), some (.long b1), none, some (.int (b3 + 1))]) dX11_name_58 rfl (show _ = (b3 + 1) from rfl) rfl ?_
      refine x_goto (tgt := 33) dX11_name_61 rfl ?_
      exact hT f0 h hW hF
set_option maxHeartbeats 16000000 in
theorem vX11_isOf_0 {l : Launch} {E : EN} {w : CO} {d : Nat} {s : CS} {f : RH} {Q : KO → CS → RH → Prop} {x0 : Nat} {x1 : Int32}  (hT : (oc f x0 11 ∧ (∃ a1 : Nat, vl f x0 147 = .ref a1 ∧ (oc f a1 2 ∧ (∃ v2 : Int32, vl f a1 20 = .int v2 ∧ ((v2 = 3 → ((x1 = 0 → (oc f x0 11 ∧ (∃ a3 : Nat, vl f x0 147 = .ref a3 ∧ (oc f a3 2 ∧ (∃ v4 : Int32, vl f a3 22 = .int v4 ∧ ((v4 = 38 → Q (.inl (some (.int 1))) s f) ∧ (¬ v4 = 38 → (oc f x0 11 ∧ (∃ a5 : Nat, vl f x0 147 = .ref a5 ∧ (oc f a5 2 ∧ (∃ v6 : Int32, vl f a5 22 = .int v6 ∧ ((¬ v6 = 124 → Q (.inl (some (.int 0))) s f) ∧ (v6 = 124 → Q (.inl (some (.int 1))) s f))))))))))))) ∧ (¬ (x1 = 0) → ((x1 = 1 → (oc f x0 11 ∧ (∃ a7 : Nat, vl f x0 147 = .ref a7 ∧ (oc f a7 2 ∧ (∃ v8 : Int32, vl f a7 22 = .int v8 ∧ ((v8 = 317 → Q (.inl (some (.int 1))) s f) ∧ (¬ v8 = 317 → (oc f x0 11 ∧ (∃ a9 : Nat, vl f x0 147 = .ref a9 ∧ (oc f a9 2 ∧ (∃ v10 : Int32, vl f a9 22 = .int v10 ∧ ((v10 = 289 → Q (.inl (some (.int 1))) s f) ∧ (¬ v10 = 289 → (oc f x0 11 ∧ (∃ a11 : Nat, vl f x0 147 = .ref a11 ∧ (oc f a11 2 ∧ (∃ v12 : Int32, vl f a11 22 = .int v12 ∧ ((v12 = 316 → Q (.inl (some (.int 1))) s f) ∧ (¬ v12 = 316 → (oc f x0 11 ∧ (∃ a13 : Nat, vl f x0 147 = .ref a13 ∧ (oc f a13 2 ∧ (∃ v14 : Int32, vl f a13 22 = .int v14 ∧ ((v14 = 318 → Q (.inl (some (.int 1))) s f) ∧ (¬ v14 = 318 → (oc f x0 11 ∧ (∃ a15 : Nat, vl f x0 147 = .ref a15 ∧ (oc f a15 2 ∧ (∃ v16 : Int32, vl f a15 22 = .int v16 ∧ ((v16 = 60 → Q (.inl (some (.int 1))) s f) ∧ (¬ v16 = 60 → (oc f x0 11 ∧ (∃ a17 : Nat, vl f x0 147 = .ref a17 ∧ (oc f a17 2 ∧ (∃ v18 : Int32, vl f a17 22 = .int v18 ∧ ((¬ v18 = 62 → Q (.inl (some (.int 0))) s f) ∧ (v18 = 62 → Q (.inl (some (.int 1))) s f))))))))))))))))))))))))))))))))))))) ∧ (¬ (x1 = 1) → ((x1 = 2 → (oc f x0 11 ∧ (∃ a19 : Nat, vl f x0 147 = .ref a19 ∧ (oc f a19 2 ∧ (∃ v20 : Int32, vl f a19 22 = .int v20 ∧ ((v20 = 43 → Q (.inl (some (.int 1))) s f) ∧ (¬ v20 = 43 → (oc f x0 11 ∧ (∃ a21 : Nat, vl f x0 147 = .ref a21 ∧ (oc f a21 2 ∧ (∃ v22 : Int32, vl f a21 22 = .int v22 ∧ ((¬ v22 = 45 → Q (.inl (some (.int 0))) s f) ∧ (v22 = 45 → Q (.inl (some (.int 1))) s f))))))))))))) ∧ (¬ (x1 = 2) → ((oc f x0 11 ∧ (∃ a23 : Nat, vl f x0 147 = .ref a23 ∧ (oc f a23 2 ∧ (∃ v24 : Int32, vl f a23 22 = .int v24 ∧ ((v24 = 42 → Q (.inl (some (.int 1))) s f) ∧ (¬ v24 = 42 → (oc f x0 11 ∧ (∃ a25 : Nat, vl f x0 147 = .ref a25 ∧ (oc f a25 2 ∧ (∃ v26 : Int32, vl f a25 22 = .int v26 ∧ ((v26 = 47 → Q (.inl (some (.int 1))) s f) ∧ (¬ v26 = 47 → (oc f x0 11 ∧ (∃ a27 : Nat, vl f x0 147 = .ref a27 ∧ (oc f a27 2 ∧ (∃ v28 : Int32, vl f a27 22 = .int v28 ∧ ((¬ v28 = 37 → Q (.inl (some (.int 0))) s f) ∧ (v28 = 37 → Q (.inl (some (.int 1))) s f)))))))))))))))))))))))))) ∧ (¬ v2 = 3 → Q (.inl (some (.int 0))) s f))))))) : ExC l E w d MX11_isOf 0 [some (.ref x0), some (.int x1)] [] s f Q := by
  intro f0 h hW hF
  refine x_aload_n dX11_isOf_0 rfl rfl rfl ?_
  obtain ⟨hc, hT⟩ := hT
  obtain ⟨a1, ev, hT⟩ := hT
  refine c_fgetG dX11_isOf_1 f_TallySlate_Reader_23 hc (by decide) (by decide) hW ev ?_
  obtain ⟨hc, hT⟩ := hT
  obtain ⟨v2, ev, hT⟩ := hT
  refine c_fgetG dX11_isOf_4 f_TallySlate_Reader_41 hc (by decide) (by decide) hW ev ?_
  refine x_iconst (v := 3) dX11_isOf_7 rfl ?_
  refine x_icmp_eq (tgt := 13) dX11_isOf_8 rfl (fun c => ?_) (fun c => ?_)
  · replace hT := hT.1 c
    refine x_iload_n dX11_isOf_13 rfl rfl ?_
    by_cases c : x1 = 0
    · replace hT := hT.1 c
      refine x_tableIn (tgt := 40) (off := 26) dX11_isOf_14 (by rw [c]; decide) (by rw [c]; decide) (by rw [c]; rfl) rfl ?_
      refine x_aload_n dX11_isOf_40 rfl rfl rfl ?_
      obtain ⟨hc, hT⟩ := hT
      obtain ⟨a3, ev, hT⟩ := hT
      refine c_fgetG dX11_isOf_41 f_TallySlate_Reader_23 hc (by decide) (by decide) hW ev ?_
      obtain ⟨hc, hT⟩ := hT
      obtain ⟨v4, ev, hT⟩ := hT
      refine c_fgetG dX11_isOf_44 f_TallySlate_Reader_276 hc (by decide) (by decide) hW ev ?_
      refine x_bipush (v := 38) dX11_isOf_47 rfl ?_
      refine x_icmp_eq (tgt := 64) dX11_isOf_49 rfl (fun c => ?_) (fun c => ?_)
      · replace hT := hT.1 c
        refine x_iconst (v := 1) dX11_isOf_64 rfl ?_
        refine x_goto (tgt := 69) dX11_isOf_65 rfl ?_
        exact x_iret dX11_isOf_69 rfl rfl ⟨_, _, hW, hF, Or.inl ⟨_, rfl, hT⟩⟩
      · replace hT := hT.2 c
        refine x_aload_n dX11_isOf_52 rfl rfl rfl ?_
        obtain ⟨hc, hT⟩ := hT
        obtain ⟨a5, ev, hT⟩ := hT
        refine c_fgetG dX11_isOf_53 f_TallySlate_Reader_23 hc (by decide) (by decide) hW ev ?_
        obtain ⟨hc, hT⟩ := hT
        obtain ⟨v6, ev, hT⟩ := hT
        refine c_fgetG dX11_isOf_56 f_TallySlate_Reader_276 hc (by decide) (by decide) hW ev ?_
        refine x_bipush (v := 124) dX11_isOf_59 rfl ?_
        refine x_icmp_ne (tgt := 68) dX11_isOf_61 rfl (fun c => ?_) (fun c => ?_)
        · replace hT := hT.1 c
          refine x_iconst (v := 0) dX11_isOf_68 rfl ?_
          exact x_iret dX11_isOf_69 rfl rfl ⟨_, _, hW, hF, Or.inl ⟨_, rfl, hT⟩⟩
        · replace hT := hT.2 c
          refine x_iconst (v := 1) dX11_isOf_64 rfl ?_
          refine x_goto (tgt := 69) dX11_isOf_65 rfl ?_
          exact x_iret dX11_isOf_69 rfl rfl ⟨_, _, hW, hF, Or.inl ⟨_, rfl, hT⟩⟩
    · replace hT := hT.2 c
      have cs0 := c
      by_cases c : x1 = 1
      · replace hT := hT.1 c
        refine x_tableIn (tgt := 70) (off := 56) dX11_isOf_14 (by rw [c]; decide) (by rw [c]; decide) (by rw [c]; rfl) rfl ?_
        refine x_aload_n dX11_isOf_70 rfl rfl rfl ?_
        obtain ⟨hc, hT⟩ := hT
        obtain ⟨a7, ev, hT⟩ := hT
        refine c_fgetG dX11_isOf_71 f_TallySlate_Reader_23 hc (by decide) (by decide) hW ev ?_
        obtain ⟨hc, hT⟩ := hT
        obtain ⟨v8, ev, hT⟩ := hT
        refine c_fgetG dX11_isOf_74 f_TallySlate_Reader_276 hc (by decide) (by decide) hW ev ?_
        refine x_sipush (v := 317) dX11_isOf_77 rfl ?_
        refine x_icmp_eq (tgt := 146) dX11_isOf_80 rfl (fun c => ?_) (fun c => ?_)
        · replace hT := hT.1 c
          refine x_iconst (v := 1) dX11_isOf_146 rfl ?_
          refine x_goto (tgt := 151) dX11_isOf_147 rfl ?_
          exact x_iret dX11_isOf_151 rfl rfl ⟨_, _, hW, hF, Or.inl ⟨_, rfl, hT⟩⟩
        · replace hT := hT.2 c
          refine x_aload_n dX11_isOf_83 rfl rfl rfl ?_
          obtain ⟨hc, hT⟩ := hT
          obtain ⟨a9, ev, hT⟩ := hT
          refine c_fgetG dX11_isOf_84 f_TallySlate_Reader_23 hc (by decide) (by decide) hW ev ?_
          obtain ⟨hc, hT⟩ := hT
          obtain ⟨v10, ev, hT⟩ := hT
          refine c_fgetG dX11_isOf_87 f_TallySlate_Reader_276 hc (by decide) (by decide) hW ev ?_
          refine x_sipush (v := 289) dX11_isOf_90 rfl ?_
          refine x_icmp_eq (tgt := 146) dX11_isOf_93 rfl (fun c => ?_) (fun c => ?_)
          · replace hT := hT.1 c
            refine x_iconst (v := 1) dX11_isOf_146 rfl ?_
            refine x_goto (tgt := 151) dX11_isOf_147 rfl ?_
            exact x_iret dX11_isOf_151 rfl rfl ⟨_, _, hW, hF, Or.inl ⟨_, rfl, hT⟩⟩
          · replace hT := hT.2 c
            refine x_aload_n dX11_isOf_96 rfl rfl rfl ?_
            obtain ⟨hc, hT⟩ := hT
            obtain ⟨a11, ev, hT⟩ := hT
            refine c_fgetG dX11_isOf_97 f_TallySlate_Reader_23 hc (by decide) (by decide) hW ev ?_
            obtain ⟨hc, hT⟩ := hT
            obtain ⟨v12, ev, hT⟩ := hT
            refine c_fgetG dX11_isOf_100 f_TallySlate_Reader_276 hc (by decide) (by decide) hW ev ?_
            refine x_sipush (v := 316) dX11_isOf_103 rfl ?_
            refine x_icmp_eq (tgt := 146) dX11_isOf_106 rfl (fun c => ?_) (fun c => ?_)
            · replace hT := hT.1 c
              refine x_iconst (v := 1) dX11_isOf_146 rfl ?_
              refine x_goto (tgt := 151) dX11_isOf_147 rfl ?_
              exact x_iret dX11_isOf_151 rfl rfl ⟨_, _, hW, hF, Or.inl ⟨_, rfl, hT⟩⟩
            · replace hT := hT.2 c
              refine x_aload_n dX11_isOf_109 rfl rfl rfl ?_
              obtain ⟨hc, hT⟩ := hT
              obtain ⟨a13, ev, hT⟩ := hT
              refine c_fgetG dX11_isOf_110 f_TallySlate_Reader_23 hc (by decide) (by decide) hW ev ?_
              obtain ⟨hc, hT⟩ := hT
              obtain ⟨v14, ev, hT⟩ := hT
              refine c_fgetG dX11_isOf_113 f_TallySlate_Reader_276 hc (by decide) (by decide) hW ev ?_
              refine x_sipush (v := 318) dX11_isOf_116 rfl ?_
              refine x_icmp_eq (tgt := 146) dX11_isOf_119 rfl (fun c => ?_) (fun c => ?_)
              · replace hT := hT.1 c
                refine x_iconst (v := 1) dX11_isOf_146 rfl ?_
                refine x_goto (tgt := 151) dX11_isOf_147 rfl ?_
                exact x_iret dX11_isOf_151 rfl rfl ⟨_, _, hW, hF, Or.inl ⟨_, rfl, hT⟩⟩
              · replace hT := hT.2 c
                refine x_aload_n dX11_isOf_122 rfl rfl rfl ?_
                obtain ⟨hc, hT⟩ := hT
                obtain ⟨a15, ev, hT⟩ := hT
                refine c_fgetG dX11_isOf_123 f_TallySlate_Reader_23 hc (by decide) (by decide) hW ev ?_
                obtain ⟨hc, hT⟩ := hT
                obtain ⟨v16, ev, hT⟩ := hT
                refine c_fgetG dX11_isOf_126 f_TallySlate_Reader_276 hc (by decide) (by decide) hW ev ?_
                refine x_bipush (v := 60) dX11_isOf_129 rfl ?_
                refine x_icmp_eq (tgt := 146) dX11_isOf_131 rfl (fun c => ?_) (fun c => ?_)
                · replace hT := hT.1 c
                  refine x_iconst (v := 1) dX11_isOf_146 rfl ?_
                  refine x_goto (tgt := 151) dX11_isOf_147 rfl ?_
                  exact x_iret dX11_isOf_151 rfl rfl ⟨_, _, hW, hF, Or.inl ⟨_, rfl, hT⟩⟩
                · replace hT := hT.2 c
                  refine x_aload_n dX11_isOf_134 rfl rfl rfl ?_
                  obtain ⟨hc, hT⟩ := hT
                  obtain ⟨a17, ev, hT⟩ := hT
                  refine c_fgetG dX11_isOf_135 f_TallySlate_Reader_23 hc (by decide) (by decide) hW ev ?_
                  obtain ⟨hc, hT⟩ := hT
                  obtain ⟨v18, ev, hT⟩ := hT
                  refine c_fgetG dX11_isOf_138 f_TallySlate_Reader_276 hc (by decide) (by decide) hW ev ?_
                  refine x_bipush (v := 62) dX11_isOf_141 rfl ?_
                  refine x_icmp_ne (tgt := 150) dX11_isOf_143 rfl (fun c => ?_) (fun c => ?_)
                  · replace hT := hT.1 c
                    refine x_iconst (v := 0) dX11_isOf_150 rfl ?_
                    exact x_iret dX11_isOf_151 rfl rfl ⟨_, _, hW, hF, Or.inl ⟨_, rfl, hT⟩⟩
                  · replace hT := hT.2 c
                    refine x_iconst (v := 1) dX11_isOf_146 rfl ?_
                    refine x_goto (tgt := 151) dX11_isOf_147 rfl ?_
                    exact x_iret dX11_isOf_151 rfl rfl ⟨_, _, hW, hF, Or.inl ⟨_, rfl, hT⟩⟩
      · replace hT := hT.2 c
        have cs1 := c
        by_cases c : x1 = 2
        · replace hT := hT.1 c
          refine x_tableIn (tgt := 152) (off := 138) dX11_isOf_14 (by rw [c]; decide) (by rw [c]; decide) (by rw [c]; rfl) rfl ?_
          refine x_aload_n dX11_isOf_152 rfl rfl rfl ?_
          obtain ⟨hc, hT⟩ := hT
          obtain ⟨a19, ev, hT⟩ := hT
          refine c_fgetG dX11_isOf_153 f_TallySlate_Reader_23 hc (by decide) (by decide) hW ev ?_
          obtain ⟨hc, hT⟩ := hT
          obtain ⟨v20, ev, hT⟩ := hT
          refine c_fgetG dX11_isOf_156 f_TallySlate_Reader_276 hc (by decide) (by decide) hW ev ?_
          refine x_bipush (v := 43) dX11_isOf_159 rfl ?_
          refine x_icmp_eq (tgt := 176) dX11_isOf_161 rfl (fun c => ?_) (fun c => ?_)
          · replace hT := hT.1 c
            refine x_iconst (v := 1) dX11_isOf_176 rfl ?_
            refine x_goto (tgt := 181) dX11_isOf_177 rfl ?_
            exact x_iret dX11_isOf_181 rfl rfl ⟨_, _, hW, hF, Or.inl ⟨_, rfl, hT⟩⟩
          · replace hT := hT.2 c
            refine x_aload_n dX11_isOf_164 rfl rfl rfl ?_
            obtain ⟨hc, hT⟩ := hT
            obtain ⟨a21, ev, hT⟩ := hT
            refine c_fgetG dX11_isOf_165 f_TallySlate_Reader_23 hc (by decide) (by decide) hW ev ?_
            obtain ⟨hc, hT⟩ := hT
            obtain ⟨v22, ev, hT⟩ := hT
            refine c_fgetG dX11_isOf_168 f_TallySlate_Reader_276 hc (by decide) (by decide) hW ev ?_
            refine x_bipush (v := 45) dX11_isOf_171 rfl ?_
            refine x_icmp_ne (tgt := 180) dX11_isOf_173 rfl (fun c => ?_) (fun c => ?_)
            · replace hT := hT.1 c
              refine x_iconst (v := 0) dX11_isOf_180 rfl ?_
              exact x_iret dX11_isOf_181 rfl rfl ⟨_, _, hW, hF, Or.inl ⟨_, rfl, hT⟩⟩
            · replace hT := hT.2 c
              refine x_iconst (v := 1) dX11_isOf_176 rfl ?_
              refine x_goto (tgt := 181) dX11_isOf_177 rfl ?_
              exact x_iret dX11_isOf_181 rfl rfl ⟨_, _, hW, hF, Or.inl ⟨_, rfl, hT⟩⟩
        · replace hT := hT.2 c
          have cs2 := c
          refine x_tableD (tgt := 182) [0, 1, 2] dX11_isOf_14 (List.forall_mem_cons.mpr ⟨fun h => cs0 (i32_of (h.trans (show (0 : Int) = (0 : Int32).toInt from by decide))), List.forall_mem_cons.mpr ⟨fun h => cs1 (i32_of (h.trans (show (1 : Int) = (1 : Int32).toInt from by decide))), List.forall_mem_cons.mpr ⟨fun h => cs2 (i32_of (h.trans (show (2 : Int) = (2 : Int32).toInt from by decide))), fun _ h => absurd h List.not_mem_nil⟩⟩⟩) (by decide) (by decide) rfl ?_
          refine x_aload_n dX11_isOf_182 rfl rfl rfl ?_
          obtain ⟨hc, hT⟩ := hT
          obtain ⟨a23, ev, hT⟩ := hT
          refine c_fgetG dX11_isOf_183 f_TallySlate_Reader_23 hc (by decide) (by decide) hW ev ?_
          obtain ⟨hc, hT⟩ := hT
          obtain ⟨v24, ev, hT⟩ := hT
          refine c_fgetG dX11_isOf_186 f_TallySlate_Reader_276 hc (by decide) (by decide) hW ev ?_
          refine x_bipush (v := 42) dX11_isOf_189 rfl ?_
          refine x_icmp_eq (tgt := 218) dX11_isOf_191 rfl (fun c => ?_) (fun c => ?_)
          · replace hT := hT.1 c
            refine x_iconst (v := 1) dX11_isOf_218 rfl ?_
            refine x_goto (tgt := 223) dX11_isOf_219 rfl ?_
            exact x_iret dX11_isOf_223 rfl rfl ⟨_, _, hW, hF, Or.inl ⟨_, rfl, hT⟩⟩
          · replace hT := hT.2 c
            refine x_aload_n dX11_isOf_194 rfl rfl rfl ?_
            obtain ⟨hc, hT⟩ := hT
            obtain ⟨a25, ev, hT⟩ := hT
            refine c_fgetG dX11_isOf_195 f_TallySlate_Reader_23 hc (by decide) (by decide) hW ev ?_
            obtain ⟨hc, hT⟩ := hT
            obtain ⟨v26, ev, hT⟩ := hT
            refine c_fgetG dX11_isOf_198 f_TallySlate_Reader_276 hc (by decide) (by decide) hW ev ?_
            refine x_bipush (v := 47) dX11_isOf_201 rfl ?_
            refine x_icmp_eq (tgt := 218) dX11_isOf_203 rfl (fun c => ?_) (fun c => ?_)
            · replace hT := hT.1 c
              refine x_iconst (v := 1) dX11_isOf_218 rfl ?_
              refine x_goto (tgt := 223) dX11_isOf_219 rfl ?_
              exact x_iret dX11_isOf_223 rfl rfl ⟨_, _, hW, hF, Or.inl ⟨_, rfl, hT⟩⟩
            · replace hT := hT.2 c
              refine x_aload_n dX11_isOf_206 rfl rfl rfl ?_
              obtain ⟨hc, hT⟩ := hT
              obtain ⟨a27, ev, hT⟩ := hT
              refine c_fgetG dX11_isOf_207 f_TallySlate_Reader_23 hc (by decide) (by decide) hW ev ?_
              obtain ⟨hc, hT⟩ := hT
              obtain ⟨v28, ev, hT⟩ := hT
              refine c_fgetG dX11_isOf_210 f_TallySlate_Reader_276 hc (by decide) (by decide) hW ev ?_
              refine x_bipush (v := 37) dX11_isOf_213 rfl ?_
              refine x_icmp_ne (tgt := 222) dX11_isOf_215 rfl (fun c => ?_) (fun c => ?_)
              · replace hT := hT.1 c
                refine x_iconst (v := 0) dX11_isOf_222 rfl ?_
                exact x_iret dX11_isOf_223 rfl rfl ⟨_, _, hW, hF, Or.inl ⟨_, rfl, hT⟩⟩
              · replace hT := hT.2 c
                refine x_iconst (v := 1) dX11_isOf_218 rfl ?_
                refine x_goto (tgt := 223) dX11_isOf_219 rfl ?_
                exact x_iret dX11_isOf_223 rfl rfl ⟨_, _, hW, hF, Or.inl ⟨_, rfl, hT⟩⟩
  · replace hT := hT.2 c
    refine x_iconst (v := 0) dX11_isOf_11 rfl ?_
    exact x_iret dX11_isOf_12 rfl rfl ⟨_, _, hW, hF, Or.inl ⟨_, rfl, hT⟩⟩
theorem eX11_isOf {l : Launch} {E : EN} {w : CO} {d : Nat} {s : CS} {f : RH} {Q : KO → CS → RH → Prop} {x0 : Nat} {x1 : Int32}  (hst : l.stackTraces = false) (hT : (oc f x0 11 ∧ (∃ a1 : Nat, vl f x0 147 = .ref a1 ∧ (oc f a1 2 ∧ (∃ v2 : Int32, vl f a1 20 = .int v2 ∧ ((v2 = 3 → ((x1 = 0 → (oc f x0 11 ∧ (∃ a3 : Nat, vl f x0 147 = .ref a3 ∧ (oc f a3 2 ∧ (∃ v4 : Int32, vl f a3 22 = .int v4 ∧ ((v4 = 38 → Q (.inl (some (.int 1))) s f) ∧ (¬ v4 = 38 → (oc f x0 11 ∧ (∃ a5 : Nat, vl f x0 147 = .ref a5 ∧ (oc f a5 2 ∧ (∃ v6 : Int32, vl f a5 22 = .int v6 ∧ ((¬ v6 = 124 → Q (.inl (some (.int 0))) s f) ∧ (v6 = 124 → Q (.inl (some (.int 1))) s f))))))))))))) ∧ (¬ (x1 = 0) → ((x1 = 1 → (oc f x0 11 ∧ (∃ a7 : Nat, vl f x0 147 = .ref a7 ∧ (oc f a7 2 ∧ (∃ v8 : Int32, vl f a7 22 = .int v8 ∧ ((v8 = 317 → Q (.inl (some (.int 1))) s f) ∧ (¬ v8 = 317 → (oc f x0 11 ∧ (∃ a9 : Nat, vl f x0 147 = .ref a9 ∧ (oc f a9 2 ∧ (∃ v10 : Int32, vl f a9 22 = .int v10 ∧ ((v10 = 289 → Q (.inl (some (.int 1))) s f) ∧ (¬ v10 = 289 → (oc f x0 11 ∧ (∃ a11 : Nat, vl f x0 147 = .ref a11 ∧ (oc f a11 2 ∧ (∃ v12 : Int32, vl f a11 22 = .int v12 ∧ ((v12 = 316 → Q (.inl (some (.int 1))) s f) ∧ (¬ v12 = 316 → (oc f x0 11 ∧ (∃ a13 : Nat, vl f x0 147 = .ref a13 ∧ (oc f a13 2 ∧ (∃ v14 : Int32, vl f a13 22 = .int v14 ∧ ((v14 = 318 → Q (.inl (some (.int 1))) s f) ∧ (¬ v14 = 318 → (oc f x0 11 ∧ (∃ a15 : Nat, vl f x0 147 = .ref a15 ∧ (oc f a15 2 ∧ (∃ v16 : Int32, vl f a15 22 = .int v16 ∧ ((v16 = 60 → Q (.inl (some (.int 1))) s f) ∧ (¬ v16 = 60 → (oc f x0 11 ∧ (∃ a17 : Nat, vl f x0 147 = .ref a17 ∧ (oc f a17 2 ∧ (∃ v18 : Int32, vl f a17 22 = .int v18 ∧ ((¬ v18 = 62 → Q (.inl (some (.int 0))) s f) ∧ (v18 = 62 → Q (.inl (some (.int 1))) s f))))))))))))))))))))))))))))))))))))) ∧ (¬ (x1 = 1) → ((x1 = 2 → (oc f x0 11 ∧ (∃ a19 : Nat, vl f x0 147 = .ref a19 ∧ (oc f a19 2 ∧ (∃ v20 : Int32, vl f a19 22 = .int v20 ∧ ((v20 = 43 → Q (.inl (some (.int 1))) s f) ∧ (¬ v20 = 43 → (oc f x0 11 ∧ (∃ a21 : Nat, vl f x0 147 = .ref a21 ∧ (oc f a21 2 ∧ (∃ v22 : Int32, vl f a21 22 = .int v22 ∧ ((¬ v22 = 45 → Q (.inl (some (.int 0))) s f) ∧ (v22 = 45 → Q (.inl (some (.int 1))) s f))))))))))))) ∧ (¬ (x1 = 2) → ((oc f x0 11 ∧ (∃ a23 : Nat, vl f x0 147 = .ref a23 ∧ (oc f a23 2 ∧ (∃ v24 : Int32, vl f a23 22 = .int v24 ∧ ((v24 = 42 → Q (.inl (some (.int 1))) s f) ∧ (¬ v24 = 42 → (oc f x0 11 ∧ (∃ a25 : Nat, vl f x0 147 = .ref a25 ∧ (oc f a25 2 ∧ (∃ v26 : Int32, vl f a25 22 = .int v26 ∧ ((v26 = 47 → Q (.inl (some (.int 1))) s f) ∧ (¬ v26 = 47 → (oc f x0 11 ∧ (∃ a27 : Nat, vl f x0 147 = .ref a27 ∧ (oc f a27 2 ∧ (∃ v28 : Int32, vl f a27 22 = .int v28 ∧ ((¬ v28 = 37 → Q (.inl (some (.int 0))) s f) ∧ (v28 = 37 → Q (.inl (some (.int 1))) s f)))))))))))))))))))))))))) ∧ (¬ v2 = 3 → Q (.inl (some (.int 0))) s f))))))) : EvC l E w d MX11_isOf [.ref x0, .int x1] s f Q :=
  EvC.of hst (by decide) (Nat.le_of_ble_eq_true rfl) (vX11_isOf_0  hT)
set_option maxHeartbeats 16000000 in
theorem vX11_loop_0 {l : Launch} {E : EN} {w : CO} {d : Nat} {s : CS} {f : RH} {Q : KO → CS → RH → Prop} {x0 : Nat}  (hT : (rmF E f 1 3 ∧ ∀ (a1 : Nat) (f2 : RH), a1 = f.1 → f2 = fnew f 24 → (EvC l E w d MX26_init [.ref a1] s f2 (fun o s3 f4 => KP o (fun r => r = none ∧ (oc f4 x0 11 ∧ (∃ a5 : Nat, vl f4 x0 147 = .ref a5 ∧ (oc f4 a5 2 ∧ EvC l E w d MX2_next [.ref a5] s3 f4 (fun o s6 f7 => KP o (fun r => r = none ∧ (oc f7 x0 11 ∧ (∃ a8 : Nat, vl f7 x0 147 = .ref a8 ∧ (oc f7 a8 2 ∧ EvC l E w d MX2_take [.ref a8, .int 40] s6 f7 (fun o s9 f10 => KP o (fun r => r = none ∧ (oc f10 x0 11 ∧ EvC l E w d MX11_expression [.ref x0] s9 f10 (fun o s11 f12 => KP o (fun r => ∃ a13 : Nat, r = some (.ref a13) ∧ (oc f12 a1 24 ∧ f12.2.2.2 ≤ a1 ∧ ∀ f14 : RH, f14 = fset f12 a1 185 (.ref a13) → (oc f14 x0 11 ∧ (∃ a15 : Nat, vl f14 x0 147 = .ref a15 ∧ (oc f14 a15 2 ∧ EvC l E w d MX2_take [.ref a15, .int 41] s11 f14 (fun o s16 f17 => KP o (fun r => r = none ∧ (oc f17 x0 11 ∧ EvC l E w d MX11_block [.ref x0] s16 f17 (fun o s18 f19 => KP o (fun r => ∃ a20 : Nat, r = some (.ref a20) ∧ (oc f19 a1 24 ∧ f19.2.2.2 ≤ a1 ∧ ∀ f21 : RH, f21 = fset f19 a1 186 (.ref a20) → Q (.inl (some (.ref a1))) s18 f21)) (fun k => Q (.inr k) s18 f19)))) (fun k => Q (.inr k) s16 f17))))))) (fun k => Q (.inr k) s11 f12)))) (fun k => Q (.inr k) s9 f10)))))) (fun k => Q (.inr k) s6 f7)))))) (fun k => Q (.inr k) s3 f4))))) : ExC l E w (d + 1) MX11_loop 0 [some (.ref x0), none] [] s f Q := by
  intro f0 h hW hF
  obtain ⟨hr, hT⟩ := hT
  refine c_newG (k := 24) dX11_loop_0 (by decide) q1135 q199 hr hW hF ?_
  intro a1 f2 ea1 ef2 h hW hF
  replace hT := hT a1 f2 ea1 ef2
  refine x_dup dX11_loop_3 rfl ?_
  refine c_invI (b := a1) (vs := []) dX11_loop_4 oX26_init rfl rfl rfl q1138 (Or.inr ⟨_, q1137⟩) rfl rfl (Nat.le_of_ble_eq_true rfl) rfl hW hF hT ?_ ?_
  · intro _ s3 f4 hT h hW hF
    obtain ⟨rfl, hT⟩ := hT
    refine x_astore_n (lo' := [some (.ref x0), some (.ref a1)]) dX11_loop_7 rfl (Nat.le_of_ble_eq_true rfl) rfl rfl ?_
    refine x_aload_n dX11_loop_8 rfl rfl rfl ?_
    obtain ⟨hc, hT⟩ := hT
    obtain ⟨a5, ev, hT⟩ := hT
    refine c_fgetG dX11_loop_9 f_TallySlate_Reader_23 hc (by decide) (by decide) hW ev ?_
    obtain ⟨hc, hT⟩ := hT
    obtain ⟨cc, hcc⟩ := hW.ocell hc
    refine c_invV (vs := []) dX11_loop_12 oX2_next q610 q609 hcc q611 (Or.inl rfl) rfl rfl (Nat.le_of_ble_eq_true rfl) rfl hW hF hT ?_ ?_
    · intro _ s6 f7 hT h hW hF
      obtain ⟨rfl, hT⟩ := hT
      refine x_aload_n dX11_loop_15 rfl rfl rfl ?_
      obtain ⟨hc, hT⟩ := hT
      obtain ⟨a8, ev, hT⟩ := hT
      refine c_fgetG dX11_loop_16 f_TallySlate_Reader_23 hc (by decide) (by decide) hW ev ?_
      refine x_bipush (v := 40) dX11_loop_19 rfl ?_
      obtain ⟨hc, hT⟩ := hT
      obtain ⟨cc, hcc⟩ := hW.ocell hc
      refine c_invV (vs := [.int 40]) dX11_loop_21 oX2_take q816 q815 hcc q817 (Or.inl rfl) rfl rfl (Nat.le_of_ble_eq_true rfl) rfl hW hF hT ?_ ?_
      · intro _ s9 f10 hT h hW hF
        obtain ⟨rfl, hT⟩ := hT
        refine x_aload_n dX11_loop_24 rfl rfl rfl ?_
        refine x_aload_n dX11_loop_25 rfl rfl rfl ?_
        obtain ⟨hc, hT⟩ := hT
        obtain ⟨cc, hcc⟩ := hW.ocell hc
        refine c_invV (vs := []) dX11_loop_26 oX11_expression q893 q891 hcc qs14 (Or.inl rfl) rfl rfl (Nat.le_of_ble_eq_true rfl) rfl hW hF hT ?_ ?_
        · intro _ s11 f12 hT h hW hF
          obtain ⟨a13, rfl, hT⟩ := hT
          obtain ⟨hc, hz, hT⟩ := hT
          refine c_fputG dX11_loop_29 f_TallySlate_Reader_228 hc (by decide) (by decide) hz (Or.inl rfl) rfl rfl hW hF ?_
          intro f14 ef14 h hW hF
          replace hT := hT f14 ef14
          refine x_aload_n dX11_loop_32 rfl rfl rfl ?_
          obtain ⟨hc, hT⟩ := hT
          obtain ⟨a15, ev, hT⟩ := hT
          refine c_fgetG dX11_loop_33 f_TallySlate_Reader_23 hc (by decide) (by decide) hW ev ?_
          refine x_bipush (v := 41) dX11_loop_36 rfl ?_
          obtain ⟨hc, hT⟩ := hT
          obtain ⟨cc, hcc⟩ := hW.ocell hc
          refine c_invV (vs := [.int 41]) dX11_loop_38 oX2_take q816 q815 hcc q817 (Or.inl rfl) rfl rfl (Nat.le_of_ble_eq_true rfl) rfl hW hF hT ?_ ?_
          · intro _ s16 f17 hT h hW hF
            obtain ⟨rfl, hT⟩ := hT
            refine x_aload_n dX11_loop_41 rfl rfl rfl ?_
            refine x_aload_n dX11_loop_42 rfl rfl rfl ?_
            obtain ⟨hc, hT⟩ := hT
            obtain ⟨cc, hcc⟩ := hW.ocell hc
            refine c_invV (vs := []) dX11_loop_43 oX11_block q831 q829 hcc qs11 (Or.inl rfl) rfl rfl (Nat.le_of_ble_eq_true rfl) rfl hW hF hT ?_ ?_
            · intro _ s18 f19 hT h hW hF
              obtain ⟨a20, rfl, hT⟩ := hT
              obtain ⟨hc, hz, hT⟩ := hT
              refine c_fputG dX11_loop_46 f_TallySlate_Reader_229 hc (by decide) (by decide) hz (Or.inl rfl) rfl rfl hW hF ?_
              intro f21 ef21 h hW hF
              replace hT := hT f21 ef21
              refine x_aload_n dX11_loop_49 rfl rfl rfl ?_
              exact x_aret dX11_loop_50 rfl (by first | exact Or.inl ⟨_, rfl⟩ | exact Or.inr ⟨_, rfl⟩) rfl ⟨_, _, hW, hF, Or.inl ⟨_, rfl, hT⟩⟩
            · intro k s18 f19 hT h a hW hx hF
              exact c_out (rfl) hW hx hF hT
          · intro k s16 f17 hT h a hW hx hF
            exact c_out (rfl) hW hx hF hT
        · intro k s11 f12 hT h a hW hx hF
          exact c_out (rfl) hW hx hF hT
      · intro k s9 f10 hT h a hW hx hF
        exact c_out (rfl) hW hx hF hT
    · intro k s6 f7 hT h a hW hx hF
      exact c_out (rfl) hW hx hF hT
  · intro k s3 f4 hT h a hW hx hF
    exact c_out (rfl) hW hx hF hT
theorem eX11_loop {l : Launch} {E : EN} {w : CO} {d : Nat} {s : CS} {f : RH} {Q : KO → CS → RH → Prop} {x0 : Nat}  (hst : l.stackTraces = false) (hT : (rmF E f 1 3 ∧ ∀ (a1 : Nat) (f2 : RH), a1 = f.1 → f2 = fnew f 24 → (EvC l E w d MX26_init [.ref a1] s f2 (fun o s3 f4 => KP o (fun r => r = none ∧ (oc f4 x0 11 ∧ (∃ a5 : Nat, vl f4 x0 147 = .ref a5 ∧ (oc f4 a5 2 ∧ EvC l E w d MX2_next [.ref a5] s3 f4 (fun o s6 f7 => KP o (fun r => r = none ∧ (oc f7 x0 11 ∧ (∃ a8 : Nat, vl f7 x0 147 = .ref a8 ∧ (oc f7 a8 2 ∧ EvC l E w d MX2_take [.ref a8, .int 40] s6 f7 (fun o s9 f10 => KP o (fun r => r = none ∧ (oc f10 x0 11 ∧ EvC l E w d MX11_expression [.ref x0] s9 f10 (fun o s11 f12 => KP o (fun r => ∃ a13 : Nat, r = some (.ref a13) ∧ (oc f12 a1 24 ∧ f12.2.2.2 ≤ a1 ∧ ∀ f14 : RH, f14 = fset f12 a1 185 (.ref a13) → (oc f14 x0 11 ∧ (∃ a15 : Nat, vl f14 x0 147 = .ref a15 ∧ (oc f14 a15 2 ∧ EvC l E w d MX2_take [.ref a15, .int 41] s11 f14 (fun o s16 f17 => KP o (fun r => r = none ∧ (oc f17 x0 11 ∧ EvC l E w d MX11_block [.ref x0] s16 f17 (fun o s18 f19 => KP o (fun r => ∃ a20 : Nat, r = some (.ref a20) ∧ (oc f19 a1 24 ∧ f19.2.2.2 ≤ a1 ∧ ∀ f21 : RH, f21 = fset f19 a1 186 (.ref a20) → Q (.inl (some (.ref a1))) s18 f21)) (fun k => Q (.inr k) s18 f19)))) (fun k => Q (.inr k) s16 f17))))))) (fun k => Q (.inr k) s11 f12)))) (fun k => Q (.inr k) s9 f10)))))) (fun k => Q (.inr k) s6 f7)))))) (fun k => Q (.inr k) s3 f4))))) : EvC l E w (d + 1) MX11_loop [.ref x0] s f Q :=
  EvC.of hst (by decide) (Nat.le_of_ble_eq_true rfl) (vX11_loop_0  hT)
set_option maxHeartbeats 16000000 in
theorem vX11_walk_0 {l : Launch} {E : EN} {w : CO} {d : Nat} {s : CS} {f : RH} {Q : KO → CS → RH → Prop} {x0 : Nat}  (hT : (rmF E f 1 4 ∧ ∀ (a1 : Nat) (f2 : RH), a1 = f.1 → f2 = fnew f 25 → (EvC l E w d MX27_init [.ref a1] s f2 (fun o s3 f4 => KP o (fun r => r = none ∧ (oc f4 x0 11 ∧ (∃ a5 : Nat, vl f4 x0 147 = .ref a5 ∧ (oc f4 a5 2 ∧ EvC l E w d MX2_next [.ref a5] s3 f4 (fun o s6 f7 => KP o (fun r => r = none ∧ (oc f7 x0 11 ∧ EvC l E w d MX11_name [.ref x0] s6 f7 (fun o s8 f9 => KP o (fun r => ∃ v10 : Int32, r = some (.int v10) ∧ (oc f9 a1 25 ∧ f9.2.2.2 ≤ a1 ∧ ∀ f11 : RH, f11 = fset f9 a1 187 (.int v10) → (oc f11 x0 11 ∧ EvC l E w d MX11_take [.ref x0, .ref (eSC E 50)] s8 f11 (fun o s12 f13 => KP o (fun r => r = none ∧ (oc f13 x0 11 ∧ EvC l E w d MX11_expression [.ref x0] s12 f13 (fun o s14 f15 => KP o (fun r => ∃ a16 : Nat, r = some (.ref a16) ∧ (oc f15 a1 25 ∧ f15.2.2.2 ≤ a1 ∧ ∀ f17 : RH, f17 = fset f15 a1 188 (.ref a16) → (oc f17 x0 11 ∧ EvC l E w d MX11_block [.ref x0] s14 f17 (fun o s18 f19 => KP o (fun r => ∃ a20 : Nat, r = some (.ref a20) ∧ (oc f19 a1 25 ∧ f19.2.2.2 ≤ a1 ∧ ∀ f21 : RH, f21 = fset f19 a1 189 (.ref a20) → Q (.inl (some (.ref a1))) s18 f21)) (fun k => Q (.inr k) s18 f19))))) (fun k => Q (.inr k) s14 f15)))) (fun k => Q (.inr k) s12 f13))))) (fun k => Q (.inr k) s8 f9)))) (fun k => Q (.inr k) s6 f7)))))) (fun k => Q (.inr k) s3 f4))))) : ExC l E w (d + 1) MX11_walk 0 [some (.ref x0), none] [] s f Q := by
  intro f0 h hW hF
  obtain ⟨hr, hT⟩ := hT
  refine c_newG (k := 25) dX11_walk_0 (by decide) q1156 q200 hr hW hF ?_
  intro a1 f2 ea1 ef2 h hW hF
  replace hT := hT a1 f2 ea1 ef2
  refine x_dup dX11_walk_3 rfl ?_
  refine c_invI (b := a1) (vs := []) dX11_walk_4 oX27_init rfl rfl rfl q1159 (Or.inr ⟨_, q1158⟩) rfl rfl (Nat.le_of_ble_eq_true rfl) rfl hW hF hT ?_ ?_
  · intro _ s3 f4 hT h hW hF
    obtain ⟨rfl, hT⟩ := hT
    refine x_astore_n (lo' := [some (.ref x0), some (.ref a1)]) dX11_walk_7 rfl (Nat.le_of_ble_eq_true rfl) rfl rfl ?_
    refine x_aload_n dX11_walk_8 rfl rfl rfl ?_
    obtain ⟨hc, hT⟩ := hT
    obtain ⟨a5, ev, hT⟩ := hT
    refine c_fgetG dX11_walk_9 f_TallySlate_Reader_23 hc (by decide) (by decide) hW ev ?_
    obtain ⟨hc, hT⟩ := hT
    obtain ⟨cc, hcc⟩ := hW.ocell hc
    refine c_invV (vs := []) dX11_walk_12 oX2_next q610 q609 hcc q611 (Or.inl rfl) rfl rfl (Nat.le_of_ble_eq_true rfl) rfl hW hF hT ?_ ?_
    · intro _ s6 f7 hT h hW hF
      obtain ⟨rfl, hT⟩ := hT
      refine x_aload_n dX11_walk_15 rfl rfl rfl ?_
      refine x_aload_n dX11_walk_16 rfl rfl rfl ?_
      obtain ⟨hc, hT⟩ := hT
      obtain ⟨cc, hcc⟩ := hW.ocell hc
      refine c_invV (vs := []) dX11_walk_17 oX11_name q1071 q1069 hcc qs25 (Or.inl rfl) rfl rfl (Nat.le_of_ble_eq_true rfl) rfl hW hF hT ?_ ?_
      · intro _ s8 f9 hT h hW hF
        obtain ⟨v10, rfl, hT⟩ := hT
        obtain ⟨hc, hz, hT⟩ := hT
        refine c_fputG dX11_walk_20 f_TallySlate_Reader_235 hc (by decide) (by decide) hz (Or.inl rfl) rfl rfl hW hF ?_
        intro f11 ef11 h hW hF
        replace hT := hT f11 ef11
        refine x_aload_n dX11_walk_23 rfl rfl rfl ?_
        refine x_ldcS (i := 50) dX11_walk_24 rfl ?_
        obtain ⟨hc, hT⟩ := hT
        obtain ⟨cc, hcc⟩ := hW.ocell hc
        refine c_invV (vs := [.ref (eSC E 50)]) dX11_walk_26 oX11_take q1179 q1177 hcc qs29 (Or.inl rfl) rfl rfl (Nat.le_of_ble_eq_true rfl) rfl hW hF hT ?_ ?_
        · intro _ s12 f13 hT h hW hF
          obtain ⟨rfl, hT⟩ := hT
          refine x_aload_n dX11_walk_29 rfl rfl rfl ?_
          refine x_aload_n dX11_walk_30 rfl rfl rfl ?_
          obtain ⟨hc, hT⟩ := hT
          obtain ⟨cc, hcc⟩ := hW.ocell hc
          refine c_invV (vs := []) dX11_walk_31 oX11_expression q893 q891 hcc qs14 (Or.inl rfl) rfl rfl (Nat.le_of_ble_eq_true rfl) rfl hW hF hT ?_ ?_
          · intro _ s14 f15 hT h hW hF
            obtain ⟨a16, rfl, hT⟩ := hT
            obtain ⟨hc, hz, hT⟩ := hT
            refine c_fputG dX11_walk_34 f_TallySlate_Reader_243 hc (by decide) (by decide) hz (Or.inl rfl) rfl rfl hW hF ?_
            intro f17 ef17 h hW hF
            replace hT := hT f17 ef17
            refine x_aload_n dX11_walk_37 rfl rfl rfl ?_
            refine x_aload_n dX11_walk_38 rfl rfl rfl ?_
            obtain ⟨hc, hT⟩ := hT
            obtain ⟨cc, hcc⟩ := hW.ocell hc
            refine c_invV (vs := []) dX11_walk_39 oX11_block q831 q829 hcc qs11 (Or.inl rfl) rfl rfl (Nat.le_of_ble_eq_true rfl) rfl hW hF hT ?_ ?_
            · intro _ s18 f19 hT h hW hF
              obtain ⟨a20, rfl, hT⟩ := hT
              obtain ⟨hc, hz, hT⟩ := hT
              refine c_fputG dX11_walk_42 f_TallySlate_Reader_246 hc (by decide) (by decide) hz (Or.inl rfl) rfl rfl hW hF ?_
              intro f21 ef21 h hW hF
              replace hT := hT f21 ef21
              refine x_aload_n dX11_walk_45 rfl rfl rfl ?_
              exact x_aret dX11_walk_46 rfl (by first | exact Or.inl ⟨_, rfl⟩ | exact Or.inr ⟨_, rfl⟩) rfl ⟨_, _, hW, hF, Or.inl ⟨_, rfl, hT⟩⟩
            · intro k s18 f19 hT h a hW hx hF
              exact c_out (rfl) hW hx hF hT
          · intro k s14 f15 hT h a hW hx hF
            exact c_out (rfl) hW hx hF hT
        · intro k s12 f13 hT h a hW hx hF
          exact c_out (rfl) hW hx hF hT
      · intro k s8 f9 hT h a hW hx hF
        exact c_out (rfl) hW hx hF hT
    · intro k s6 f7 hT h a hW hx hF
      exact c_out (rfl) hW hx hF hT
  · intro k s3 f4 hT h a hW hx hF
    exact c_out (rfl) hW hx hF hT
theorem eX11_walk {l : Launch} {E : EN} {w : CO} {d : Nat} {s : CS} {f : RH} {Q : KO → CS → RH → Prop} {x0 : Nat}  (hst : l.stackTraces = false) (hT : (rmF E f 1 4 ∧ ∀ (a1 : Nat) (f2 : RH), a1 = f.1 → f2 = fnew f 25 → (EvC l E w d MX27_init [.ref a1] s f2 (fun o s3 f4 => KP o (fun r => r = none ∧ (oc f4 x0 11 ∧ (∃ a5 : Nat, vl f4 x0 147 = .ref a5 ∧ (oc f4 a5 2 ∧ EvC l E w d MX2_next [.ref a5] s3 f4 (fun o s6 f7 => KP o (fun r => r = none ∧ (oc f7 x0 11 ∧ EvC l E w d MX11_name [.ref x0] s6 f7 (fun o s8 f9 => KP o (fun r => ∃ v10 : Int32, r = some (.int v10) ∧ (oc f9 a1 25 ∧ f9.2.2.2 ≤ a1 ∧ ∀ f11 : RH, f11 = fset f9 a1 187 (.int v10) → (oc f11 x0 11 ∧ EvC l E w d MX11_take [.ref x0, .ref (eSC E 50)] s8 f11 (fun o s12 f13 => KP o (fun r => r = none ∧ (oc f13 x0 11 ∧ EvC l E w d MX11_expression [.ref x0] s12 f13 (fun o s14 f15 => KP o (fun r => ∃ a16 : Nat, r = some (.ref a16) ∧ (oc f15 a1 25 ∧ f15.2.2.2 ≤ a1 ∧ ∀ f17 : RH, f17 = fset f15 a1 188 (.ref a16) → (oc f17 x0 11 ∧ EvC l E w d MX11_block [.ref x0] s14 f17 (fun o s18 f19 => KP o (fun r => ∃ a20 : Nat, r = some (.ref a20) ∧ (oc f19 a1 25 ∧ f19.2.2.2 ≤ a1 ∧ ∀ f21 : RH, f21 = fset f19 a1 189 (.ref a20) → Q (.inl (some (.ref a1))) s18 f21)) (fun k => Q (.inr k) s18 f19))))) (fun k => Q (.inr k) s14 f15)))) (fun k => Q (.inr k) s12 f13))))) (fun k => Q (.inr k) s8 f9)))) (fun k => Q (.inr k) s6 f7)))))) (fun k => Q (.inr k) s3 f4))))) : EvC l E w (d + 1) MX11_walk [.ref x0] s f Q :=
  EvC.of hst (by decide) (Nat.le_of_ble_eq_true rfl) (vX11_walk_0  hT)
theorem vX11_take_0 {l : Launch} {E : EN} {w : CO} {d : Nat} {s : CS} {f : RH} {Q : KO → CS → RH → Prop} {x0 : Nat} {x1 : Nat}  (hT : (oc f x0 11 ∧ (∃ a1 : Nat, vl f x0 147 = .ref a1 ∧ (oc f a1 2 ∧ EvC l E w d MX2_isWord [.ref a1, .ref x1] s f (fun o s2 f3 => KP o (fun r => ∃ v4 : Int32, r = some (.int v4) ∧ ((¬ v4 = 0 → (oc f3 x0 11 ∧ (∃ a5 : Nat, vl f3 x0 147 = .ref a5 ∧ (oc f3 a5 2 ∧ EvC l E w d MX2_next [.ref a5] s2 f3 (fun o s6 f7 => KP o (fun r => r = none ∧ Q (.inl none) s6 f7) (fun k => Q (.inr k) s6 f7)))))) ∧ (v4 = 0 → (oc f3 x0 11 ∧ (∃ a9 : Nat, vl f3 x0 147 = .ref a9 ∧ (oc f3 x0 11 ∧ (∃ a10 : Nat, vl f3 x0 147 = .ref a10 ∧ (oc f3 a10 2 ∧ (∃ v11 : Int32, vl f3 a10 21 = .int v11 ∧ (oc f3 a9 2 ∧ EvC l E w d MX2_wrong [.ref a9, .int 2, .int v11] s2 f3 (fun o s12 f13 => KP o (fun r => r = some (.ref (w.1 1)) ∧ Q (.inr 1) s12 f13) (fun k => Q (.inr k) s12 f13)))))))))))) (fun k => Q (.inr k) s2 f3)))))) : ExC l E w (d + 1) MX11_take 0 [some (.ref x0), some (.ref x1)] [] s f Q := by
  intro f0 h hW hF
  refine x_aload_n dX11_take_0 rfl rfl rfl ?_
  obtain ⟨hc, hT⟩ := hT
  obtain ⟨a1, ev, hT⟩ := hT
  refine c_fgetG dX11_take_1 f_TallySlate_Reader_23 hc (by decide) (by decide) hW ev ?_
  refine x_aload_n dX11_take_4 rfl rfl rfl ?_
  obtain ⟨hc, hT⟩ := hT
  obtain ⟨cc, hcc⟩ := hW.ocell hc
  refine c_invV (vs := [.ref x1]) dX11_take_5 oX2_isWord q728 q727 hcc q729 (Or.inl rfl) rfl rfl (Nat.le_of_ble_eq_true rfl) rfl hW hF hT ?_ ?_
  · intro _ s2 f3 hT h hW hF
    obtain ⟨v4, rfl, hT⟩ := hT
    refine x_if_ne (tgt := 27) dX11_take_8 rfl (fun c => ?_) (fun c => ?_)
    · replace hT := hT.1 c
      refine x_aload_n dX11_take_27 rfl rfl rfl ?_
      obtain ⟨hc, hT⟩ := hT
      obtain ⟨a5, ev, hT⟩ := hT
      refine c_fgetG dX11_take_28 f_TallySlate_Reader_23 hc (by decide) (by decide) hW ev ?_
      obtain ⟨hc, hT⟩ := hT
      obtain ⟨cc, hcc⟩ := hW.ocell hc
      refine c_invV (vs := []) dX11_take_31 oX2_next q610 q609 hcc q611 (Or.inl rfl) rfl rfl (Nat.le_of_ble_eq_true rfl) rfl hW hF hT ?_ ?_
      · intro _ s6 f7 hT h hW hF
        obtain ⟨rfl, hT⟩ := hT
        exact x_vret dX11_take_34 rfl ⟨_, _, hW, hF, Or.inl ⟨_, rfl, hT⟩⟩
      · intro k s6 f7 hT h a hW hx hF
        exact c_out (rfl) hW hx hF hT
    · replace hT := hT.2 c
      refine x_aload_n dX11_take_11 rfl rfl rfl ?_
      obtain ⟨hc, hT⟩ := hT
      obtain ⟨a9, ev, hT⟩ := hT
      refine c_fgetG dX11_take_12 f_TallySlate_Reader_23 hc (by decide) (by decide) hW ev ?_
      refine x_iconst (v := 2) dX11_take_15 rfl ?_
      refine x_aload_n dX11_take_16 rfl rfl rfl ?_
      obtain ⟨hc, hT⟩ := hT
      obtain ⟨a10, ev, hT⟩ := hT
      refine c_fgetG dX11_take_17 f_TallySlate_Reader_23 hc (by decide) (by decide) hW ev ?_
      obtain ⟨hc, hT⟩ := hT
      obtain ⟨v11, ev, hT⟩ := hT
      refine c_fgetG dX11_take_20 f_TallySlate_Reader_45 hc (by decide) (by decide) hW ev ?_
      obtain ⟨hc, hT⟩ := hT
      obtain ⟨cc, hcc⟩ := hW.ocell hc
      refine c_invV (vs := [.int 2, .int v11]) dX11_take_23 oX2_wrong q564 q772 hcc q565 (Or.inl rfl) rfl rfl (Nat.le_of_ble_eq_true rfl) rfl hW hF hT ?_ ?_
      · intro _ s12 f13 hT h hW hF
        obtain ⟨rfl, hT⟩ := hT
        refine x_athrow dX11_take_26 ?_
        exact c_out (rfl) hW (Or.inr (Or.inl ⟨rfl, rfl⟩)) hF hT
      · intro k s12 f13 hT h a hW hx hF
        exact c_out (rfl) hW hx hF hT
  · intro k s2 f3 hT h a hW hx hF
    exact c_out (rfl) hW hx hF hT
theorem eX11_take {l : Launch} {E : EN} {w : CO} {d : Nat} {s : CS} {f : RH} {Q : KO → CS → RH → Prop} {x0 : Nat} {x1 : Nat}  (hst : l.stackTraces = false) (hT : (oc f x0 11 ∧ (∃ a1 : Nat, vl f x0 147 = .ref a1 ∧ (oc f a1 2 ∧ EvC l E w d MX2_isWord [.ref a1, .ref x1] s f (fun o s2 f3 => KP o (fun r => ∃ v4 : Int32, r = some (.int v4) ∧ ((¬ v4 = 0 → (oc f3 x0 11 ∧ (∃ a5 : Nat, vl f3 x0 147 = .ref a5 ∧ (oc f3 a5 2 ∧ EvC l E w d MX2_next [.ref a5] s2 f3 (fun o s6 f7 => KP o (fun r => r = none ∧ Q (.inl none) s6 f7) (fun k => Q (.inr k) s6 f7)))))) ∧ (v4 = 0 → (oc f3 x0 11 ∧ (∃ a9 : Nat, vl f3 x0 147 = .ref a9 ∧ (oc f3 x0 11 ∧ (∃ a10 : Nat, vl f3 x0 147 = .ref a10 ∧ (oc f3 a10 2 ∧ (∃ v11 : Int32, vl f3 a10 21 = .int v11 ∧ (oc f3 a9 2 ∧ EvC l E w d MX2_wrong [.ref a9, .int 2, .int v11] s2 f3 (fun o s12 f13 => KP o (fun r => r = some (.ref (w.1 1)) ∧ Q (.inr 1) s12 f13) (fun k => Q (.inr k) s12 f13)))))))))))) (fun k => Q (.inr k) s2 f3)))))) : EvC l E w (d + 1) MX11_take [.ref x0, .ref x1] s f Q :=
  EvC.of hst (by decide) (Nat.le_of_ble_eq_true rfl) (vX11_take_0  hT)
theorem vX11_plain_0 {l : Launch} {E : EN} {w : CO} {d : Nat} {s : CS} {f : RH} {Q : KO → CS → RH → Prop} {x0 : Nat} {x1 : Int32}  (hT : (rmF E f 1 3 ∧ ∀ (a1 : Nat) (f2 : RH), a1 = f.1 → f2 = fnew f 26 → (EvC l E w d MX28_init [.ref a1, .int x1] s f2 (fun o s3 f4 => KP o (fun r => r = none ∧ (oc f4 x0 11 ∧ (∃ a5 : Nat, vl f4 x0 147 = .ref a5 ∧ (oc f4 a5 2 ∧ EvC l E w d MX2_next [.ref a5] s3 f4 (fun o s6 f7 => KP o (fun r => r = none ∧ (oc f7 x0 11 ∧ EvC l E w d MX11_expression [.ref x0] s6 f7 (fun o s8 f9 => KP o (fun r => ∃ a10 : Nat, r = some (.ref a10) ∧ (oc f9 a1 26 ∧ f9.2.2.2 ≤ a1 ∧ ∀ f11 : RH, f11 = fset f9 a1 191 (.ref a10) → (oc f11 x0 11 ∧ (∃ a12 : Nat, vl f11 x0 147 = .ref a12 ∧ (oc f11 a12 2 ∧ EvC l E w d MX2_take [.ref a12, .int 59] s8 f11 (fun o s13 f14 => KP o (fun r => r = none ∧ Q (.inl (some (.ref a1))) s13 f14) (fun k => Q (.inr k) s13 f14))))))) (fun k => Q (.inr k) s8 f9)))) (fun k => Q (.inr k) s6 f7)))))) (fun k => Q (.inr k) s3 f4))))) : ExC l E w (d + 1) MX11_plain 0 [some (.ref x0), some (.int x1), none] [] s f Q := by
  intro f0 h hW hF
  obtain ⟨hr, hT⟩ := hT
  refine c_newG (k := 26) dX11_plain_0 (by decide) q1186 q201 hr hW hF ?_
  intro a1 f2 ea1 ef2 h hW hF
  replace hT := hT a1 f2 ea1 ef2
  refine x_dup dX11_plain_3 rfl ?_
  refine x_iload_n dX11_plain_4 rfl rfl ?_
  refine c_invI (b := a1) (vs := [.int x1]) dX11_plain_5 oX28_init rfl rfl rfl q1189 (Or.inl q1188) rfl rfl (Nat.le_of_ble_eq_true rfl) rfl hW hF hT ?_ ?_
  · intro _ s3 f4 hT h hW hF
    obtain ⟨rfl, hT⟩ := hT
    refine x_astore_n (lo' := [some (.ref x0), some (.int x1), some (.ref a1)]) dX11_plain_8 rfl (Nat.le_of_ble_eq_true rfl) rfl rfl ?_
    refine x_aload_n dX11_plain_9 rfl rfl rfl ?_
    obtain ⟨hc, hT⟩ := hT
    obtain ⟨a5, ev, hT⟩ := hT
    refine c_fgetG dX11_plain_10 f_TallySlate_Reader_23 hc (by decide) (by decide) hW ev ?_
    obtain ⟨hc, hT⟩ := hT
    obtain ⟨cc, hcc⟩ := hW.ocell hc
    refine c_invV (vs := []) dX11_plain_13 oX2_next q610 q609 hcc q611 (Or.inl rfl) rfl rfl (Nat.le_of_ble_eq_true rfl) rfl hW hF hT ?_ ?_
    · intro _ s6 f7 hT h hW hF
      obtain ⟨rfl, hT⟩ := hT
      refine x_aload_n dX11_plain_16 rfl rfl rfl ?_
      refine x_aload_n dX11_plain_17 rfl rfl rfl ?_
      obtain ⟨hc, hT⟩ := hT
      obtain ⟨cc, hcc⟩ := hW.ocell hc
      refine c_invV (vs := []) dX11_plain_18 oX11_expression q893 q891 hcc qs14 (Or.inl rfl) rfl rfl (Nat.le_of_ble_eq_true rfl) rfl hW hF hT ?_ ?_
      · intro _ s8 f9 hT h hW hF
        obtain ⟨a10, rfl, hT⟩ := hT
        obtain ⟨hc, hz, hT⟩ := hT
        refine c_fputG dX11_plain_21 f_TallySlate_Reader_204 hc (by decide) (by decide) hz (Or.inl rfl) rfl rfl hW hF ?_
        intro f11 ef11 h hW hF
        replace hT := hT f11 ef11
        refine x_aload_n dX11_plain_24 rfl rfl rfl ?_
        obtain ⟨hc, hT⟩ := hT
        obtain ⟨a12, ev, hT⟩ := hT
        refine c_fgetG dX11_plain_25 f_TallySlate_Reader_23 hc (by decide) (by decide) hW ev ?_
        refine x_bipush (v := 59) dX11_plain_28 rfl ?_
        obtain ⟨hc, hT⟩ := hT
        obtain ⟨cc, hcc⟩ := hW.ocell hc
        refine c_invV (vs := [.int 59]) dX11_plain_30 oX2_take q816 q815 hcc q817 (Or.inl rfl) rfl rfl (Nat.le_of_ble_eq_true rfl) rfl hW hF hT ?_ ?_
        · intro _ s13 f14 hT h hW hF
          obtain ⟨rfl, hT⟩ := hT
          refine x_aload_n dX11_plain_33 rfl rfl rfl ?_
          exact x_aret dX11_plain_34 rfl (by first | exact Or.inl ⟨_, rfl⟩ | exact Or.inr ⟨_, rfl⟩) rfl ⟨_, _, hW, hF, Or.inl ⟨_, rfl, hT⟩⟩
        · intro k s13 f14 hT h a hW hx hF
          exact c_out (rfl) hW hx hF hT
      · intro k s8 f9 hT h a hW hx hF
        exact c_out (rfl) hW hx hF hT
    · intro k s6 f7 hT h a hW hx hF
      exact c_out (rfl) hW hx hF hT
  · intro k s3 f4 hT h a hW hx hF
    exact c_out (rfl) hW hx hF hT
theorem eX11_plain {l : Launch} {E : EN} {w : CO} {d : Nat} {s : CS} {f : RH} {Q : KO → CS → RH → Prop} {x0 : Nat} {x1 : Int32}  (hst : l.stackTraces = false) (hT : (rmF E f 1 3 ∧ ∀ (a1 : Nat) (f2 : RH), a1 = f.1 → f2 = fnew f 26 → (EvC l E w d MX28_init [.ref a1, .int x1] s f2 (fun o s3 f4 => KP o (fun r => r = none ∧ (oc f4 x0 11 ∧ (∃ a5 : Nat, vl f4 x0 147 = .ref a5 ∧ (oc f4 a5 2 ∧ EvC l E w d MX2_next [.ref a5] s3 f4 (fun o s6 f7 => KP o (fun r => r = none ∧ (oc f7 x0 11 ∧ EvC l E w d MX11_expression [.ref x0] s6 f7 (fun o s8 f9 => KP o (fun r => ∃ a10 : Nat, r = some (.ref a10) ∧ (oc f9 a1 26 ∧ f9.2.2.2 ≤ a1 ∧ ∀ f11 : RH, f11 = fset f9 a1 191 (.ref a10) → (oc f11 x0 11 ∧ (∃ a12 : Nat, vl f11 x0 147 = .ref a12 ∧ (oc f11 a12 2 ∧ EvC l E w d MX2_take [.ref a12, .int 59] s8 f11 (fun o s13 f14 => KP o (fun r => r = none ∧ Q (.inl (some (.ref a1))) s13 f14) (fun k => Q (.inr k) s13 f14))))))) (fun k => Q (.inr k) s8 f9)))) (fun k => Q (.inr k) s6 f7)))))) (fun k => Q (.inr k) s3 f4))))) : EvC l E w (d + 1) MX11_plain [.ref x0, .int x1] s f Q :=
  EvC.of hst (by decide) (Nat.le_of_ble_eq_true rfl) (vX11_plain_0  hT)
set_option maxHeartbeats 16000000 in
theorem vX11_attempt_0 {l : Launch} {E : EN} {w : CO} {d : Nat} {s : CS} {f : RH} {Q : KO → CS → RH → Prop} {x0 : Nat}  (hT : (rmF E f 1 5 ∧ ∀ (a1 : Nat) (f2 : RH), a1 = f.1 → f2 = fnew f 27 → (EvC l E w d MX29_init [.ref a1] s f2 (fun o s3 f4 => KP o (fun r => r = none ∧ (oc f4 x0 11 ∧ (∃ a5 : Nat, vl f4 x0 147 = .ref a5 ∧ (oc f4 a5 2 ∧ EvC l E w d MX2_next [.ref a5] s3 f4 (fun o s6 f7 => KP o (fun r => r = none ∧ (oc f7 x0 11 ∧ EvC l E w d MX11_block [.ref x0] s6 f7 (fun o s8 f9 => KP o (fun r => ∃ a10 : Nat, r = some (.ref a10) ∧ (oc f9 a1 27 ∧ f9.2.2.2 ≤ a1 ∧ ∀ f11 : RH, f11 = fset f9 a1 194 (.ref a10) → (oc f11 x0 11 ∧ (∃ a12 : Nat, vl f11 x0 147 = .ref a12 ∧ (oc f11 a12 2 ∧ (∃ v13 : Int32, vl f11 a12 21 = .int v13 ∧ (oc f11 a1 27 ∧ f11.2.2.2 ≤ a1 ∧ ∀ f14 : RH, f14 = fset f11 a1 193 (.int v13) → (oc f14 x0 11 ∧ EvC l E w d MX11_take [.ref x0, .ref (eSC E 51)] s8 f14 (fun o s15 f16 => KP o (fun r => r = none ∧ (oc f16 x0 11 ∧ EvC l E w d MX11_name [.ref x0] s15 f16 (fun o s17 f18 => KP o (fun r => ∃ v19 : Int32, r = some (.int v19) ∧ (oc f18 a1 27 ∧ f18.2.2.2 ≤ a1 ∧ ∀ f20 : RH, f20 = fset f18 a1 192 (.int v19) → (oc f20 x0 11 ∧ EvC l E w d MX11_block [.ref x0] s17 f20 (fun o s21 f22 => KP o (fun r => ∃ a23 : Nat, r = some (.ref a23) ∧ (oc f22 a1 27 ∧ f22.2.2.2 ≤ a1 ∧ ∀ f24 : RH, f24 = fset f22 a1 195 (.ref a23) → Q (.inl (some (.ref a1))) s21 f24)) (fun k => Q (.inr k) s21 f22))))) (fun k => Q (.inr k) s17 f18)))) (fun k => Q (.inr k) s15 f16)))))))))) (fun k => Q (.inr k) s8 f9)))) (fun k => Q (.inr k) s6 f7)))))) (fun k => Q (.inr k) s3 f4))))) : ExC l E w (d + 1) MX11_attempt 0 [some (.ref x0), none] [] s f Q := by
  intro f0 h hW hF
  obtain ⟨hr, hT⟩ := hT
  refine c_newG (k := 27) dX11_attempt_0 (by decide) q1208 q202 hr hW hF ?_
  intro a1 f2 ea1 ef2 h hW hF
  replace hT := hT a1 f2 ea1 ef2
  refine x_dup dX11_attempt_3 rfl ?_
  refine c_invI (b := a1) (vs := []) dX11_attempt_4 oX29_init rfl rfl rfl q1211 (Or.inr ⟨_, q1210⟩) rfl rfl (Nat.le_of_ble_eq_true rfl) rfl hW hF hT ?_ ?_
  · intro _ s3 f4 hT h hW hF
    obtain ⟨rfl, hT⟩ := hT
    refine x_astore_n (lo' := [some (.ref x0), some (.ref a1)]) dX11_attempt_7 rfl (Nat.le_of_ble_eq_true rfl) rfl rfl ?_
    refine x_aload_n dX11_attempt_8 rfl rfl rfl ?_
    obtain ⟨hc, hT⟩ := hT
    obtain ⟨a5, ev, hT⟩ := hT
    refine c_fgetG dX11_attempt_9 f_TallySlate_Reader_23 hc (by decide) (by decide) hW ev ?_
    obtain ⟨hc, hT⟩ := hT
    obtain ⟨cc, hcc⟩ := hW.ocell hc
    refine c_invV (vs := []) dX11_attempt_12 oX2_next q610 q609 hcc q611 (Or.inl rfl) rfl rfl (Nat.le_of_ble_eq_true rfl) rfl hW hF hT ?_ ?_
    · intro _ s6 f7 hT h hW hF
      obtain ⟨rfl, hT⟩ := hT
      refine x_aload_n dX11_attempt_15 rfl rfl rfl ?_
      refine x_aload_n dX11_attempt_16 rfl rfl rfl ?_
      obtain ⟨hc, hT⟩ := hT
      obtain ⟨cc, hcc⟩ := hW.ocell hc
      refine c_invV (vs := []) dX11_attempt_17 oX11_block q831 q829 hcc qs11 (Or.inl rfl) rfl rfl (Nat.le_of_ble_eq_true rfl) rfl hW hF hT ?_ ?_
      · intro _ s8 f9 hT h hW hF
        obtain ⟨a10, rfl, hT⟩ := hT
        obtain ⟨hc, hz, hT⟩ := hT
        refine c_fputG dX11_attempt_20 f_TallySlate_Reader_250 hc (by decide) (by decide) hz (Or.inl rfl) rfl rfl hW hF ?_
        intro f11 ef11 h hW hF
        replace hT := hT f11 ef11
        refine x_aload_n dX11_attempt_23 rfl rfl rfl ?_
        refine x_aload_n dX11_attempt_24 rfl rfl rfl ?_
        obtain ⟨hc, hT⟩ := hT
        obtain ⟨a12, ev, hT⟩ := hT
        refine c_fgetG dX11_attempt_25 f_TallySlate_Reader_23 hc (by decide) (by decide) hW ev ?_
        obtain ⟨hc, hT⟩ := hT
        obtain ⟨v13, ev, hT⟩ := hT
        refine c_fgetG dX11_attempt_28 f_TallySlate_Reader_45 hc (by decide) (by decide) hW ev ?_
        obtain ⟨hc, hz, hT⟩ := hT
        refine c_fputG dX11_attempt_31 f_TallySlate_Reader_251 hc (by decide) (by decide) hz (Or.inl rfl) rfl rfl hW hF ?_
        intro f14 ef14 h hW hF
        replace hT := hT f14 ef14
        refine x_aload_n dX11_attempt_34 rfl rfl rfl ?_
        refine x_ldcS (i := 51) dX11_attempt_35 rfl ?_
        obtain ⟨hc, hT⟩ := hT
        obtain ⟨cc, hcc⟩ := hW.ocell hc
        refine c_invV (vs := [.ref (eSC E 51)]) dX11_attempt_37 oX11_take q1179 q1177 hcc qs29 (Or.inl rfl) rfl rfl (Nat.le_of_ble_eq_true rfl) rfl hW hF hT ?_ ?_
        · intro _ s15 f16 hT h hW hF
          obtain ⟨rfl, hT⟩ := hT
          refine x_aload_n dX11_attempt_40 rfl rfl rfl ?_
          refine x_aload_n dX11_attempt_41 rfl rfl rfl ?_
          obtain ⟨hc, hT⟩ := hT
          obtain ⟨cc, hcc⟩ := hW.ocell hc
          refine c_invV (vs := []) dX11_attempt_42 oX11_name q1071 q1069 hcc qs25 (Or.inl rfl) rfl rfl (Nat.le_of_ble_eq_true rfl) rfl hW hF hT ?_ ?_
          · intro _ s17 f18 hT h hW hF
            obtain ⟨v19, rfl, hT⟩ := hT
            obtain ⟨hc, hz, hT⟩ := hT
            refine c_fputG dX11_attempt_45 f_TallySlate_Reader_256 hc (by decide) (by decide) hz (Or.inl rfl) rfl rfl hW hF ?_
            intro f20 ef20 h hW hF
            replace hT := hT f20 ef20
            refine x_aload_n dX11_attempt_48 rfl rfl rfl ?_
            refine x_aload_n dX11_attempt_49 rfl rfl rfl ?_
            obtain ⟨hc, hT⟩ := hT
            obtain ⟨cc, hcc⟩ := hW.ocell hc
            refine c_invV (vs := []) dX11_attempt_50 oX11_block q831 q829 hcc qs11 (Or.inl rfl) rfl rfl (Nat.le_of_ble_eq_true rfl) rfl hW hF hT ?_ ?_
            · intro _ s21 f22 hT h hW hF
              obtain ⟨a23, rfl, hT⟩ := hT
              obtain ⟨hc, hz, hT⟩ := hT
              refine c_fputG dX11_attempt_53 f_TallySlate_Reader_257 hc (by decide) (by decide) hz (Or.inl rfl) rfl rfl hW hF ?_
              intro f24 ef24 h hW hF
              replace hT := hT f24 ef24
              refine x_aload_n dX11_attempt_56 rfl rfl rfl ?_
              exact x_aret dX11_attempt_57 rfl (by first | exact Or.inl ⟨_, rfl⟩ | exact Or.inr ⟨_, rfl⟩) rfl ⟨_, _, hW, hF, Or.inl ⟨_, rfl, hT⟩⟩
            · intro k s21 f22 hT h a hW hx hF
              exact c_out (rfl) hW hx hF hT
          · intro k s17 f18 hT h a hW hx hF
            exact c_out (rfl) hW hx hF hT
        · intro k s15 f16 hT h a hW hx hF
          exact c_out (rfl) hW hx hF hT
      · intro k s8 f9 hT h a hW hx hF
        exact c_out (rfl) hW hx hF hT
    · intro k s6 f7 hT h a hW hx hF
      exact c_out (rfl) hW hx hF hT
  · intro k s3 f4 hT h a hW hx hF
    exact c_out (rfl) hW hx hF hT
theorem eX11_attempt {l : Launch} {E : EN} {w : CO} {d : Nat} {s : CS} {f : RH} {Q : KO → CS → RH → Prop} {x0 : Nat}  (hst : l.stackTraces = false) (hT : (rmF E f 1 5 ∧ ∀ (a1 : Nat) (f2 : RH), a1 = f.1 → f2 = fnew f 27 → (EvC l E w d MX29_init [.ref a1] s f2 (fun o s3 f4 => KP o (fun r => r = none ∧ (oc f4 x0 11 ∧ (∃ a5 : Nat, vl f4 x0 147 = .ref a5 ∧ (oc f4 a5 2 ∧ EvC l E w d MX2_next [.ref a5] s3 f4 (fun o s6 f7 => KP o (fun r => r = none ∧ (oc f7 x0 11 ∧ EvC l E w d MX11_block [.ref x0] s6 f7 (fun o s8 f9 => KP o (fun r => ∃ a10 : Nat, r = some (.ref a10) ∧ (oc f9 a1 27 ∧ f9.2.2.2 ≤ a1 ∧ ∀ f11 : RH, f11 = fset f9 a1 194 (.ref a10) → (oc f11 x0 11 ∧ (∃ a12 : Nat, vl f11 x0 147 = .ref a12 ∧ (oc f11 a12 2 ∧ (∃ v13 : Int32, vl f11 a12 21 = .int v13 ∧ (oc f11 a1 27 ∧ f11.2.2.2 ≤ a1 ∧ ∀ f14 : RH, f14 = fset f11 a1 193 (.int v13) → (oc f14 x0 11 ∧ EvC l E w d MX11_take [.ref x0, .ref (eSC E 51)] s8 f14 (fun o s15 f16 => KP o (fun r => r = none ∧ (oc f16 x0 11 ∧ EvC l E w d MX11_name [.ref x0] s15 f16 (fun o s17 f18 => KP o (fun r => ∃ v19 : Int32, r = some (.int v19) ∧ (oc f18 a1 27 ∧ f18.2.2.2 ≤ a1 ∧ ∀ f20 : RH, f20 = fset f18 a1 192 (.int v19) → (oc f20 x0 11 ∧ EvC l E w d MX11_block [.ref x0] s17 f20 (fun o s21 f22 => KP o (fun r => ∃ a23 : Nat, r = some (.ref a23) ∧ (oc f22 a1 27 ∧ f22.2.2.2 ≤ a1 ∧ ∀ f24 : RH, f24 = fset f22 a1 195 (.ref a23) → Q (.inl (some (.ref a1))) s21 f24)) (fun k => Q (.inr k) s21 f22))))) (fun k => Q (.inr k) s17 f18)))) (fun k => Q (.inr k) s15 f16)))))))))) (fun k => Q (.inr k) s8 f9)))) (fun k => Q (.inr k) s6 f7)))))) (fun k => Q (.inr k) s3 f4))))) : EvC l E w (d + 1) MX11_attempt [.ref x0] s f Q :=
  EvC.of hst (by decide) (Nat.le_of_ble_eq_true rfl) (vX11_attempt_0  hT)
theorem vX11_alone_0 {l : Launch} {E : EN} {w : CO} {d : Nat} {s : CS} {f : RH} {Q : KO → CS → RH → Prop} {x0 : Nat}  (hT : (rmF E f 1 3 ∧ ∀ (a1 : Nat) (f2 : RH), a1 = f.1 → f2 = fnew f 26 → (EvC l E w d MX28_init [.ref a1, .int 4] s f2 (fun o s3 f4 => KP o (fun r => r = none ∧ (oc f4 x0 11 ∧ EvC l E w d MX11_call [.ref x0] s3 f4 (fun o s5 f6 => KP o (fun r => ∃ a7 : Nat, r = some (.ref a7) ∧ (oc f6 a1 26 ∧ f6.2.2.2 ≤ a1 ∧ ∀ f8 : RH, f8 = fset f6 a1 191 (.ref a7) → (oc f8 x0 11 ∧ (∃ a9 : Nat, vl f8 x0 147 = .ref a9 ∧ (oc f8 a9 2 ∧ EvC l E w d MX2_take [.ref a9, .int 59] s5 f8 (fun o s10 f11 => KP o (fun r => r = none ∧ Q (.inl (some (.ref a1))) s10 f11) (fun k => Q (.inr k) s10 f11))))))) (fun k => Q (.inr k) s5 f6)))) (fun k => Q (.inr k) s3 f4))))) : ExC l E w (d + 1) MX11_alone 0 [some (.ref x0), none] [] s f Q := by
  intro f0 h hW hF
  obtain ⟨hr, hT⟩ := hT
  refine c_newG (k := 26) dX11_alone_0 (by decide) q1186 q201 hr hW hF ?_
  intro a1 f2 ea1 ef2 h hW hF
  replace hT := hT a1 f2 ea1 ef2
  refine x_dup dX11_alone_3 rfl ?_
  refine x_iconst (v := 4) dX11_alone_4 rfl ?_
  refine c_invI (b := a1) (vs := [.int 4]) dX11_alone_5 oX28_init rfl rfl rfl q1189 (Or.inl q1188) rfl rfl (Nat.le_of_ble_eq_true rfl) rfl hW hF hT ?_ ?_
  · intro _ s3 f4 hT h hW hF
    obtain ⟨rfl, hT⟩ := hT
    refine x_astore_n (lo' := [some (.ref x0), some (.ref a1)]) dX11_alone_8 rfl (Nat.le_of_ble_eq_true rfl) rfl rfl ?_
    refine x_aload_n dX11_alone_9 rfl rfl rfl ?_
    refine x_aload_n dX11_alone_10 rfl rfl rfl ?_
    obtain ⟨hc, hT⟩ := hT
    obtain ⟨cc, hcc⟩ := hW.ocell hc
    refine c_invV (vs := []) dX11_alone_11 oX11_call q1005 q1003 hcc qs21 (Or.inl rfl) rfl rfl (Nat.le_of_ble_eq_true rfl) rfl hW hF hT ?_ ?_
    · intro _ s5 f6 hT h hW hF
      obtain ⟨a7, rfl, hT⟩ := hT
      obtain ⟨hc, hz, hT⟩ := hT
      refine c_fputG dX11_alone_14 f_TallySlate_Reader_204 hc (by decide) (by decide) hz (Or.inl rfl) rfl rfl hW hF ?_
      intro f8 ef8 h hW hF
      replace hT := hT f8 ef8
      refine x_aload_n dX11_alone_17 rfl rfl rfl ?_
      obtain ⟨hc, hT⟩ := hT
      obtain ⟨a9, ev, hT⟩ := hT
      refine c_fgetG dX11_alone_18 f_TallySlate_Reader_23 hc (by decide) (by decide) hW ev ?_
      refine x_bipush (v := 59) dX11_alone_21 rfl ?_
      obtain ⟨hc, hT⟩ := hT
      obtain ⟨cc, hcc⟩ := hW.ocell hc
      refine c_invV (vs := [.int 59]) dX11_alone_23 oX2_take q816 q815 hcc q817 (Or.inl rfl) rfl rfl (Nat.le_of_ble_eq_true rfl) rfl hW hF hT ?_ ?_
      · intro _ s10 f11 hT h hW hF
        obtain ⟨rfl, hT⟩ := hT
        refine x_aload_n dX11_alone_26 rfl rfl rfl ?_
        exact x_aret dX11_alone_27 rfl (by first | exact Or.inl ⟨_, rfl⟩ | exact Or.inr ⟨_, rfl⟩) rfl ⟨_, _, hW, hF, Or.inl ⟨_, rfl, hT⟩⟩
      · intro k s10 f11 hT h a hW hx hF
        exact c_out (rfl) hW hx hF hT
    · intro k s5 f6 hT h a hW hx hF
      exact c_out (rfl) hW hx hF hT
  · intro k s3 f4 hT h a hW hx hF
    exact c_out (rfl) hW hx hF hT
theorem eX11_alone {l : Launch} {E : EN} {w : CO} {d : Nat} {s : CS} {f : RH} {Q : KO → CS → RH → Prop} {x0 : Nat}  (hst : l.stackTraces = false) (hT : (rmF E f 1 3 ∧ ∀ (a1 : Nat) (f2 : RH), a1 = f.1 → f2 = fnew f 26 → (EvC l E w d MX28_init [.ref a1, .int 4] s f2 (fun o s3 f4 => KP o (fun r => r = none ∧ (oc f4 x0 11 ∧ EvC l E w d MX11_call [.ref x0] s3 f4 (fun o s5 f6 => KP o (fun r => ∃ a7 : Nat, r = some (.ref a7) ∧ (oc f6 a1 26 ∧ f6.2.2.2 ≤ a1 ∧ ∀ f8 : RH, f8 = fset f6 a1 191 (.ref a7) → (oc f8 x0 11 ∧ (∃ a9 : Nat, vl f8 x0 147 = .ref a9 ∧ (oc f8 a9 2 ∧ EvC l E w d MX2_take [.ref a9, .int 59] s5 f8 (fun o s10 f11 => KP o (fun r => r = none ∧ Q (.inl (some (.ref a1))) s10 f11) (fun k => Q (.inr k) s10 f11))))))) (fun k => Q (.inr k) s5 f6)))) (fun k => Q (.inr k) s3 f4))))) : EvC l E w (d + 1) MX11_alone [.ref x0] s f Q :=
  EvC.of hst (by decide) (Nat.le_of_ble_eq_true rfl) (vX11_alone_0  hT)
set_option maxHeartbeats 16000000 in
theorem vX11_assign_0 {l : Launch} {E : EN} {w : CO} {d : Nat} {s : CS} {f : RH} {Q : KO → CS → RH → Prop} {x0 : Nat}  (hT : (rmF E f 1 8 ∧ ∀ (a1 : Nat) (f2 : RH), a1 = f.1 → f2 = fnew f 28 → (EvC l E w d MX30_init [.ref a1] s f2 (fun o s3 f4 => KP o (fun r => r = none ∧ (oc f4 x0 11 ∧ (∃ a5 : Nat, vl f4 x0 147 = .ref a5 ∧ (oc f4 a5 2 ∧ (∃ v6 : Int32, vl f4 a5 21 = .int v6 ∧ (oc f4 a1 28 ∧ f4.2.2.2 ≤ a1 ∧ ∀ f7 : RH, f7 = fset f4 a1 197 (.int v6) → (oc f7 x0 11 ∧ EvC l E w d MX11_name [.ref x0] s3 f7 (fun o s8 f9 => KP o (fun r => ∃ v10 : Int32, r = some (.int v10) ∧ (oc f9 a1 28 ∧ f9.2.2.2 ≤ a1 ∧ ∀ f11 : RH, f11 = fset f9 a1 196 (.int v10) → (oc f11 x0 11 ∧ (∃ a12 : Nat, vl f11 x0 147 = .ref a12 ∧ (oc f11 a12 2 ∧ EvC l E w d MX2_is [.ref a12, .int 91] s8 f11 (fun o s13 f14 => KP o (fun r => ∃ v15 : Int32, r = some (.int v15) ∧ ((v15 = 0 → (oc f14 a1 28 ∧ (∃ v16 : Value, vl f14 a1 200 = v16 ∧ isR v16 = true ∧ ((v16 = .null → (oc f14 x0 11 ∧ (∃ a18 : Nat, vl f14 x0 147 = .ref a18 ∧ (oc f14 a18 2 ∧ EvC l E w d MX2_take [.ref a18, .int 61] s13 f14 (fun o s19 f20 => KP o (fun r => r = none ∧ (oc f20 x0 11 ∧ EvC l E w d MX11_expression [.ref x0] s19 f20 (fun o s21 f22 => KP o (fun r => ∃ a23 : Nat, r = some (.ref a23) ∧ (oc f22 a1 28 ∧ f22.2.2.2 ≤ a1 ∧ ∀ f24 : RH, f24 = fset f22 a1 202 (.ref a23) → (oc f24 x0 11 ∧ (∃ a25 : Nat, vl f24 x0 147 = .ref a25 ∧ (oc f24 a25 2 ∧ EvC l E w d MX2_take [.ref a25, .int 59] s21 f24 (fun o s26 f27 => KP o (fun r => r = none ∧ Q (.inl (some (.ref a1))) s26 f27) (fun k => Q (.inr k) s26 f27))))))) (fun k => Q (.inr k) s21 f22)))) (fun k => Q (.inr k) s19 f20)))))) ∧ (∀ a17 : Nat, v16 = .ref a17 → (oc f14 x0 11 ∧ (∃ a31 : Nat, vl f14 x0 147 = .ref a31 ∧ (oc f14 a31 2 ∧ EvC l E w d MX2_is [.ref a31, .int 91] s13 f14 (fun o s32 f33 => KP o (fun r => ∃ v34 : Int32, r = some (.int v34) ∧ ((v34 = 0 → (oc f33 x0 11 ∧ (∃ a35 : Nat, vl f33 x0 147 = .ref a35 ∧ (oc f33 a35 2 ∧ EvC l E w d MX2_take [.ref a35, .int 61] s32 f33 (fun o s36 f37 => KP o (fun r => r = none ∧ (oc f37 x0 11 ∧ EvC l E w d MX11_expression [.ref x0] s36 f37 (fun o s38 f39 => KP o (fun r => ∃ a40 : Nat, r = some (.ref a40) ∧ (oc f39 a1 28 ∧ f39.2.2.2 ≤ a1 ∧ ∀ f41 : RH, f41 = fset f39 a1 202 (.ref a40) → (oc f41 x0 11 ∧ (∃ a42 : Nat, vl f41 x0 147 = .ref a42 ∧ (oc f41 a42 2 ∧ EvC l E w d MX2_take [.ref a42, .int 59] s38 f41 (fun o s43 f44 => KP o (fun r => r = none ∧ Q (.inl (some (.ref a1))) s43 f44) (fun k => Q (.inr k) s43 f44))))))) (fun k => Q (.inr k) s38 f39)))) (fun k => Q (.inr k) s36 f37)))))) ∧ (¬ v34 = 0 → (oc f33 x0 11 ∧ (∃ a48 : Nat, vl f33 x0 147 = .ref a48 ∧ (oc f33 a48 2 ∧ (∃ v49 : Int32, vl f33 a48 21 = .int v49 ∧ (oc f33 a1 28 ∧ f33.2.2.2 ≤ a1 ∧ ∀ f50 : RH, f50 = fset f33 a1 199 (.int v49) → (oc f50 x0 11 ∧ (∃ a51 : Nat, vl f50 x0 147 = .ref a51 ∧ (oc f50 a51 2 ∧ EvC l E w d MX2_take [.ref a51, .int 91] s32 f50 (fun o s52 f53 => KP o (fun r => r = none ∧ (oc f53 x0 11 ∧ EvC l E w d MX11_expression [.ref x0] s52 f53 (fun o s54 f55 => KP o (fun r => ∃ a56 : Nat, r = some (.ref a56) ∧ (oc f55 a1 28 ∧ f55.2.2.2 ≤ a1 ∧ ∀ f57 : RH, f57 = fset f55 a1 201 (.ref a56) → (oc f57 x0 11 ∧ (∃ a58 : Nat, vl f57 x0 147 = .ref a58 ∧ (oc f57 a58 2 ∧ EvC l E w d MX2_take [.ref a58, .int 93] s54 f57 (fun o s59 f60 => KP o (fun r => r = none ∧ (oc f60 x0 11 ∧ (∃ a61 : Nat, vl f60 x0 147 = .ref a61 ∧ (oc f60 a61 2 ∧ EvC l E w d MX2_take [.ref a61, .int 61] s59 f60 (fun o s62 f63 => KP o (fun r => r = none ∧ (oc f63 x0 11 ∧ EvC l E w d MX11_expression [.ref x0] s62 f63 (fun o s64 f65 => KP o (fun r => ∃ a66 : Nat, r = some (.ref a66) ∧ (oc f65 a1 28 ∧ f65.2.2.2 ≤ a1 ∧ ∀ f67 : RH, f67 = fset f65 a1 202 (.ref a66) → (oc f67 x0 11 ∧ (∃ a68 : Nat, vl f67 x0 147 = .ref a68 ∧ (oc f67 a68 2 ∧ EvC l E w d MX2_take [.ref a68, .int 59] s64 f67 (fun o s69 f70 => KP o (fun r => r = none ∧ Q (.inl (some (.ref a1))) s69 f70) (fun k => Q (.inr k) s69 f70))))))) (fun k => Q (.inr k) s64 f65)))) (fun k => Q (.inr k) s62 f63)))))) (fun k => Q (.inr k) s59 f60))))))) (fun k => Q (.inr k) s54 f55)))) (fun k => Q (.inr k) s52 f53))))))))))))) (fun k => Q (.inr k) s32 f33)))))))))) ∧ (¬ v15 = 0 → (oc f14 x0 11 ∧ (∃ a78 : Nat, vl f14 x0 147 = .ref a78 ∧ (oc f14 a78 2 ∧ (∃ v79 : Int32, vl f14 a78 21 = .int v79 ∧ (oc f14 a1 28 ∧ f14.2.2.2 ≤ a1 ∧ ∀ f80 : RH, f80 = fset f14 a1 198 (.int v79) → (oc f80 x0 11 ∧ (∃ a81 : Nat, vl f80 x0 147 = .ref a81 ∧ (oc f80 a81 2 ∧ EvC l E w d MX2_take [.ref a81, .int 91] s13 f80 (fun o s82 f83 => KP o (fun r => r = none ∧ (oc f83 x0 11 ∧ EvC l E w d MX11_expression [.ref x0] s82 f83 (fun o s84 f85 => KP o (fun r => ∃ a86 : Nat, r = some (.ref a86) ∧ (oc f85 a1 28 ∧ f85.2.2.2 ≤ a1 ∧ ∀ f87 : RH, f87 = fset f85 a1 200 (.ref a86) → (oc f87 x0 11 ∧ (∃ a88 : Nat, vl f87 x0 147 = .ref a88 ∧ (oc f87 a88 2 ∧ EvC l E w d MX2_take [.ref a88, .int 93] s84 f87 (fun o s89 f90 => KP o (fun r => r = none ∧ (oc f90 a1 28 ∧ (∃ v91 : Value, vl f90 a1 200 = v91 ∧ isR v91 = true ∧ ((v91 = .null → (oc f90 x0 11 ∧ (∃ a93 : Nat, vl f90 x0 147 = .ref a93 ∧ (oc f90 a93 2 ∧ EvC l E w d MX2_take [.ref a93, .int 61] s89 f90 (fun o s94 f95 => KP o (fun r => r = none ∧ (oc f95 x0 11 ∧ EvC l E w d MX11_expression [.ref x0] s94 f95 (fun o s96 f97 => KP o (fun r => ∃ a98 : Nat, r = some (.ref a98) ∧ (oc f97 a1 28 ∧ f97.2.2.2 ≤ a1 ∧ ∀ f99 : RH, f99 = fset f97 a1 202 (.ref a98) → (oc f99 x0 11 ∧ (∃ a100 : Nat, vl f99 x0 147 = .ref a100 ∧ (oc f99 a100 2 ∧ EvC l E w d MX2_take [.ref a100, .int 59] s96 f99 (fun o s101 f102 => KP o (fun r => r = none ∧ Q (.inl (some (.ref a1))) s101 f102) (fun k => Q (.inr k) s101 f102))))))) (fun k => Q (.inr k) s96 f97)))) (fun k => Q (.inr k) s94 f95)))))) ∧ (∀ a92 : Nat, v91 = .ref a92 → (oc f90 x0 11 ∧ (∃ a106 : Nat, vl f90 x0 147 = .ref a106 ∧ (oc f90 a106 2 ∧ EvC l E w d MX2_is [.ref a106, .int 91] s89 f90 (fun o s107 f108 => KP o (fun r => ∃ v109 : Int32, r = some (.int v109) ∧ ((v109 = 0 → (oc f108 x0 11 ∧ (∃ a110 : Nat, vl f108 x0 147 = .ref a110 ∧ (oc f108 a110 2 ∧ EvC l E w d MX2_take [.ref a110, .int 61] s107 f108 (fun o s111 f112 => KP o (fun r => r = none ∧ (oc f112 x0 11 ∧ EvC l E w d MX11_expression [.ref x0] s111 f112 (fun o s113 f114 => KP o (fun r => ∃ a115 : Nat, r = some (.ref a115) ∧ (oc f114 a1 28 ∧ f114.2.2.2 ≤ a1 ∧ ∀ f116 : RH, f116 = fset f114 a1 202 (.ref a115) → (oc f116 x0 11 ∧ (∃ a117 : Nat, vl f116 x0 147 = .ref a117 ∧ (oc f116 a117 2 ∧ EvC l E w d MX2_take [.ref a117, .int 59] s113 f116 (fun o s118 f119 => KP o (fun r => r = none ∧ Q (.inl (some (.ref a1))) s118 f119) (fun k => Q (.inr k) s118 f119))))))) (fun k => Q (.inr k) s113 f114)))) (fun k => Q (.inr k) s111 f112)))))) ∧ (¬ v109 = 0 → (oc f108 x0 11 ∧ (∃ a123 : Nat, vl f108 x0 147 = .ref a123 ∧ (oc f108 a123 2 ∧ (∃ v124 : Int32, vl f108 a123 21 = .int v124 ∧ (oc f108 a1 28 ∧ f108.2.2.2 ≤ a1 ∧ ∀ f125 : RH, f125 = fset f108 a1 199 (.int v124) → (oc f125 x0 11 ∧ (∃ a126 : Nat, vl f125 x0 147 = .ref a126 ∧ (oc f125 a126 2 ∧ EvC l E w d MX2_take [.ref a126, .int 91] s107 f125 (fun o s127 f128 => KP o (fun r => r = none ∧ (oc f128 x0 11 ∧ EvC l E w d MX11_expression [.ref x0] s127 f128 (fun o s129 f130 => KP o (fun r => ∃ a131 : Nat, r = some (.ref a131) ∧ (oc f130 a1 28 ∧ f130.2.2.2 ≤ a1 ∧ ∀ f132 : RH, f132 = fset f130 a1 201 (.ref a131) → (oc f132 x0 11 ∧ (∃ a133 : Nat, vl f132 x0 147 = .ref a133 ∧ (oc f132 a133 2 ∧ EvC l E w d MX2_take [.ref a133, .int 93] s129 f132 (fun o s134 f135 => KP o (fun r => r = none ∧ (oc f135 x0 11 ∧ (∃ a136 : Nat, vl f135 x0 147 = .ref a136 ∧ (oc f135 a136 2 ∧ EvC l E w d MX2_take [.ref a136, .int 61] s134 f135 (fun o s137 f138 => KP o (fun r => r = none ∧ (oc f138 x0 11 ∧ EvC l E w d MX11_expression [.ref x0] s137 f138 (fun o s139 f140 => KP o (fun r => ∃ a141 : Nat, r = some (.ref a141) ∧ (oc f140 a1 28 ∧ f140.2.2.2 ≤ a1 ∧ ∀ f142 : RH, f142 = fset f140 a1 202 (.ref a141) → (oc f142 x0 11 ∧ (∃ a143 : Nat, vl f142 x0 147 = .ref a143 ∧ (oc f142 a143 2 ∧ EvC l E w d MX2_take [.ref a143, .int 59] s139 f142 (fun o s144 f145 => KP o (fun r => r = none ∧ Q (.inl (some (.ref a1))) s144 f145) (fun k => Q (.inr k) s144 f145))))))) (fun k => Q (.inr k) s139 f140)))) (fun k => Q (.inr k) s137 f138)))))) (fun k => Q (.inr k) s134 f135))))))) (fun k => Q (.inr k) s129 f130)))) (fun k => Q (.inr k) s127 f128))))))))))))) (fun k => Q (.inr k) s107 f108)))))))))) (fun k => Q (.inr k) s89 f90))))))) (fun k => Q (.inr k) s84 f85)))) (fun k => Q (.inr k) s82 f83))))))))))))) (fun k => Q (.inr k) s13 f14))))))) (fun k => Q (.inr k) s8 f9))))))))) (fun k => Q (.inr k) s3 f4))))) : ExC l E w (d + 1) MX11_assign 0 [some (.ref x0), none] [] s f Q := by
  intro f0 h hW hF
  obtain ⟨hr, hT⟩ := hT
  refine c_newG (k := 28) dX11_assign_0 (by decide) q1241 q203 hr hW hF ?_
  intro a1 f2 ea1 ef2 h hW hF
  replace hT := hT a1 f2 ea1 ef2
  refine x_dup dX11_assign_3 rfl ?_
  refine c_invI (b := a1) (vs := []) dX11_assign_4 oX30_init rfl rfl rfl q1244 (Or.inr ⟨_, q1243⟩) rfl rfl (Nat.le_of_ble_eq_true rfl) rfl hW hF hT ?_ ?_
  · intro _ s3 f4 hT h hW hF
    obtain ⟨rfl, hT⟩ := hT
    refine x_astore_n (lo' := [some (.ref x0), some (.ref a1)]) dX11_assign_7 rfl (Nat.le_of_ble_eq_true rfl) rfl rfl ?_
    refine x_aload_n dX11_assign_8 rfl rfl rfl ?_
    refine x_aload_n dX11_assign_9 rfl rfl rfl ?_
    obtain ⟨hc, hT⟩ := hT
    obtain ⟨a5, ev, hT⟩ := hT
    refine c_fgetG dX11_assign_10 f_TallySlate_Reader_23 hc (by decide) (by decide) hW ev ?_
    obtain ⟨hc, hT⟩ := hT
    obtain ⟨v6, ev, hT⟩ := hT
    refine c_fgetG dX11_assign_13 f_TallySlate_Reader_45 hc (by decide) (by decide) hW ev ?_
    obtain ⟨hc, hz, hT⟩ := hT
    refine c_fputG dX11_assign_16 f_TallySlate_Reader_261 hc (by decide) (by decide) hz (Or.inl rfl) rfl rfl hW hF ?_
    intro f7 ef7 h hW hF
    replace hT := hT f7 ef7
    refine x_aload_n dX11_assign_19 rfl rfl rfl ?_
    refine x_aload_n dX11_assign_20 rfl rfl rfl ?_
    obtain ⟨hc, hT⟩ := hT
    obtain ⟨cc, hcc⟩ := hW.ocell hc
    refine c_invV (vs := []) dX11_assign_21 oX11_name q1071 q1069 hcc qs25 (Or.inl rfl) rfl rfl (Nat.le_of_ble_eq_true rfl) rfl hW hF hT ?_ ?_
    · intro _ s8 f9 hT h hW hF
      obtain ⟨v10, rfl, hT⟩ := hT
      obtain ⟨hc, hz, hT⟩ := hT
      refine c_fputG dX11_assign_24 f_TallySlate_Reader_262 hc (by decide) (by decide) hz (Or.inl rfl) rfl rfl hW hF ?_
      intro f11 ef11 h hW hF
      replace hT := hT f11 ef11
      refine x_aload_n dX11_assign_27 rfl rfl rfl ?_
      obtain ⟨hc, hT⟩ := hT
      obtain ⟨a12, ev, hT⟩ := hT
      refine c_fgetG dX11_assign_28 f_TallySlate_Reader_23 hc (by decide) (by decide) hW ev ?_
      refine x_bipush (v := 91) dX11_assign_31 rfl ?_
      obtain ⟨hc, hT⟩ := hT
      obtain ⟨cc, hcc⟩ := hW.ocell hc
      refine c_invV (vs := [.int 91]) dX11_assign_33 oX2_is q820 q824 hcc q821 (Or.inl rfl) rfl rfl (Nat.le_of_ble_eq_true rfl) rfl hW hF hT ?_ ?_
      · intro _ s13 f14 hT h hW hF
        obtain ⟨v15, rfl, hT⟩ := hT
        refine x_if_eq (tgt := 76) dX11_assign_36 rfl (fun c => ?_) (fun c => ?_)
        · replace hT := hT.1 c
          refine x_aload_n dX11_assign_76 rfl rfl rfl ?_
          obtain ⟨hc, hT⟩ := hT
          obtain ⟨v16, ev, iv16, hT⟩ := hT
          refine c_fgetG dX11_assign_77 f_TallySlate_Reader_266 hc (by decide) (by decide) hW ev ?_
          refine x_ifnull (tgt := 132) dX11_assign_80 rfl iv16 (fun e => ?_) (fun a17 e => ?_)
          · subst e
            replace hT := hT.1 rfl
            refine x_aload_n dX11_assign_132 rfl rfl rfl ?_
            obtain ⟨hc, hT⟩ := hT
            obtain ⟨a18, ev, hT⟩ := hT
            refine c_fgetG dX11_assign_133 f_TallySlate_Reader_23 hc (by decide) (by decide) hW ev ?_
            refine x_bipush (v := 61) dX11_assign_136 rfl ?_
            obtain ⟨hc, hT⟩ := hT
            obtain ⟨cc, hcc⟩ := hW.ocell hc
            refine c_invV (vs := [.int 61]) dX11_assign_138 oX2_take q816 q815 hcc q817 (Or.inl rfl) rfl rfl (Nat.le_of_ble_eq_true rfl) rfl hW hF hT ?_ ?_
            · intro _ s19 f20 hT h hW hF
              obtain ⟨rfl, hT⟩ := hT
              refine x_aload_n dX11_assign_141 rfl rfl rfl ?_
              refine x_aload_n dX11_assign_142 rfl rfl rfl ?_
              obtain ⟨hc, hT⟩ := hT
              obtain ⟨cc, hcc⟩ := hW.ocell hc
              refine c_invV (vs := []) dX11_assign_143 oX11_expression q893 q891 hcc qs14 (Or.inl rfl) rfl rfl (Nat.le_of_ble_eq_true rfl) rfl hW hF hT ?_ ?_
              · intro _ s21 f22 hT h hW hF
                obtain ⟨a23, rfl, hT⟩ := hT
                obtain ⟨hc, hz, hT⟩ := hT
                refine c_fputG dX11_assign_146 f_TallySlate_Reader_275 hc (by decide) (by decide) hz (Or.inl rfl) rfl rfl hW hF ?_
                intro f24 ef24 h hW hF
                replace hT := hT f24 ef24
                refine x_aload_n dX11_assign_149 rfl rfl rfl ?_
                obtain ⟨hc, hT⟩ := hT
                obtain ⟨a25, ev, hT⟩ := hT
                refine c_fgetG dX11_assign_150 f_TallySlate_Reader_23 hc (by decide) (by decide) hW ev ?_
                refine x_bipush (v := 59) dX11_assign_153 rfl ?_
                obtain ⟨hc, hT⟩ := hT
                obtain ⟨cc, hcc⟩ := hW.ocell hc
                refine c_invV (vs := [.int 59]) dX11_assign_155 oX2_take q816 q815 hcc q817 (Or.inl rfl) rfl rfl (Nat.le_of_ble_eq_true rfl) rfl hW hF hT ?_ ?_
                · intro _ s26 f27 hT h hW hF
                  obtain ⟨rfl, hT⟩ := hT
                  refine x_aload_n dX11_assign_158 rfl rfl rfl ?_
                  exact x_aret dX11_assign_159 rfl (by first | exact Or.inl ⟨_, rfl⟩ | exact Or.inr ⟨_, rfl⟩) rfl ⟨_, _, hW, hF, Or.inl ⟨_, rfl, hT⟩⟩
                · intro k s26 f27 hT h a hW hx hF
                  exact c_out (rfl) hW hx hF hT
              · intro k s21 f22 hT h a hW hx hF
                exact c_out (rfl) hW hx hF hT
            · intro k s19 f20 hT h a hW hx hF
              exact c_out (rfl) hW hx hF hT
          · subst e
            replace hT := hT.2 a17 rfl
            refine x_aload_n dX11_assign_83 rfl rfl rfl ?_
            obtain ⟨hc, hT⟩ := hT
            obtain ⟨a31, ev, hT⟩ := hT
            refine c_fgetG dX11_assign_84 f_TallySlate_Reader_23 hc (by decide) (by decide) hW ev ?_
            refine x_bipush (v := 91) dX11_assign_87 rfl ?_
            obtain ⟨hc, hT⟩ := hT
            obtain ⟨cc, hcc⟩ := hW.ocell hc
            refine c_invV (vs := [.int 91]) dX11_assign_89 oX2_is q820 q824 hcc q821 (Or.inl rfl) rfl rfl (Nat.le_of_ble_eq_true rfl) rfl hW hF hT ?_ ?_
            · intro _ s32 f33 hT h hW hF
              obtain ⟨v34, rfl, hT⟩ := hT
              refine x_if_eq (tgt := 132) dX11_assign_92 rfl (fun c => ?_) (fun c => ?_)
              · replace hT := hT.1 c
                refine x_aload_n dX11_assign_132 rfl rfl rfl ?_
                obtain ⟨hc, hT⟩ := hT
                obtain ⟨a35, ev, hT⟩ := hT
                refine c_fgetG dX11_assign_133 f_TallySlate_Reader_23 hc (by decide) (by decide) hW ev ?_
                refine x_bipush (v := 61) dX11_assign_136 rfl ?_
                obtain ⟨hc, hT⟩ := hT
                obtain ⟨cc, hcc⟩ := hW.ocell hc
                refine c_invV (vs := [.int 61]) dX11_assign_138 oX2_take q816 q815 hcc q817 (Or.inl rfl) rfl rfl (Nat.le_of_ble_eq_true rfl) rfl hW hF hT ?_ ?_
                · intro _ s36 f37 hT h hW hF
                  obtain ⟨rfl, hT⟩ := hT
                  refine x_aload_n dX11_assign_141 rfl rfl rfl ?_
                  refine x_aload_n dX11_assign_142 rfl rfl rfl ?_
                  obtain ⟨hc, hT⟩ := hT
                  obtain ⟨cc, hcc⟩ := hW.ocell hc
                  refine c_invV (vs := []) dX11_assign_143 oX11_expression q893 q891 hcc qs14 (Or.inl rfl) rfl rfl (Nat.le_of_ble_eq_true rfl) rfl hW hF hT ?_ ?_
                  · intro _ s38 f39 hT h hW hF
                    obtain ⟨a40, rfl, hT⟩ := hT
                    obtain ⟨hc, hz, hT⟩ := hT
                    refine c_fputG dX11_assign_146 f_TallySlate_Reader_275 hc (by decide) (by decide) hz (Or.inl rfl) rfl rfl hW hF ?_
                    intro f41 ef41 h hW hF
                    replace hT := hT f41 ef41
                    refine x_aload_n dX11_assign_149 rfl rfl rfl ?_
                    obtain ⟨hc, hT⟩ := hT
                    obtain ⟨a42, ev, hT⟩ := hT
                    refine c_fgetG dX11_assign_150 f_TallySlate_Reader_23 hc (by decide) (by decide) hW ev ?_
                    refine x_bipush (v := 59) dX11_assign_153 rfl ?_
                    obtain ⟨hc, hT⟩ := hT
                    obtain ⟨cc, hcc⟩ := hW.ocell hc
                    refine c_invV (vs := [.int 59]) dX11_assign_155 oX2_take q816 q815 hcc q817 (Or.inl rfl) rfl rfl (Nat.le_of_ble_eq_true rfl) rfl hW hF hT ?_ ?_
                    · intro _ s43 f44 hT h hW hF
                      obtain ⟨rfl, hT⟩ := hT
                      refine x_aload_n dX11_assign_158 rfl rfl rfl ?_
                      exact x_aret dX11_assign_159 rfl (by first | exact Or.inl ⟨_, rfl⟩ | exact Or.inr ⟨_, rfl⟩) rfl ⟨_, _, hW, hF, Or.inl ⟨_, rfl, hT⟩⟩
                    · intro k s43 f44 hT h a hW hx hF
                      exact c_out (rfl) hW hx hF hT
                  · intro k s38 f39 hT h a hW hx hF
                    exact c_out (rfl) hW hx hF hT
                · intro k s36 f37 hT h a hW hx hF
                  exact c_out (rfl) hW hx hF hT
              · replace hT := hT.2 c
                refine x_aload_n dX11_assign_95 rfl rfl rfl ?_
                refine x_aload_n dX11_assign_96 rfl rfl rfl ?_
                obtain ⟨hc, hT⟩ := hT
                obtain ⟨a48, ev, hT⟩ := hT
                refine c_fgetG dX11_assign_97 f_TallySlate_Reader_23 hc (by decide) (by decide) hW ev ?_
                obtain ⟨hc, hT⟩ := hT
                obtain ⟨v49, ev, hT⟩ := hT
                refine c_fgetG dX11_assign_100 f_TallySlate_Reader_45 hc (by decide) (by decide) hW ev ?_
                obtain ⟨hc, hz, hT⟩ := hT
                refine c_fputG dX11_assign_103 f_TallySlate_Reader_269 hc (by decide) (by decide) hz (Or.inl rfl) rfl rfl hW hF ?_
                intro f50 ef50 h hW hF
                replace hT := hT f50 ef50
                refine x_aload_n dX11_assign_106 rfl rfl rfl ?_
                obtain ⟨hc, hT⟩ := hT
                obtain ⟨a51, ev, hT⟩ := hT
                refine c_fgetG dX11_assign_107 f_TallySlate_Reader_23 hc (by decide) (by decide) hW ev ?_
                refine x_bipush (v := 91) dX11_assign_110 rfl ?_
                obtain ⟨hc, hT⟩ := hT
                obtain ⟨cc, hcc⟩ := hW.ocell hc
                refine c_invV (vs := [.int 91]) dX11_assign_112 oX2_take q816 q815 hcc q817 (Or.inl rfl) rfl rfl (Nat.le_of_ble_eq_true rfl) rfl hW hF hT ?_ ?_
                · intro _ s52 f53 hT h hW hF
                  obtain ⟨rfl, hT⟩ := hT
                  refine x_aload_n dX11_assign_115 rfl rfl rfl ?_
                  refine x_aload_n dX11_assign_116 rfl rfl rfl ?_
                  obtain ⟨hc, hT⟩ := hT
                  obtain ⟨cc, hcc⟩ := hW.ocell hc
                  refine c_invV (vs := []) dX11_assign_117 oX11_expression q893 q891 hcc qs14 (Or.inl rfl) rfl rfl (Nat.le_of_ble_eq_true rfl) rfl hW hF hT ?_ ?_
                  · intro _ s54 f55 hT h hW hF
                    obtain ⟨a56, rfl, hT⟩ := hT
                    obtain ⟨hc, hz, hT⟩ := hT
                    refine c_fputG dX11_assign_120 f_TallySlate_Reader_272 hc (by decide) (by decide) hz (Or.inl rfl) rfl rfl hW hF ?_
                    intro f57 ef57 h hW hF
                    replace hT := hT f57 ef57
                    refine x_aload_n dX11_assign_123 rfl rfl rfl ?_
                    obtain ⟨hc, hT⟩ := hT
                    obtain ⟨a58, ev, hT⟩ := hT
                    refine c_fgetG dX11_assign_124 f_TallySlate_Reader_23 hc (by decide) (by decide) hW ev ?_
                    refine x_bipush (v := 93) dX11_assign_127 rfl ?_
                    obtain ⟨hc, hT⟩ := hT
                    obtain ⟨cc, hcc⟩ := hW.ocell hc
                    refine c_invV (vs := [.int 93]) dX11_assign_129 oX2_take q816 q815 hcc q817 (Or.inl rfl) rfl rfl (Nat.le_of_ble_eq_true rfl) rfl hW hF hT ?_ ?_
                    · intro _ s59 f60 hT h hW hF
                      obtain ⟨rfl, hT⟩ := hT
                      refine x_aload_n dX11_assign_132 rfl rfl rfl ?_
                      obtain ⟨hc, hT⟩ := hT
                      obtain ⟨a61, ev, hT⟩ := hT
                      refine c_fgetG dX11_assign_133 f_TallySlate_Reader_23 hc (by decide) (by decide) hW ev ?_
                      refine x_bipush (v := 61) dX11_assign_136 rfl ?_
                      obtain ⟨hc, hT⟩ := hT
                      obtain ⟨cc, hcc⟩ := hW.ocell hc
                      refine c_invV (vs := [.int 61]) dX11_assign_138 oX2_take q816 q815 hcc q817 (Or.inl rfl) rfl rfl (Nat.le_of_ble_eq_true rfl) rfl hW hF hT ?_ ?_
                      · intro _ s62 f63 hT h hW hF
                        obtain ⟨rfl, hT⟩ := hT
                        refine x_aload_n dX11_assign_141 rfl rfl rfl ?_
                        refine x_aload_n dX11_assign_142 rfl rfl rfl ?_
                        obtain ⟨hc, hT⟩ := hT
                        obtain ⟨cc, hcc⟩ := hW.ocell hc
                        refine c_invV (vs := []) dX11_assign_143 oX11_expression q893 q891 hcc qs14 (Or.inl rfl) rfl rfl (Nat.le_of_ble_eq_true rfl) rfl hW hF hT ?_ ?_
                        · intro _ s64 f65 hT h hW hF
                          obtain ⟨a66, rfl, hT⟩ := hT
                          obtain ⟨hc, hz, hT⟩ := hT
                          refine c_fputG dX11_assign_146 f_TallySlate_Reader_275 hc (by decide) (by decide) hz (Or.inl rfl) rfl rfl hW hF ?_
                          intro f67 ef67 h hW hF
                          replace hT := hT f67 ef67
                          refine x_aload_n dX11_assign_149 rfl rfl rfl ?_
                          obtain ⟨hc, hT⟩ := hT
                          obtain ⟨a68, ev, hT⟩ := hT
                          refine c_fgetG dX11_assign_150 f_TallySlate_Reader_23 hc (by decide) (by decide) hW ev ?_
                          refine x_bipush (v := 59) dX11_assign_153 rfl ?_
                          obtain ⟨hc, hT⟩ := hT
                          obtain ⟨cc, hcc⟩ := hW.ocell hc
                          refine c_invV (vs := [.int 59]) dX11_assign_155 oX2_take q816 q815 hcc q817 (Or.inl rfl) rfl rfl (Nat.le_of_ble_eq_true rfl) rfl hW hF hT ?_ ?_
                          · intro _ s69 f70 hT h hW hF
                            obtain ⟨rfl, hT⟩ := hT
                            refine x_aload_n dX11_assign_158 rfl rfl rfl ?_
                            exact x_aret dX11_assign_159 rfl (by first | exact Or.inl ⟨_, rfl⟩ | exact Or.inr ⟨_, rfl⟩) rfl ⟨_, _, hW, hF, Or.inl ⟨_, rfl, hT⟩⟩
                          · intro k s69 f70 hT h a hW hx hF
                            exact c_out (rfl) hW hx hF hT
                        · intro k s64 f65 hT h a hW hx hF
                          exact c_out (rfl) hW hx hF hT
                      · intro k s62 f63 hT h a hW hx hF
                        exact c_out (rfl) hW hx hF hT
                    · intro k s59 f60 hT h a hW hx hF
                      exact c_out (rfl) hW hx hF hT
                  · intro k s54 f55 hT h a hW hx hF
                    exact c_out (rfl) hW hx hF hT
                · intro k s52 f53 hT h a hW hx hF
                  exact c_out (rfl) hW hx hF hT
            · intro k s32 f33 hT h a hW hx hF
              exact c_out (rfl) hW hx hF hT
        · replace hT := hT.2 c
          refine x_aload_n dX11_assign_39 rfl rfl rfl ?_
          refine x_aload_n dX11_assign_40 rfl rfl rfl ?_
          obtain ⟨hc, hT⟩ := hT
          obtain ⟨a78, ev, hT⟩ := hT
          refine c_fgetG dX11_assign_41 f_TallySlate_Reader_23 hc (by decide) (by decide) hW ev ?_
          obtain ⟨hc, hT⟩ := hT
          obtain ⟨v79, ev, hT⟩ := hT
          refine c_fgetG dX11_assign_44 f_TallySlate_Reader_45 hc (by decide) (by decide) hW ev ?_
          obtain ⟨hc, hz, hT⟩ := hT
          refine c_fputG dX11_assign_47 f_TallySlate_Reader_263 hc (by decide) (by decide) hz (Or.inl rfl) rfl rfl hW hF ?_
          intro f80 ef80 h hW hF
          replace hT := hT f80 ef80
          refine x_aload_n dX11_assign_50 rfl rfl rfl ?_
          obtain ⟨hc, hT⟩ := hT
          obtain ⟨a81, ev, hT⟩ := hT
          refine c_fgetG dX11_assign_51 f_TallySlate_Reader_23 hc (by decide) (by decide) hW ev ?_
          refine x_bipush (v := 91) dX11_assign_54 rfl ?_
          obtain ⟨hc, hT⟩ := hT
          obtain ⟨cc, hcc⟩ := hW.ocell hc
          refine c_invV (vs := [.int 91]) dX11_assign_56 oX2_take q816 q815 hcc q817 (Or.inl rfl) rfl rfl (Nat.le_of_ble_eq_true rfl) rfl hW hF hT ?_ ?_
          · intro _ s82 f83 hT h hW hF
            obtain ⟨rfl, hT⟩ := hT
            refine x_aload_n dX11_assign_59 rfl rfl rfl ?_
            refine x_aload_n dX11_assign_60 rfl rfl rfl ?_
            obtain ⟨hc, hT⟩ := hT
            obtain ⟨cc, hcc⟩ := hW.ocell hc
            refine c_invV (vs := []) dX11_assign_61 oX11_expression q893 q891 hcc qs14 (Or.inl rfl) rfl rfl (Nat.le_of_ble_eq_true rfl) rfl hW hF hT ?_ ?_
            · intro _ s84 f85 hT h hW hF
              obtain ⟨a86, rfl, hT⟩ := hT
              obtain ⟨hc, hz, hT⟩ := hT
              refine c_fputG dX11_assign_64 f_TallySlate_Reader_266 hc (by decide) (by decide) hz (Or.inl rfl) rfl rfl hW hF ?_
              intro f87 ef87 h hW hF
              replace hT := hT f87 ef87
              refine x_aload_n dX11_assign_67 rfl rfl rfl ?_
              obtain ⟨hc, hT⟩ := hT
              obtain ⟨a88, ev, hT⟩ := hT
              refine c_fgetG dX11_assign_68 f_TallySlate_Reader_23 hc (by decide) (by decide) hW ev ?_
              refine x_bipush (v := 93) dX11_assign_71 rfl ?_
              obtain ⟨hc, hT⟩ := hT
              obtain ⟨cc, hcc⟩ := hW.ocell hc
              refine c_invV (vs := [.int 93]) dX11_assign_73 oX2_take q816 q815 hcc q817 (Or.inl rfl) rfl rfl (Nat.le_of_ble_eq_true rfl) rfl hW hF hT ?_ ?_
              · intro _ s89 f90 hT h hW hF
                obtain ⟨rfl, hT⟩ := hT
                refine x_aload_n dX11_assign_76 rfl rfl rfl ?_
                obtain ⟨hc, hT⟩ := hT
                obtain ⟨v91, ev, iv91, hT⟩ := hT
                refine c_fgetG dX11_assign_77 f_TallySlate_Reader_266 hc (by decide) (by decide) hW ev ?_
                refine x_ifnull (tgt := 132) dX11_assign_80 rfl iv91 (fun e => ?_) (fun a92 e => ?_)
                · subst e
                  replace hT := hT.1 rfl
                  refine x_aload_n dX11_assign_132 rfl rfl rfl ?_
                  obtain ⟨hc, hT⟩ := hT
                  obtain ⟨a93, ev, hT⟩ := hT
                  refine c_fgetG dX11_assign_133 f_TallySlate_Reader_23 hc (by decide) (by decide) hW ev ?_
                  refine x_bipush (v := 61) dX11_assign_136 rfl ?_
                  obtain ⟨hc, hT⟩ := hT
                  obtain ⟨cc, hcc⟩ := hW.ocell hc
                  refine c_invV (vs := [.int 61]) dX11_assign_138 oX2_take q816 q815 hcc q817 (Or.inl rfl) rfl rfl (Nat.le_of_ble_eq_true rfl) rfl hW hF hT ?_ ?_
                  · intro _ s94 f95 hT h hW hF
                    obtain ⟨rfl, hT⟩ := hT
                    refine x_aload_n dX11_assign_141 rfl rfl rfl ?_
                    refine x_aload_n dX11_assign_142 rfl rfl rfl ?_
                    obtain ⟨hc, hT⟩ := hT
                    obtain ⟨cc, hcc⟩ := hW.ocell hc
                    refine c_invV (vs := []) dX11_assign_143 oX11_expression q893 q891 hcc qs14 (Or.inl rfl) rfl rfl (Nat.le_of_ble_eq_true rfl) rfl hW hF hT ?_ ?_
                    · intro _ s96 f97 hT h hW hF
                      obtain ⟨a98, rfl, hT⟩ := hT
                      obtain ⟨hc, hz, hT⟩ := hT
                      refine c_fputG dX11_assign_146 f_TallySlate_Reader_275 hc (by decide) (by decide) hz (Or.inl rfl) rfl rfl hW hF ?_
                      intro f99 ef99 h hW hF
                      replace hT := hT f99 ef99
                      refine x_aload_n dX11_assign_149 rfl rfl rfl ?_
                      obtain ⟨hc, hT⟩ := hT
                      obtain ⟨a100, ev, hT⟩ := hT
                      refine c_fgetG dX11_assign_150 f_TallySlate_Reader_23 hc (by decide) (by decide) hW ev ?_
                      refine x_bipush (v := 59) dX11_assign_153 rfl ?_
                      obtain ⟨hc, hT⟩ := hT
                      obtain ⟨cc, hcc⟩ := hW.ocell hc
                      refine c_invV (vs := [.int 59]) dX11_assign_155 oX2_take q816 q815 hcc q817 (Or.inl rfl) rfl rfl (Nat.le_of_ble_eq_true rfl) rfl hW hF hT ?_ ?_
                      · intro _ s101 f102 hT h hW hF
                        obtain ⟨rfl, hT⟩ := hT
                        refine x_aload_n dX11_assign_158 rfl rfl rfl ?_
                        exact x_aret dX11_assign_159 rfl (by first | exact Or.inl ⟨_, rfl⟩ | exact Or.inr ⟨_, rfl⟩) rfl ⟨_, _, hW, hF, Or.inl ⟨_, rfl, hT⟩⟩
                      · intro k s101 f102 hT h a hW hx hF
                        exact c_out (rfl) hW hx hF hT
                    · intro k s96 f97 hT h a hW hx hF
                      exact c_out (rfl) hW hx hF hT
                  · intro k s94 f95 hT h a hW hx hF
                    exact c_out (rfl) hW hx hF hT
                · subst e
                  replace hT := hT.2 a92 rfl
                  refine x_aload_n dX11_assign_83 rfl rfl rfl ?_
                  obtain ⟨hc, hT⟩ := hT
                  obtain ⟨a106, ev, hT⟩ := hT
                  refine c_fgetG dX11_assign_84 f_TallySlate_Reader_23 hc (by decide) (by decide) hW ev ?_
                  refine x_bipush (v := 91) dX11_assign_87 rfl ?_
                  obtain ⟨hc, hT⟩ := hT
                  obtain ⟨cc, hcc⟩ := hW.ocell hc
                  refine c_invV (vs := [.int 91]) dX11_assign_89 oX2_is q820 q824 hcc q821 (Or.inl rfl) rfl rfl (Nat.le_of_ble_eq_true rfl) rfl hW hF hT ?_ ?_
                  · intro _ s107 f108 hT h hW hF
                    obtain ⟨v109, rfl, hT⟩ := hT
                    refine x_if_eq (tgt := 132) dX11_assign_92 rfl (fun c => ?_) (fun c => ?_)
                    · replace hT := hT.1 c
                      refine x_aload_n dX11_assign_132 rfl rfl rfl ?_
                      obtain ⟨hc, hT⟩ := hT
                      obtain ⟨a110, ev, hT⟩ := hT
                      refine c_fgetG dX11_assign_133 f_TallySlate_Reader_23 hc (by decide) (by decide) hW ev ?_
                      refine x_bipush (v := 61) dX11_assign_136 rfl ?_
                      obtain ⟨hc, hT⟩ := hT
                      obtain ⟨cc, hcc⟩ := hW.ocell hc
                      refine c_invV (vs := [.int 61]) dX11_assign_138 oX2_take q816 q815 hcc q817 (Or.inl rfl) rfl rfl (Nat.le_of_ble_eq_true rfl) rfl hW hF hT ?_ ?_
                      · intro _ s111 f112 hT h hW hF
                        obtain ⟨rfl, hT⟩ := hT
                        refine x_aload_n dX11_assign_141 rfl rfl rfl ?_
                        refine x_aload_n dX11_assign_142 rfl rfl rfl ?_
                        obtain ⟨hc, hT⟩ := hT
                        obtain ⟨cc, hcc⟩ := hW.ocell hc
                        refine c_invV (vs := []) dX11_assign_143 oX11_expression q893 q891 hcc qs14 (Or.inl rfl) rfl rfl (Nat.le_of_ble_eq_true rfl) rfl hW hF hT ?_ ?_
                        · intro _ s113 f114 hT h hW hF
                          obtain ⟨a115, rfl, hT⟩ := hT
                          obtain ⟨hc, hz, hT⟩ := hT
                          refine c_fputG dX11_assign_146 f_TallySlate_Reader_275 hc (by decide) (by decide) hz (Or.inl rfl) rfl rfl hW hF ?_
                          intro f116 ef116 h hW hF
                          replace hT := hT f116 ef116
                          refine x_aload_n dX11_assign_149 rfl rfl rfl ?_
                          obtain ⟨hc, hT⟩ := hT
                          obtain ⟨a117, ev, hT⟩ := hT
                          refine c_fgetG dX11_assign_150 f_TallySlate_Reader_23 hc (by decide) (by decide) hW ev ?_
                          refine x_bipush (v := 59) dX11_assign_153 rfl ?_
                          obtain ⟨hc, hT⟩ := hT
                          obtain ⟨cc, hcc⟩ := hW.ocell hc
                          refine c_invV (vs := [.int 59]) dX11_assign_155 oX2_take q816 q815 hcc q817 (Or.inl rfl) rfl rfl (Nat.le_of_ble_eq_true rfl) rfl hW hF hT ?_ ?_
                          · intro _ s118 f119 hT h hW hF
                            obtain ⟨rfl, hT⟩ := hT
                            refine x_aload_n dX11_assign_158 rfl rfl rfl ?_
                            exact x_aret dX11_assign_159 rfl (by first | exact Or.inl ⟨_, rfl⟩ | exact Or.inr ⟨_, rfl⟩) rfl ⟨_, _, hW, hF, Or.inl ⟨_, rfl, hT⟩⟩
                          · intro k s118 f119 hT h a hW hx hF
                            exact c_out (rfl) hW hx hF hT
                        · intro k s113 f114 hT h a hW hx hF
                          exact c_out (rfl) hW hx hF hT
                      · intro k s111 f112 hT h a hW hx hF
                        exact c_out (rfl) hW hx hF hT
                    · replace hT := hT.2 c
                      refine x_aload_n dX11_assign_95 rfl rfl rfl ?_
                      refine x_aload_n dX11_assign_96 rfl rfl rfl ?_
                      obtain ⟨hc, hT⟩ := hT
                      obtain ⟨a123, ev, hT⟩ := hT
                      refine c_fgetG dX11_assign_97 f_TallySlate_Reader_23 hc (by decide) (by decide) hW ev ?_
                      obtain ⟨hc, hT⟩ := hT
                      obtain ⟨v124, ev, hT⟩ := hT
                      refine c_fgetG dX11_assign_100 f_TallySlate_Reader_45 hc (by decide) (by decide) hW ev ?_
                      obtain ⟨hc, hz, hT⟩ := hT
                      refine c_fputG dX11_assign_103 f_TallySlate_Reader_269 hc (by decide) (by decide) hz (Or.inl rfl) rfl rfl hW hF ?_
                      intro f125 ef125 h hW hF
                      replace hT := hT f125 ef125
                      refine x_aload_n dX11_assign_106 rfl rfl rfl ?_
                      obtain ⟨hc, hT⟩ := hT
                      obtain ⟨a126, ev, hT⟩ := hT
                      refine c_fgetG dX11_assign_107 f_TallySlate_Reader_23 hc (by decide) (by decide) hW ev ?_
                      refine x_bipush (v := 91) dX11_assign_110 rfl ?_
                      obtain ⟨hc, hT⟩ := hT
                      obtain ⟨cc, hcc⟩ := hW.ocell hc
                      refine c_invV (vs := [.int 91]) dX11_assign_112 oX2_take q816 q815 hcc q817 (Or.inl rfl) rfl rfl (Nat.le_of_ble_eq_true rfl) rfl hW hF hT ?_ ?_
                      · intro _ s127 f128 hT h hW hF
                        obtain ⟨rfl, hT⟩ := hT
                        refine x_aload_n dX11_assign_115 rfl rfl rfl ?_
                        refine x_aload_n dX11_assign_116 rfl rfl rfl ?_
                        obtain ⟨hc, hT⟩ := hT
                        obtain ⟨cc, hcc⟩ := hW.ocell hc
                        refine c_invV (vs := []) dX11_assign_117 oX11_expression q893 q891 hcc qs14 (Or.inl rfl) rfl rfl (Nat.le_of_ble_eq_true rfl) rfl hW hF hT ?_ ?_
                        · intro _ s129 f130 hT h hW hF
                          obtain ⟨a131, rfl, hT⟩ := hT
                          obtain ⟨hc, hz, hT⟩ := hT
                          refine c_fputG dX11_assign_120 f_TallySlate_Reader_272 hc (by decide) (by decide) hz (Or.inl rfl) rfl rfl hW hF ?_
                          intro f132 ef132 h hW hF
                          replace hT := hT f132 ef132
                          refine x_aload_n dX11_assign_123 rfl rfl rfl ?_
                          obtain ⟨hc, hT⟩ := hT
                          obtain ⟨a133, ev, hT⟩ := hT
                          refine c_fgetG dX11_assign_124 f_TallySlate_Reader_23 hc (by decide) (by decide) hW ev ?_
                          refine x_bipush (v := 93) dX11_assign_127 rfl ?_
                          obtain ⟨hc, hT⟩ := hT
                          obtain ⟨cc, hcc⟩ := hW.ocell hc
                          refine c_invV (vs := [.int 93]) dX11_assign_129 oX2_take q816 q815 hcc q817 (Or.inl rfl) rfl rfl (Nat.le_of_ble_eq_true rfl) rfl hW hF hT ?_ ?_
                          · intro _ s134 f135 hT h hW hF
                            obtain ⟨rfl, hT⟩ := hT
                            refine x_aload_n dX11_assign_132 rfl rfl rfl ?_
                            obtain ⟨hc, hT⟩ := hT
                            obtain ⟨a136, ev, hT⟩ := hT
                            refine c_fgetG dX11_assign_133 f_TallySlate_Reader_23 hc (by decide) (by decide) hW ev ?_
                            refine x_bipush (v := 61) dX11_assign_136 rfl ?_
                            obtain ⟨hc, hT⟩ := hT
                            obtain ⟨cc, hcc⟩ := hW.ocell hc
                            refine c_invV (vs := [.int 61]) dX11_assign_138 oX2_take q816 q815 hcc q817 (Or.inl rfl) rfl rfl (Nat.le_of_ble_eq_true rfl) rfl hW hF hT ?_ ?_
                            · intro _ s137 f138 hT h hW hF
                              obtain ⟨rfl, hT⟩ := hT
                              refine x_aload_n dX11_assign_141 rfl rfl rfl ?_
                              refine x_aload_n dX11_assign_142 rfl rfl rfl ?_
                              obtain ⟨hc, hT⟩ := hT
                              obtain ⟨cc, hcc⟩ := hW.ocell hc
                              refine c_invV (vs := []) dX11_assign_143 oX11_expression q893 q891 hcc qs14 (Or.inl rfl) rfl rfl (Nat.le_of_ble_eq_true rfl) rfl hW hF hT ?_ ?_
                              · intro _ s139 f140 hT h hW hF
                                obtain ⟨a141, rfl, hT⟩ := hT
                                obtain ⟨hc, hz, hT⟩ := hT
                                refine c_fputG dX11_assign_146 f_TallySlate_Reader_275 hc (by decide) (by decide) hz (Or.inl rfl) rfl rfl hW hF ?_
                                intro f142 ef142 h hW hF
                                replace hT := hT f142 ef142
                                refine x_aload_n dX11_assign_149 rfl rfl rfl ?_
                                obtain ⟨hc, hT⟩ := hT
                                obtain ⟨a143, ev, hT⟩ := hT
                                refine c_fgetG dX11_assign_150 f_TallySlate_Reader_23 hc (by decide) (by decide) hW ev ?_
                                refine x_bipush (v := 59) dX11_assign_153 rfl ?_
                                obtain ⟨hc, hT⟩ := hT
                                obtain ⟨cc, hcc⟩ := hW.ocell hc
                                refine c_invV (vs := [.int 59]) dX11_assign_155 oX2_take q816 q815 hcc q817 (Or.inl rfl) rfl rfl (Nat.le_of_ble_eq_true rfl) rfl hW hF hT ?_ ?_
                                · intro _ s144 f145 hT h hW hF
                                  obtain ⟨rfl, hT⟩ := hT
                                  refine x_aload_n dX11_assign_158 rfl rfl rfl ?_
                                  exact x_aret dX11_assign_159 rfl (by first | exact Or.inl ⟨_, rfl⟩ | exact Or.inr ⟨_, rfl⟩) rfl ⟨_, _, hW, hF, Or.inl ⟨_, rfl, hT⟩⟩
                                · intro k s144 f145 hT h a hW hx hF
                                  exact c_out (rfl) hW hx hF hT
                              · intro k s139 f140 hT h a hW hx hF
                                exact c_out (rfl) hW hx hF hT
                            · intro k s137 f138 hT h a hW hx hF
                              exact c_out (rfl) hW hx hF hT
                          · intro k s134 f135 hT h a hW hx hF
                            exact c_out (rfl) hW hx hF hT
                        · intro k s129 f130 hT h a hW hx hF
                          exact c_out (rfl) hW hx hF hT
                      · intro k s127 f128 hT h a hW hx hF
                        exact c_out (rfl) hW hx hF hT
                  · intro k s107 f108 hT h a hW hx hF
                    exact c_out (rfl) hW hx hF hT
              · intro k s89 f90 hT h a hW hx hF
                exact c_out (rfl) hW hx hF hT
            · intro k s84 f85 hT h a hW hx hF
              exact c_out (rfl) hW hx hF hT
          · intro k s82 f83 hT h a hW hx hF
            exact c_out (rfl) hW hx hF hT
      · intro k s13 f14 hT h a hW hx hF
        exact c_out (rfl) hW hx hF hT
    · intro k s8 f9 hT h a hW hx hF
      exact c_out (rfl) hW hx hF hT
  · intro k s3 f4 hT h a hW hx hF
    exact c_out (rfl) hW hx hF hT
theorem eX11_assign {l : Launch} {E : EN} {w : CO} {d : Nat} {s : CS} {f : RH} {Q : KO → CS → RH → Prop} {x0 : Nat}  (hst : l.stackTraces = false) (hT : (rmF E f 1 8 ∧ ∀ (a1 : Nat) (f2 : RH), a1 = f.1 → f2 = fnew f 28 → (EvC l E w d MX30_init [.ref a1] s f2 (fun o s3 f4 => KP o (fun r => r = none ∧ (oc f4 x0 11 ∧ (∃ a5 : Nat, vl f4 x0 147 = .ref a5 ∧ (oc f4 a5 2 ∧ (∃ v6 : Int32, vl f4 a5 21 = .int v6 ∧ (oc f4 a1 28 ∧ f4.2.2.2 ≤ a1 ∧ ∀ f7 : RH, f7 = fset f4 a1 197 (.int v6) → (oc f7 x0 11 ∧ EvC l E w d MX11_name [.ref x0] s3 f7 (fun o s8 f9 => KP o (fun r => ∃ v10 : Int32, r = some (.int v10) ∧ (oc f9 a1 28 ∧ f9.2.2.2 ≤ a1 ∧ ∀ f11 : RH, f11 = fset f9 a1 196 (.int v10) → (oc f11 x0 11 ∧ (∃ a12 : Nat, vl f11 x0 147 = .ref a12 ∧ (oc f11 a12 2 ∧ EvC l E w d MX2_is [.ref a12, .int 91] s8 f11 (fun o s13 f14 => KP o (fun r => ∃ v15 : Int32, r = some (.int v15) ∧ ((v15 = 0 → (oc f14 a1 28 ∧ (∃ v16 : Value, vl f14 a1 200 = v16 ∧ isR v16 = true ∧ ((v16 = .null → (oc f14 x0 11 ∧ (∃ a18 : Nat, vl f14 x0 147 = .ref a18 ∧ (oc f14 a18 2 ∧ EvC l E w d MX2_take [.ref a18, .int 61] s13 f14 (fun o s19 f20 => KP o (fun r => r = none ∧ (oc f20 x0 11 ∧ EvC l E w d MX11_expression [.ref x0] s19 f20 (fun o s21 f22 => KP o (fun r => ∃ a23 : Nat, r = some (.ref a23) ∧ (oc f22 a1 28 ∧ f22.2.2.2 ≤ a1 ∧ ∀ f24 : RH, f24 = fset f22 a1 202 (.ref a23) → (oc f24 x0 11 ∧ (∃ a25 : Nat, vl f24 x0 147 = .ref a25 ∧ (oc f24 a25 2 ∧ EvC l E w d MX2_take [.ref a25, .int 59] s21 f24 (fun o s26 f27 => KP o (fun r => r = none ∧ Q (.inl (some (.ref a1))) s26 f27) (fun k => Q (.inr k) s26 f27))))))) (fun k => Q (.inr k) s21 f22)))) (fun k => Q (.inr k) s19 f20)))))) ∧ (∀ a17 : Nat, v16 = .ref a17 → (oc f14 x0 11 ∧ (∃ a31 : Nat, vl f14 x0 147 = .ref a31 ∧ (oc f14 a31 2 ∧ EvC l E w d MX2_is [.ref a31, .int 91] s13 f14 (fun o s32 f33 => KP o (fun r => ∃ v34 : Int32, r = some (.int v34) ∧ ((v34 = 0 → (oc f33 x0 11 ∧ (∃ a35 : Nat, vl f33 x0 147 = .ref a35 ∧ (oc f33 a35 2 ∧ EvC l E w d MX2_take [.ref a35, .int 61] s32 f33 (fun o s36 f37 => KP o (fun r => r = none ∧ (oc f37 x0 11 ∧ EvC l E w d MX11_expression [.ref x0] s36 f37 (fun o s38 f39 => KP o (fun r => ∃ a40 : Nat, r = some (.ref a40) ∧ (oc f39 a1 28 ∧ f39.2.2.2 ≤ a1 ∧ ∀ f41 : RH, f41 = fset f39 a1 202 (.ref a40) → (oc f41 x0 11 ∧ (∃ a42 : Nat, vl f41 x0 147 = .ref a42 ∧ (oc f41 a42 2 ∧ EvC l E w d MX2_take [.ref a42, .int 59] s38 f41 (fun o s43 f44 => KP o (fun r => r = none ∧ Q (.inl (some (.ref a1))) s43 f44) (fun k => Q (.inr k) s43 f44))))))) (fun k => Q (.inr k) s38 f39)))) (fun k => Q (.inr k) s36 f37)))))) ∧ (¬ v34 = 0 → (oc f33 x0 11 ∧ (∃ a48 : Nat, vl f33 x0 147 = .ref a48 ∧ (oc f33 a48 2 ∧ (∃ v49 : Int32, vl f33 a48 21 = .int v49 ∧ (oc f33 a1 28 ∧ f33.2.2.2 ≤ a1 ∧ ∀ f50 : RH, f50 = fset f33 a1 199 (.int v49) → (oc f50 x0 11 ∧ (∃ a51 : Nat, vl f50 x0 147 = .ref a51 ∧ (oc f50 a51 2 ∧ EvC l E w d MX2_take [.ref a51, .int 91] s32 f50 (fun o s52 f53 => KP o (fun r => r = none ∧ (oc f53 x0 11 ∧ EvC l E w d MX11_expression [.ref x0] s52 f53 (fun o s54 f55 => KP o (fun r => ∃ a56 : Nat, r = some (.ref a56) ∧ (oc f55 a1 28 ∧ f55.2.2.2 ≤ a1 ∧ ∀ f57 : RH, f57 = fset f55 a1 201 (.ref a56) → (oc f57 x0 11 ∧ (∃ a58 : Nat, vl f57 x0 147 = .ref a58 ∧ (oc f57 a58 2 ∧ EvC l E w d MX2_take [.ref a58, .int 93] s54 f57 (fun o s59 f60 => KP o (fun r => r = none ∧ (oc f60 x0 11 ∧ (∃ a61 : Nat, vl f60 x0 147 = .ref a61 ∧ (oc f60 a61 2 ∧ EvC l E w d MX2_take [.ref a61, .int 61] s59 f60 (fun o s62 f63 => KP o (fun r => r = none ∧ (oc f63 x0 11 ∧ EvC l E w d MX11_expression [.ref x0] s62 f63 (fun o s64 f65 => KP o (fun r => ∃ a66 : Nat, r = some (.ref a66) ∧ (oc f65 a1 28 ∧ f65.2.2.2 ≤ a1 ∧ ∀ f67 : RH, f67 = fset f65 a1 202 (.ref a66) → (oc f67 x0 11 ∧ (∃ a68 : Nat, vl f67 x0 147 = .ref a68 ∧ (oc f67 a68 2 ∧ EvC l E w d MX2_take [.ref a68, .int 59] s64 f67 (fun o s69 f70 => KP o (fun r => r = none ∧ Q (.inl (some (.ref a1))) s69 f70) (fun k => Q (.inr k) s69 f70))))))) (fun k => Q (.inr k) s64 f65)))) (fun k => Q (.inr k) s62 f63)))))) (fun k => Q (.inr k) s59 f60))))))) (fun k => Q (.inr k) s54 f55)))) (fun k => Q (.inr k) s52 f53))))))))))))) (fun k => Q (.inr k) s32 f33)))))))))) ∧ (¬ v15 = 0 → (oc f14 x0 11 ∧ (∃ a78 : Nat, vl f14 x0 147 = .ref a78 ∧ (oc f14 a78 2 ∧ (∃ v79 : Int32, vl f14 a78 21 = .int v79 ∧ (oc f14 a1 28 ∧ f14.2.2.2 ≤ a1 ∧ ∀ f80 : RH, f80 = fset f14 a1 198 (.int v79) → (oc f80 x0 11 ∧ (∃ a81 : Nat, vl f80 x0 147 = .ref a81 ∧ (oc f80 a81 2 ∧ EvC l E w d MX2_take [.ref a81, .int 91] s13 f80 (fun o s82 f83 => KP o (fun r => r = none ∧ (oc f83 x0 11 ∧ EvC l E w d MX11_expression [.ref x0] s82 f83 (fun o s84 f85 => KP o (fun r => ∃ a86 : Nat, r = some (.ref a86) ∧ (oc f85 a1 28 ∧ f85.2.2.2 ≤ a1 ∧ ∀ f87 : RH, f87 = fset f85 a1 200 (.ref a86) → (oc f87 x0 11 ∧ (∃ a88 : Nat, vl f87 x0 147 = .ref a88 ∧ (oc f87 a88 2 ∧ EvC l E w d MX2_take [.ref a88, .int 93] s84 f87 (fun o s89 f90 => KP o (fun r => r = none ∧ (oc f90 a1 28 ∧ (∃ v91 : Value, vl f90 a1 200 = v91 ∧ isR v91 = true ∧ ((v91 = .null → (oc f90 x0 11 ∧ (∃ a93 : Nat, vl f90 x0 147 = .ref a93 ∧ (oc f90 a93 2 ∧ EvC l E w d MX2_take [.ref a93, .int 61] s89 f90 (fun o s94 f95 => KP o (fun r => r = none ∧ (oc f95 x0 11 ∧ EvC l E w d MX11_expression [.ref x0] s94 f95 (fun o s96 f97 => KP o (fun r => ∃ a98 : Nat, r = some (.ref a98) ∧ (oc f97 a1 28 ∧ f97.2.2.2 ≤ a1 ∧ ∀ f99 : RH, f99 = fset f97 a1 202 (.ref a98) → (oc f99 x0 11 ∧ (∃ a100 : Nat, vl f99 x0 147 = .ref a100 ∧ (oc f99 a100 2 ∧ EvC l E w d MX2_take [.ref a100, .int 59] s96 f99 (fun o s101 f102 => KP o (fun r => r = none ∧ Q (.inl (some (.ref a1))) s101 f102) (fun k => Q (.inr k) s101 f102))))))) (fun k => Q (.inr k) s96 f97)))) (fun k => Q (.inr k) s94 f95)))))) ∧ (∀ a92 : Nat, v91 = .ref a92 → (oc f90 x0 11 ∧ (∃ a106 : Nat, vl f90 x0 147 = .ref a106 ∧ (oc f90 a106 2 ∧ EvC l E w d MX2_is [.ref a106, .int 91] s89 f90 (fun o s107 f108 => KP o (fun r => ∃ v109 : Int32, r = some (.int v109) ∧ ((v109 = 0 → (oc f108 x0 11 ∧ (∃ a110 : Nat, vl f108 x0 147 = .ref a110 ∧ (oc f108 a110 2 ∧ EvC l E w d MX2_take [.ref a110, .int 61] s107 f108 (fun o s111 f112 => KP o (fun r => r = none ∧ (oc f112 x0 11 ∧ EvC l E w d MX11_expression [.ref x0] s111 f112 (fun o s113 f114 => KP o (fun r => ∃ a115 : Nat, r = some (.ref a115) ∧ (oc f114 a1 28 ∧ f114.2.2.2 ≤ a1 ∧ ∀ f116 : RH, f116 = fset f114 a1 202 (.ref a115) → (oc f116 x0 11 ∧ (∃ a117 : Nat, vl f116 x0 147 = .ref a117 ∧ (oc f116 a117 2 ∧ EvC l E w d MX2_take [.ref a117, .int 59] s113 f116 (fun o s118 f119 => KP o (fun r => r = none ∧ Q (.inl (some (.ref a1))) s118 f119) (fun k => Q (.inr k) s118 f119))))))) (fun k => Q (.inr k) s113 f114)))) (fun k => Q (.inr k) s111 f112)))))) ∧ (¬ v109 = 0 → (oc f108 x0 11 ∧ (∃ a123 : Nat, vl f108 x0 147 = .ref a123 ∧ (oc f108 a123 2 ∧ (∃ v124 : Int32, vl f108 a123 21 = .int v124 ∧ (oc f108 a1 28 ∧ f108.2.2.2 ≤ a1 ∧ ∀ f125 : RH, f125 = fset f108 a1 199 (.int v124) → (oc f125 x0 11 ∧ (∃ a126 : Nat, vl f125 x0 147 = .ref a126 ∧ (oc f125 a126 2 ∧ EvC l E w d MX2_take [.ref a126, .int 91] s107 f125 (fun o s127 f128 => KP o (fun r => r = none ∧ (oc f128 x0 11 ∧ EvC l E w d MX11_expression [.ref x0] s127 f128 (fun o s129 f130 => KP o (fun r => ∃ a131 : Nat, r = some (.ref a131) ∧ (oc f130 a1 28 ∧ f130.2.2.2 ≤ a1 ∧ ∀ f132 : RH, f132 = fset f130 a1 201 (.ref a131) → (oc f132 x0 11 ∧ (∃ a133 : Nat, vl f132 x0 147 = .ref a133 ∧ (oc f132 a133 2 ∧ EvC l E w d MX2_take [.ref a133, .int 93] s129 f132 (fun o s134 f135 => KP o (fun r => r = none ∧ (oc f135 x0 11 ∧ (∃ a136 : Nat, vl f135 x0 147 = .ref a136 ∧ (oc f135 a136 2 ∧ EvC l E w d MX2_take [.ref a136, .int 61] s134 f135 (fun o s137 f138 => KP o (fun r => r = none ∧ (oc f138 x0 11 ∧ EvC l E w d MX11_expression [.ref x0] s137 f138 (fun o s139 f140 => KP o (fun r => ∃ a141 : Nat, r = some (.ref a141) ∧ (oc f140 a1 28 ∧ f140.2.2.2 ≤ a1 ∧ ∀ f142 : RH, f142 = fset f140 a1 202 (.ref a141) → (oc f142 x0 11 ∧ (∃ a143 : Nat, vl f142 x0 147 = .ref a143 ∧ (oc f142 a143 2 ∧ EvC l E w d MX2_take [.ref a143, .int 59] s139 f142 (fun o s144 f145 => KP o (fun r => r = none ∧ Q (.inl (some (.ref a1))) s144 f145) (fun k => Q (.inr k) s144 f145))))))) (fun k => Q (.inr k) s139 f140)))) (fun k => Q (.inr k) s137 f138)))))) (fun k => Q (.inr k) s134 f135))))))) (fun k => Q (.inr k) s129 f130)))) (fun k => Q (.inr k) s127 f128))))))))))))) (fun k => Q (.inr k) s107 f108)))))))))) (fun k => Q (.inr k) s89 f90))))))) (fun k => Q (.inr k) s84 f85)))) (fun k => Q (.inr k) s82 f83))))))))))))) (fun k => Q (.inr k) s13 f14))))))) (fun k => Q (.inr k) s8 f9))))))))) (fun k => Q (.inr k) s3 f4))))) : EvC l E w (d + 1) MX11_assign [.ref x0] s f Q :=
  EvC.of hst (by decide) (Nat.le_of_ble_eq_true rfl) (vX11_assign_0  hT)
theorem vX11_resolve_0 {l : Launch} {E : EN} {w : CO} {d : Nat} {s : CS} {f : RH} {Q : KO → CS → RH → Prop} {x0 : Nat} {x1 : Nat}  (hT : ExC l E w (d + 1) MX11_resolve 2 [some (.ref x0), some (.ref x1), some (.int 0)] [] s f Q) : ExC l E w (d + 1) MX11_resolve 0 [some (.ref x0), some (.ref x1), none] [] s f Q := by
  intro f0 h hW hF
  refine x_iconst (v := 0) dX11_resolve_0 rfl ?_
  refine x_istore_n (lo' := [some (.ref x0), some (.ref x1), some (.int 0)]) dX11_resolve_1 rfl (Nat.le_of_ble_eq_true rfl) rfl ?_
  exact hT f0 h hW hF
theorem eX11_resolve {l : Launch} {E : EN} {w : CO} {d : Nat} {s : CS} {f : RH} {Q : KO → CS → RH → Prop} {x0 : Nat} {x1 : Nat}  (hst : l.stackTraces = false) (hT : ExC l E w (d + 1) MX11_resolve 2 [some (.ref x0), some (.ref x1), some (.int 0)] [] s f Q) : EvC l E w (d + 1) MX11_resolve [.ref x0, .ref x1] s f Q :=
  EvC.of hst (by decide) (Nat.le_of_ble_eq_true rfl) (vX11_resolve_0  hT)
set_option maxHeartbeats 16000000 in
theorem vX11_resolve_2 {l : Launch} {E : EN} {w : CO} {d : Nat} {s : CS} {f : RH} {Q : KO → CS → RH → Prop} {b0 : Nat} {b1 : Nat} {b2 : Int32}  (hT : (oc f b0 11 ∧ (∃ v1 : Int32, vl f b0 149 = .int v1 ∧ ((v1 ≤ b2 → (oc f b1 19 ∧ (∃ v2 : Value, vl f b1 178 = v2 ∧ isR v2 = true ∧ ((v2 = .null → (oc f b0 11 ∧ (∃ a4 : Nat, vl f b0 147 = .ref a4 ∧ (oc f b1 19 ∧ (∃ v5 : Int32, vl f b1 176 = .int v5 ∧ (oc f a4 2 ∧ EvC l E w d MX2_wrong [.ref a4, .int 6, .int v5] s f (fun o s6 f7 => KP o (fun r => r = some (.ref (w.1 1)) ∧ Q (.inr 1) s6 f7) (fun k => Q (.inr k) s6 f7)))))))) ∧ (∀ a3 : Nat, v2 = .ref a3 → (oc f b1 19 ∧ (∃ v9 : Value, vl f b1 178 = v9 ∧ isR v9 = true ∧ (∃ a10 : Nat, v9 = .ref a10 ∧ (oc f a10 12 ∧ (∃ v11 : Int32, vl f a10 155 = .int v11 ∧ (oc f b1 19 ∧ (∃ v12 : Int32, vl f b1 177 = .int v12 ∧ ((v11 = v12 → Q (.inl none) s f) ∧ (¬ v11 = v12 → (oc f b0 11 ∧ (∃ a13 : Nat, vl f b0 147 = .ref a13 ∧ (oc f b1 19 ∧ (∃ v14 : Int32, vl f b1 176 = .int v14 ∧ (oc f a13 2 ∧ EvC l E w d MX2_wrong [.ref a13, .int 6, .int v14] s f (fun o s15 f16 => KP o (fun r => r = some (.ref (w.1 1)) ∧ Q (.inr 1) s15 f16) (fun k => Q (.inr k) s15 f16))))))))))))))))))))) ∧ (¬ v1 ≤ b2 → (oc f b0 11 ∧ (∃ a18 : Nat, vl f b0 148 = .ref a18 ∧ (∃ t19 : Nat, 4 ≤ t19 ∧ (tg f a18 = some (.inr t19) ∧ inB b2 (ln f a18) ∧ (∃ a20 : Nat, vl f a18 b2.toNatClampNeg = .ref a20 ∧ (oc f a20 12 ∧ (∃ v21 : Int64, vl f a20 153 = .long v21 ∧ (oc f b1 19 ∧ (∃ v22 : Int64, vl f b1 175 = .long v22 ∧ ((¬ (lg_cmp v21 v22) = 0 → ExC l E w (d + 1) MX11_resolve 2 [some (.ref b0), some (.ref b1), some (.int (b2 + 1))] [] s f Q) ∧ ((lg_cmp v21 v22) = 0 → (oc f b0 11 ∧ (∃ a23 : Nat, vl f b0 148 = .ref a23 ∧ (∃ t24 : Nat, 4 ≤ t24 ∧ (tg f a23 = some (.inr t24) ∧ inB b2 (ln f a23) ∧ (∃ a25 : Nat, vl f a23 b2.toNatClampNeg = .ref a25 ∧ (oc f b1 19 ∧ f.2.2.2 ≤ b1 ∧ ∀ f26 : RH, f26 = fset f b1 178 (.ref a25) → ExC l E w (d + 1) MX11_resolve 2 [some (.ref b0), some (.ref b1), some (.int (b2 + 1))] [] s f26 Q)))))))))))))))))))))) : ExC l E w (d + 1) MX11_resolve 2 [some (.ref b0), some (.ref b1), some (.int b2)] [] s f Q := by
  intro f0 h hW hF
  refine x_iload_n dX11_resolve_2 rfl rfl ?_
  refine x_aload_n dX11_resolve_3 rfl rfl rfl ?_
  obtain ⟨hc, hT⟩ := hT
  obtain ⟨v1, ev, hT⟩ := hT
  refine c_fgetG dX11_resolve_4 f_TallySlate_Reader_59 hc (by decide) (by decide) hW ev ?_
  refine x_icmp_ge (tgt := 43) dX11_resolve_7 rfl (fun c => ?_) (fun c => ?_)
  · replace hT := hT.1 c
    refine x_aload_n dX11_resolve_43 rfl rfl rfl ?_
    obtain ⟨hc, hT⟩ := hT
    obtain ⟨v2, ev, iv2, hT⟩ := hT
    refine c_fgetG dX11_resolve_44 f_TallySlate_Reader_67 hc (by decide) (by decide) hW ev ?_
    refine x_ifnull (tgt := 64) dX11_resolve_47 rfl iv2 (fun e => ?_) (fun a3 e => ?_)
    · subst e
      replace hT := hT.1 rfl
      refine x_aload_n dX11_resolve_64 rfl rfl rfl ?_
      obtain ⟨hc, hT⟩ := hT
      obtain ⟨a4, ev, hT⟩ := hT
      refine c_fgetG dX11_resolve_65 f_TallySlate_Reader_23 hc (by decide) (by decide) hW ev ?_
      refine x_bipush (v := 6) dX11_resolve_68 rfl ?_
      refine x_aload_n dX11_resolve_70 rfl rfl rfl ?_
      obtain ⟨hc, hT⟩ := hT
      obtain ⟨v5, ev, hT⟩ := hT
      refine c_fgetG dX11_resolve_71 f_TallySlate_Reader_76 hc (by decide) (by decide) hW ev ?_
      obtain ⟨hc, hT⟩ := hT
      obtain ⟨cc, hcc⟩ := hW.ocell hc
      refine c_invV (vs := [.int 6, .int v5]) dX11_resolve_74 oX2_wrong q564 q772 hcc q565 (Or.inl rfl) rfl rfl (Nat.le_of_ble_eq_true rfl) rfl hW hF hT ?_ ?_
      · intro _ s6 f7 hT h hW hF
        obtain ⟨rfl, hT⟩ := hT
        refine x_athrow dX11_resolve_77 ?_
        exact c_out (rfl) hW (Or.inr (Or.inl ⟨rfl, rfl⟩)) hF hT
      · intro k s6 f7 hT h a hW hx hF
        exact c_out (rfl) hW hx hF hT
    · subst e
      replace hT := hT.2 a3 rfl
      refine x_aload_n dX11_resolve_50 rfl rfl rfl ?_
      obtain ⟨hc, hT⟩ := hT
      obtain ⟨v9, ev, iv9, hT⟩ := hT
      refine c_fgetG dX11_resolve_51 f_TallySlate_Reader_67 hc (by decide) (by decide) hW ev ?_
      obtain ⟨a10, rfl, hT⟩ := hT
      obtain ⟨hc, hT⟩ := hT
      obtain ⟨v11, ev, hT⟩ := hT
      refine c_fgetG dX11_resolve_54 f_TallySlate_Reader_70 hc (by decide) (by decide) hW ev ?_
      refine x_aload_n dX11_resolve_57 rfl rfl rfl ?_
      obtain ⟨hc, hT⟩ := hT
      obtain ⟨v12, ev, hT⟩ := hT
      refine c_fgetG dX11_resolve_58 f_TallySlate_Reader_73 hc (by decide) (by decide) hW ev ?_
      refine x_icmp_eq (tgt := 78) dX11_resolve_61 rfl (fun c => ?_) (fun c => ?_)
      · replace hT := hT.1 c
        exact x_vret dX11_resolve_78 rfl ⟨_, _, hW, hF, Or.inl ⟨_, rfl, hT⟩⟩
      · replace hT := hT.2 c
        refine x_aload_n dX11_resolve_64 rfl rfl rfl ?_
        obtain ⟨hc, hT⟩ := hT
        obtain ⟨a13, ev, hT⟩ := hT
        refine c_fgetG dX11_resolve_65 f_TallySlate_Reader_23 hc (by decide) (by decide) hW ev ?_
        refine x_bipush (v := 6) dX11_resolve_68 rfl ?_
        refine x_aload_n dX11_resolve_70 rfl rfl rfl ?_
        obtain ⟨hc, hT⟩ := hT
        obtain ⟨v14, ev, hT⟩ := hT
        refine c_fgetG dX11_resolve_71 f_TallySlate_Reader_76 hc (by decide) (by decide) hW ev ?_
        obtain ⟨hc, hT⟩ := hT
        obtain ⟨cc, hcc⟩ := hW.ocell hc
        refine c_invV (vs := [.int 6, .int v14]) dX11_resolve_74 oX2_wrong q564 q772 hcc q565 (Or.inl rfl) rfl rfl (Nat.le_of_ble_eq_true rfl) rfl hW hF hT ?_ ?_
        · intro _ s15 f16 hT h hW hF
          obtain ⟨rfl, hT⟩ := hT
          refine x_athrow dX11_resolve_77 ?_
          exact c_out (rfl) hW (Or.inr (Or.inl ⟨rfl, rfl⟩)) hF hT
        · intro k s15 f16 hT h a hW hx hF
          exact c_out (rfl) hW hx hF hT
  · replace hT := hT.2 c
    refine x_aload_n dX11_resolve_10 rfl rfl rfl ?_
    obtain ⟨hc, hT⟩ := hT
    obtain ⟨a18, ev, hT⟩ := hT
    refine c_fgetG dX11_resolve_11 f_TallySlate_Reader_11 hc (by decide) (by decide) hW ev ?_
    refine x_iload_n dX11_resolve_14 rfl rfl ?_
    obtain ⟨t19, ht2, hc, hT⟩ := hT
    obtain ⟨hb, hT⟩ := hT
    obtain ⟨a20, ev, hT⟩ := hT
    refine c_faald dX11_resolve_15 hc ht2 hb hW ev ?_
    obtain ⟨hc, hT⟩ := hT
    obtain ⟨v21, ev, hT⟩ := hT
    refine c_fgetG dX11_resolve_16 f_TallySlate_Reader_62 hc (by decide) (by decide) hW ev ?_
    refine x_aload_n dX11_resolve_19 rfl rfl rfl ?_
    obtain ⟨hc, hT⟩ := hT
    obtain ⟨v22, ev, hT⟩ := hT
    refine c_fgetG dX11_resolve_20 f_TallySlate_Reader_66 hc (by decide) (by decide) hW ev ?_
    refine x_lcmp dX11_resolve_23 ?_
    refine x_if_ne (tgt := 37) dX11_resolve_24 rfl (fun c => ?_) (fun c => ?_)
    · replace hT := hT.1 c
      refine x_iinc (lo' := [some (.ref b0), some (.ref b1), some (.int (b2 + 1))]) dX11_resolve_37 rfl (show _ = (b2 + 1) from rfl) rfl ?_
      refine x_goto (tgt := 2) dX11_resolve_40 rfl ?_
      exact hT f0 h hW hF
    · replace hT := hT.2 c
      refine x_aload_n dX11_resolve_27 rfl rfl rfl ?_
      refine x_aload_n dX11_resolve_28 rfl rfl rfl ?_
      obtain ⟨hc, hT⟩ := hT
      obtain ⟨a23, ev, hT⟩ := hT
      refine c_fgetG dX11_resolve_29 f_TallySlate_Reader_11 hc (by decide) (by decide) hW ev ?_
      refine x_iload_n dX11_resolve_32 rfl rfl ?_
      obtain ⟨t24, ht2, hc, hT⟩ := hT
      obtain ⟨hb, hT⟩ := hT
      obtain ⟨a25, ev, hT⟩ := hT
      refine c_faald dX11_resolve_33 hc ht2 hb hW ev ?_
      obtain ⟨hc, hz, hT⟩ := hT
      refine c_fputG dX11_resolve_34 f_TallySlate_Reader_67 hc (by decide) (by decide) hz (Or.inl rfl) rfl rfl hW hF ?_
      intro f26 ef26 h hW hF
      replace hT := hT f26 ef26
      refine x_iinc (lo' := [some (.ref b0), some (.ref b1), some (.int (b2 + 1))]) dX11_resolve_37 rfl (show _ = (b2 + 1) from rfl) rfl ?_
      refine x_goto (tgt := 2) dX11_resolve_40 rfl ?_
      exact hT f0 h hW hF
theorem vX12_init_0 {l : Launch} {E : EN} {w : CO} {d : Nat} {s : CS} {f : RH} {Q : KO → CS → RH → Prop} {x0 : Nat}  (hT : ((14 : Int32).toNatClampNeg ≤ 60000000 ∧ rmF E f 1 (14 : Int32).toNatClampNeg ∧ ∀ (a1 : Nat) (f2 : RH), a1 = f.1 → f2 = fnewA f 1 (14 : Int32).toNatClampNeg → (oc f2 x0 12 ∧ f2.2.2.2 ≤ x0 ∧ ∀ f3 : RH, f3 = fset f2 x0 157 (.ref a1) → Q (.inl none) s f3))) : ExC l E w d MX12_init 0 [some (.ref x0)] [] s f Q := by
  intro f0 h hW hF
  refine x_aload_n dX12_init_0 rfl rfl rfl ?_
  refine x_objInit dX12_init_1 q777 q219 q220 (Nat.le_of_ble_eq_true rfl) rfl ?_
  refine x_aload_n dX12_init_4 rfl rfl rfl ?_
  refine x_bipush (v := 14) dX12_init_5 rfl ?_
  have hn : ¬ ((14 : Int32) < 0) := by decide
  obtain ⟨hb, hr, hT⟩ := hT
  refine c_newarrayG (t := 1) dX12_init_7 (by decide) rfl hn hb hr hW hF ?_
  intro a1 f2 ea1 ef2 h hW hF
  replace hT := hT a1 f2 ea1 ef2
  obtain ⟨hc, hz, hT⟩ := hT
  refine c_fputG dX12_init_9 f_TallySlate_Definition_9 hc (by decide) (by decide) hz (Or.inr ⟨rfl, rfl⟩) rfl rfl hW hF ?_
  intro f3 ef3 h hW hF
  replace hT := hT f3 ef3
  exact x_vret dX12_init_12 rfl ⟨_, _, hW, hF, Or.inl ⟨_, rfl, hT⟩⟩
theorem eX12_init {l : Launch} {E : EN} {w : CO} {d : Nat} {s : CS} {f : RH} {Q : KO → CS → RH → Prop} {x0 : Nat}  (hst : l.stackTraces = false) (hT : ((14 : Int32).toNatClampNeg ≤ 60000000 ∧ rmF E f 1 (14 : Int32).toNatClampNeg ∧ ∀ (a1 : Nat) (f2 : RH), a1 = f.1 → f2 = fnewA f 1 (14 : Int32).toNatClampNeg → (oc f2 x0 12 ∧ f2.2.2.2 ≤ x0 ∧ ∀ f3 : RH, f3 = fset f2 x0 157 (.ref a1) → Q (.inl none) s f3))) : EvC l E w d MX12_init [.ref x0] s f Q :=
  EvC.of hst (by decide) (Nat.le_of_ble_eq_true rfl) (vX12_init_0  hT)
theorem vX13_init_0 {l : Launch} {E : EN} {w : CO} {d : Nat} {s : CS} {f : RH} {Q : KO → CS → RH → Prop} {x0 : Nat}  (hT : ((2 : Int32).toNatClampNeg ≤ 60000000 ∧ rmF E f 1 (2 : Int32).toNatClampNeg ∧ ∀ (a1 : Nat) (f2 : RH), a1 = f.1 → f2 = fnewA f 6 (2 : Int32).toNatClampNeg → (oc f2 x0 13 ∧ f2.2.2.2 ≤ x0 ∧ ∀ f3 : RH, f3 = fset f2 x0 159 (.ref a1) → Q (.inl none) s f3))) : ExC l E w d MX13_init 0 [some (.ref x0)] [] s f Q := by
  intro f0 h hW hF
  refine x_aload_n dX13_init_0 rfl rfl rfl ?_
  refine x_objInit dX13_init_1 q838 q219 q220 (Nat.le_of_ble_eq_true rfl) rfl ?_
  refine x_aload_n dX13_init_4 rfl rfl rfl ?_
  refine x_iconst (v := 2) dX13_init_5 rfl ?_
  have hn : ¬ ((2 : Int32) < 0) := by decide
  obtain ⟨hb, hr, hT⟩ := hT
  refine c_anewarrayG (t := 6) dX13_init_6 (by decide) (by decide) (by decide) rfl q840 (Or.inl ⟨_, rfl, q839⟩) hn hb hr hW hF ?_
  intro a1 f2 ea1 ef2 h hW hF
  replace hT := hT a1 f2 ea1 ef2
  obtain ⟨hc, hz, hT⟩ := hT
  refine c_fputG dX13_init_9 f_TallySlate_Block_9 hc (by decide) (by decide) hz (Or.inl rfl) rfl rfl hW hF ?_
  intro f3 ef3 h hW hF
  replace hT := hT f3 ef3
  exact x_vret dX13_init_12 rfl ⟨_, _, hW, hF, Or.inl ⟨_, rfl, hT⟩⟩
theorem eX13_init {l : Launch} {E : EN} {w : CO} {d : Nat} {s : CS} {f : RH} {Q : KO → CS → RH → Prop} {x0 : Nat}  (hst : l.stackTraces = false) (hT : ((2 : Int32).toNatClampNeg ≤ 60000000 ∧ rmF E f 1 (2 : Int32).toNatClampNeg ∧ ∀ (a1 : Nat) (f2 : RH), a1 = f.1 → f2 = fnewA f 6 (2 : Int32).toNatClampNeg → (oc f2 x0 13 ∧ f2.2.2.2 ≤ x0 ∧ ∀ f3 : RH, f3 = fset f2 x0 159 (.ref a1) → Q (.inl none) s f3))) : EvC l E w d MX13_init [.ref x0] s f Q :=
  EvC.of hst (by decide) (Nat.le_of_ble_eq_true rfl) (vX13_init_0  hT)
theorem vX13_add_0 {l : Launch} {E : EN} {w : CO} {d : Nat} {s : CS} {f : RH} {Q : KO → CS → RH → Prop} {x0 : Nat} {x1 : Nat}  (hT : (oc f x0 13 ∧ (∃ v1 : Int32, vl f x0 160 = .int v1 ∧ (oc f x0 13 ∧ (∃ a2 : Nat, vl f x0 159 = .ref a2 ∧ (∃ t3 : Nat, tg f a2 = some (.inr t3) ∧ ((¬ v1 = (nI (ln f a2)) → (oc f x0 13 ∧ (∃ a4 : Nat, vl f x0 159 = .ref a4 ∧ (oc f x0 13 ∧ (∃ v5 : Int32, vl f x0 160 = .int v5 ∧ (∃ k9 : Nat, (tg f a4 = some (.inr 6) ∧ tg f x1 = some (.inl k9) ∧ k9 ∈ CKs 6 ∧ inB v5 (ln f a4) ∧ f.2.2.2 ≤ a4 ∧ ∀ f6 : RH, f6 = fset f a4 v5.toNatClampNeg (.ref x1) → (oc f6 x0 13 ∧ (∃ v7 : Int32, vl f6 x0 160 = .int v7 ∧ (oc f6 x0 13 ∧ f6.2.2.2 ≤ x0 ∧ ∀ f8 : RH, f8 = fset f6 x0 160 (.int (v7 + 1)) → Q (.inl none) s f8)))))))))) ∧ (v1 = (nI (ln f a2)) → (oc f x0 13 ∧ (∃ v10 : Int32, vl f x0 160 = .int v10 ∧ (¬ (4 * v10) < 0 ∧ (4 * v10).toNatClampNeg ≤ 60000000 ∧ rmF E f 1 (4 * v10).toNatClampNeg ∧ ∀ (a11 : Nat) (f12 : RH), a11 = f.1 → f12 = fnewA f 6 (4 * v10).toNatClampNeg → ExC l E w d MX13_add 24 [some (.ref x0), some (.ref x1), some (.ref a11), some (.int 0)] [] s f12 Q))))))))))) : ExC l E w d MX13_add 0 [some (.ref x0), some (.ref x1), none, none] [] s f Q := by
  intro f0 h hW hF
  refine x_aload_n dX13_add_0 rfl rfl rfl ?_
  obtain ⟨hc, hT⟩ := hT
  obtain ⟨v1, ev, hT⟩ := hT
  refine c_fgetG dX13_add_1 f_TallySlate_Block_15 hc (by decide) (by decide) hW ev ?_
  refine x_aload_n dX13_add_4 rfl rfl rfl ?_
  obtain ⟨hc, hT⟩ := hT
  obtain ⟨a2, ev, hT⟩ := hT
  refine c_fgetG dX13_add_5 f_TallySlate_Block_9 hc (by decide) (by decide) hW ev ?_
  obtain ⟨t3, hc, hT⟩ := hT
  refine c_alen dX13_add_8 hc hW ?_
  refine x_icmp_ne (tgt := 52) dX13_add_9 rfl (fun c => ?_) (fun c => ?_)
  · replace hT := hT.1 c
    refine x_aload_n dX13_add_52 rfl rfl rfl ?_
    obtain ⟨hc, hT⟩ := hT
    obtain ⟨a4, ev, hT⟩ := hT
    refine c_fgetG dX13_add_53 f_TallySlate_Block_9 hc (by decide) (by decide) hW ev ?_
    refine x_aload_n dX13_add_56 rfl rfl rfl ?_
    obtain ⟨hc, hT⟩ := hT
    obtain ⟨v5, ev, hT⟩ := hT
    refine c_fgetG dX13_add_57 f_TallySlate_Block_15 hc (by decide) (by decide) hW ev ?_
    refine x_aload_n dX13_add_60 rfl rfl rfl ?_
    obtain ⟨k9, hc, hv, hck, hT⟩ := hT
    obtain ⟨hb, hz, hT⟩ := hT
    refine c_faastG dX13_add_61 hc (by decide) hv hck hb hz hW hF ?_
    intro f6 ef6 h hW hF
    replace hT := hT f6 ef6
    refine x_aload_n dX13_add_62 rfl rfl rfl ?_
    refine x_dup dX13_add_63 rfl ?_
    obtain ⟨hc, hT⟩ := hT
    obtain ⟨v7, ev, hT⟩ := hT
    refine c_fgetG dX13_add_64 f_TallySlate_Block_15 hc (by decide) (by decide) hW ev ?_
    refine x_iconst (v := 1) dX13_add_67 rfl ?_
    refine x_iadd dX13_add_68 ?_
    obtain ⟨hc, hz, hT⟩ := hT
    refine c_fputG dX13_add_69 f_TallySlate_Block_15 hc (by decide) (by decide) hz (Or.inl rfl) rfl rfl hW hF ?_
    intro f8 ef8 h hW hF
    replace hT := hT f8 ef8
    exact x_vret dX13_add_72 rfl ⟨_, _, hW, hF, Or.inl ⟨_, rfl, hT⟩⟩
  · replace hT := hT.2 c
    refine x_iconst (v := 4) dX13_add_12 rfl ?_
    refine x_aload_n dX13_add_13 rfl rfl rfl ?_
    obtain ⟨hc, hT⟩ := hT
    obtain ⟨v10, ev, hT⟩ := hT
    refine c_fgetG dX13_add_14 f_TallySlate_Block_15 hc (by decide) (by decide) hW ev ?_
    refine x_imul dX13_add_17 ?_
    obtain ⟨hn, hT⟩ := hT
    obtain ⟨hb, hr, hT⟩ := hT
    refine c_anewarrayG (t := 6) dX13_add_18 (by decide) (by decide) (by decide) rfl q840 (Or.inl ⟨_, rfl, q839⟩) hn hb hr hW hF ?_
    intro a11 f12 ea11 ef12 h hW hF
    replace hT := hT a11 f12 ea11 ef12
    refine x_astore_n (lo' := [some (.ref x0), some (.ref x1), some (.ref a11), none]) dX13_add_21 rfl (Nat.le_of_ble_eq_true rfl) rfl rfl ?_
    refine x_iconst (v := 0) dX13_add_22 rfl ?_
    refine x_istore_n (lo' := [some (.ref x0), some (.ref x1), some (.ref a11), some (.int 0)]) dX13_add_23 rfl (Nat.le_of_ble_eq_true rfl) rfl ?_
    exact hT f0 h hW hF
theorem eX13_add {l : Launch} {E : EN} {w : CO} {d : Nat} {s : CS} {f : RH} {Q : KO → CS → RH → Prop} {x0 : Nat} {x1 : Nat}  (hst : l.stackTraces = false) (hT : (oc f x0 13 ∧ (∃ v1 : Int32, vl f x0 160 = .int v1 ∧ (oc f x0 13 ∧ (∃ a2 : Nat, vl f x0 159 = .ref a2 ∧ (∃ t3 : Nat, tg f a2 = some (.inr t3) ∧ ((¬ v1 = (nI (ln f a2)) → (oc f x0 13 ∧ (∃ a4 : Nat, vl f x0 159 = .ref a4 ∧ (oc f x0 13 ∧ (∃ v5 : Int32, vl f x0 160 = .int v5 ∧ (∃ k9 : Nat, (tg f a4 = some (.inr 6) ∧ tg f x1 = some (.inl k9) ∧ k9 ∈ CKs 6 ∧ inB v5 (ln f a4) ∧ f.2.2.2 ≤ a4 ∧ ∀ f6 : RH, f6 = fset f a4 v5.toNatClampNeg (.ref x1) → (oc f6 x0 13 ∧ (∃ v7 : Int32, vl f6 x0 160 = .int v7 ∧ (oc f6 x0 13 ∧ f6.2.2.2 ≤ x0 ∧ ∀ f8 : RH, f8 = fset f6 x0 160 (.int (v7 + 1)) → Q (.inl none) s f8)))))))))) ∧ (v1 = (nI (ln f a2)) → (oc f x0 13 ∧ (∃ v10 : Int32, vl f x0 160 = .int v10 ∧ (¬ (4 * v10) < 0 ∧ (4 * v10).toNatClampNeg ≤ 60000000 ∧ rmF E f 1 (4 * v10).toNatClampNeg ∧ ∀ (a11 : Nat) (f12 : RH), a11 = f.1 → f12 = fnewA f 6 (4 * v10).toNatClampNeg → ExC l E w d MX13_add 24 [some (.ref x0), some (.ref x1), some (.ref a11), some (.int 0)] [] s f12 Q))))))))))) : EvC l E w d MX13_add [.ref x0, .ref x1] s f Q :=
  EvC.of hst (by decide) (Nat.le_of_ble_eq_true rfl) (vX13_add_0  hT)
theorem vX13_add_24 {l : Launch} {E : EN} {w : CO} {d : Nat} {s : CS} {f : RH} {Q : KO → CS → RH → Prop} {b0 : Nat} {b1 : Nat} {b2 : Nat} {b3 : Int32}  (hT : (oc f b0 13 ∧ (∃ v13 : Int32, vl f b0 160 = .int v13 ∧ ((v13 ≤ b3 → (oc f b0 13 ∧ f.2.2.2 ≤ b0 ∧ ∀ f14 : RH, f14 = fset f b0 159 (.ref b2) → (oc f14 b0 13 ∧ (∃ a15 : Nat, vl f14 b0 159 = .ref a15 ∧ (oc f14 b0 13 ∧ (∃ v16 : Int32, vl f14 b0 160 = .int v16 ∧ (∃ k20 : Nat, (tg f14 a15 = some (.inr 6) ∧ tg f14 b1 = some (.inl k20) ∧ k20 ∈ CKs 6 ∧ inB v16 (ln f14 a15) ∧ f14.2.2.2 ≤ a15 ∧ ∀ f17 : RH, f17 = fset f14 a15 v16.toNatClampNeg (.ref b1) → (oc f17 b0 13 ∧ (∃ v18 : Int32, vl f17 b0 160 = .int v18 ∧ (oc f17 b0 13 ∧ f17.2.2.2 ≤ b0 ∧ ∀ f19 : RH, f19 = fset f17 b0 160 (.int (v18 + 1)) → Q (.inl none) s f19))))))))))) ∧ (¬ v13 ≤ b3 → (oc f b0 13 ∧ (∃ a21 : Nat, vl f b0 159 = .ref a21 ∧ (∃ t22 : Nat, 4 ≤ t22 ∧ (tg f a21 = some (.inr t22) ∧ inB b3 (ln f a21) ∧ (∃ a23 : Nat, vl f a21 b3.toNatClampNeg = .ref a23 ∧ (∃ k25 : Nat, (tg f b2 = some (.inr 6) ∧ tg f a23 = some (.inl k25) ∧ k25 ∈ CKs 6 ∧ inB b3 (ln f b2) ∧ f.2.2.2 ≤ b2 ∧ ∀ f24 : RH, f24 = fset f b2 b3.toNatClampNeg (.ref a23) → ExC l E w d MX13_add 24 [some (.ref b0), some (.ref b1), some (.ref b2), some (.int (b3 + 1))] [] s f24 Q)))))))))))) : ExC l E w d MX13_add 24 [some (.ref b0), some (.ref b1), some (.ref b2), some (.int b3)] [] s f Q := by
  intro f0 h hW hF
  refine x_iload_n dX13_add_24 rfl rfl ?_
  refine x_aload_n dX13_add_25 rfl rfl rfl ?_
  obtain ⟨hc, hT⟩ := hT
  obtain ⟨v13, ev, hT⟩ := hT
  refine c_fgetG dX13_add_26 f_TallySlate_Block_15 hc (by decide) (by decide) hW ev ?_
  refine x_icmp_ge (tgt := 47) dX13_add_29 rfl (fun c => ?_) (fun c => ?_)
  · replace hT := hT.1 c
    refine x_aload_n dX13_add_47 rfl rfl rfl ?_
    refine x_aload_n dX13_add_48 rfl rfl rfl ?_
    obtain ⟨hc, hz, hT⟩ := hT
    refine c_fputG dX13_add_49 f_TallySlate_Block_9 hc (by decide) (by decide) hz (Or.inl rfl) rfl rfl hW hF ?_
    intro f14 ef14 h hW hF
    replace hT := hT f14 ef14
    refine x_aload_n dX13_add_52 rfl rfl rfl ?_
    obtain ⟨hc, hT⟩ := hT
    obtain ⟨a15, ev, hT⟩ := hT
    refine c_fgetG dX13_add_53 f_TallySlate_Block_9 hc (by decide) (by decide) hW ev ?_
    refine x_aload_n dX13_add_56 rfl rfl rfl ?_
    obtain ⟨hc, hT⟩ := hT
    obtain ⟨v16, ev, hT⟩ := hT
    refine c_fgetG dX13_add_57 f_TallySlate_Block_15 hc (by decide) (by decide) hW ev ?_
    refine x_aload_n dX13_add_60 rfl rfl rfl ?_
    obtain ⟨k20, hc, hv, hck, hT⟩ := hT
    obtain ⟨hb, hz, hT⟩ := hT
    refine c_faastG dX13_add_61 hc (by decide) hv hck hb hz hW hF ?_
    intro f17 ef17 h hW hF
    replace hT := hT f17 ef17
    refine x_aload_n dX13_add_62 rfl rfl rfl ?_
    refine x_dup dX13_add_63 rfl ?_
    obtain ⟨hc, hT⟩ := hT
    obtain ⟨v18, ev, hT⟩ := hT
    refine c_fgetG dX13_add_64 f_TallySlate_Block_15 hc (by decide) (by decide) hW ev ?_
    refine x_iconst (v := 1) dX13_add_67 rfl ?_
    refine x_iadd dX13_add_68 ?_
    obtain ⟨hc, hz, hT⟩ := hT
    refine c_fputG dX13_add_69 f_TallySlate_Block_15 hc (by decide) (by decide) hz (Or.inl rfl) rfl rfl hW hF ?_
    intro f19 ef19 h hW hF
    replace hT := hT f19 ef19
    exact x_vret dX13_add_72 rfl ⟨_, _, hW, hF, Or.inl ⟨_, rfl, hT⟩⟩
  · replace hT := hT.2 c
    refine x_aload_n dX13_add_32 rfl rfl rfl ?_
    refine x_iload_n dX13_add_33 rfl rfl ?_
    refine x_aload_n dX13_add_34 rfl rfl rfl ?_
    obtain ⟨hc, hT⟩ := hT
    obtain ⟨a21, ev, hT⟩ := hT
    refine c_fgetG dX13_add_35 f_TallySlate_Block_9 hc (by decide) (by decide) hW ev ?_
    refine x_iload_n dX13_add_38 rfl rfl ?_
    obtain ⟨t22, ht2, hc, hT⟩ := hT
    obtain ⟨hb, hT⟩ := hT
    obtain ⟨a23, ev, hT⟩ := hT
    refine c_faald dX13_add_39 hc ht2 hb hW ev ?_
    obtain ⟨k25, hc, hv, hck, hT⟩ := hT
    obtain ⟨hb, hz, hT⟩ := hT
    refine c_faastG dX13_add_40 hc (by decide) hv hck hb hz hW hF ?_
    intro f24 ef24 h hW hF
    replace hT := hT f24 ef24
    refine x_iinc (lo' := [some (.ref b0), some (.ref b1), some (.ref b2), some (.int (b3 + 1))]) dX13_add_41 rfl (show _ = (b3 + 1) from rfl) rfl ?_
    refine x_goto (tgt := 24) dX13_add_44 rfl ?_
    exact hT f0 h hW hF
theorem vX13_act_0 {l : Launch} {E : EN} {w : CO} {d : Nat} {s : CS} {f : RH} {Q : KO → CS → RH → Prop} {x0 : Nat}  (hT : ExC l E w (d + 1) MX13_act 2 [some (.ref x0), some (.ref (w.1 3)), some (.int 0)] [] s f Q) : ExC l E w (d + 1) MX13_act 0 [some (.ref x0), some (.ref (w.1 3)), none] [] s f Q := by
  intro f0 h hW hF
  refine x_iconst (v := 0) dX13_act_0 rfl ?_
  refine x_istore_n (lo' := [some (.ref x0), some (.ref (w.1 3)), some (.int 0)]) dX13_act_1 rfl (Nat.le_of_ble_eq_true rfl) rfl ?_
  exact hT f0 h hW hF
theorem eX13_act {l : Launch} {E : EN} {w : CO} {d : Nat} {s : CS} {f : RH} {Q : KO → CS → RH → Prop} {x0 : Nat}  (hst : l.stackTraces = false) (hT : ExC l E w (d + 1) MX13_act 2 [some (.ref x0), some (.ref (w.1 3)), some (.int 0)] [] s f Q) : EvC l E w (d + 1) MX13_act [.ref x0, .ref (w.1 3)] s f Q :=
  EvC.of hst (by decide) (Nat.le_of_ble_eq_true rfl) (vX13_act_0  hT)
set_option maxHeartbeats 16000000 in
theorem vX13_act_2 {l : Launch} {E : EN} {w : CO} {d : Nat} {s : CS} {f : RH} {Q : KO → CS → RH → Prop} {b0 : Nat} {b2 : Int32}  (hT : (oc f b0 13 ∧ (∃ v1 : Int32, vl f b0 160 = .int v1 ∧ ((v1 ≤ b2 → Q (.inl (some (.int 0))) s f) ∧ (¬ v1 ≤ b2 → (oc f b0 13 ∧ (∃ a2 : Nat, vl f b0 159 = .ref a2 ∧ (∃ t3 : Nat, 4 ≤ t3 ∧ (tg f a2 = some (.inr t3) ∧ inB b2 (ln f a2) ∧ (∃ a4 : Nat, vl f a2 b2.toNatClampNeg = .ref a4 ∧ (∃ k5 : Nat, oc f a4 k5 ∧ 161 ∈ CF k5 ∧ ¬ k5 = 30 ∧ (∃ v6 : Int32, vl f a4 161 = .int v6 ∧ (EvC l E w d MX3_step [.ref (w.1 3), .int v6] s f (fun o s7 f8 => KP o (fun r => r = none ∧ (oc f8 b0 13 ∧ (∃ a9 : Nat, vl f8 b0 159 = .ref a9 ∧ (∃ t10 : Nat, 4 ≤ t10 ∧ (tg f8 a9 = some (.inr t10) ∧ inB b2 (ln f8 a9) ∧ (∃ a11 : Nat, vl f8 a9 b2.toNatClampNeg = .ref a11 ∧ (∃ P16 : KO → CS → RH → Prop, (∀ o s12 f13, P16 o s12 f13 → KP o (fun r => ∃ v14 : Int32, r = some (.int v14) ∧ ((v14 = 0 → ExC l E w (d + 1) MX13_act 2 [some (.ref b0), some (.ref (w.1 3)), some (.int (b2 + 1))] [] s12 f13 Q) ∧ (¬ v14 = 0 → Q (.inl (some (.int 1))) s12 f13))) (fun k => Q (.inr k) s12 f13)) ∧ ∃ k15 : Nat, oc f8 a11 k15 ∧ ((k15 = 14 ∧ EvC l E w d MX15_act [.ref a11, .ref (w.1 3)] s7 f8 P16) ∨ (k15 = 24 ∧ EvC l E w d MX26_act [.ref a11, .ref (w.1 3)] s7 f8 P16) ∨ (k15 = 25 ∧ EvC l E w d MX27_act [.ref a11, .ref (w.1 3)] s7 f8 P16) ∨ (k15 = 26 ∧ EvC l E w d MX28_act [.ref a11, .ref (w.1 3)] s7 f8 P16) ∨ (k15 = 27 ∧ EvC l E w d MX29_act [.ref a11, .ref (w.1 3)] s7 f8 P16) ∨ (k15 = 28 ∧ EvC l E w d MX30_act [.ref a11, .ref (w.1 3)] s7 f8 P16))))))))) (fun k => Q (.inr k) s7 f8))))))))))))))) : ExC l E w (d + 1) MX13_act 2 [some (.ref b0), some (.ref (w.1 3)), some (.int b2)] [] s f Q := by
  intro f0 h hW hF
  refine x_iload_n dX13_act_2 rfl rfl ?_
  refine x_aload_n dX13_act_3 rfl rfl rfl ?_
  obtain ⟨hc, hT⟩ := hT
  obtain ⟨v1, ev, hT⟩ := hT
  refine c_fgetG dX13_act_4 f_TallySlate_Block_15 hc (by decide) (by decide) hW ev ?_
  refine x_icmp_ge (tgt := 44) dX13_act_7 rfl (fun c => ?_) (fun c => ?_)
  · replace hT := hT.1 c
    refine x_iconst (v := 0) dX13_act_44 rfl ?_
    exact x_iret dX13_act_45 rfl rfl ⟨_, _, hW, hF, Or.inl ⟨_, rfl, hT⟩⟩
  · replace hT := hT.2 c
    refine x_aload_n dX13_act_10 rfl rfl rfl ?_
    refine x_aload_n dX13_act_11 rfl rfl rfl ?_
    obtain ⟨hc, hT⟩ := hT
    obtain ⟨a2, ev, hT⟩ := hT
    refine c_fgetG dX13_act_12 f_TallySlate_Block_9 hc (by decide) (by decide) hW ev ?_
    refine x_iload_n dX13_act_15 rfl rfl ?_
    obtain ⟨t3, ht2, hc, hT⟩ := hT
    obtain ⟨hb, hT⟩ := hT
    obtain ⟨a4, ev, hT⟩ := hT
    refine c_faald dX13_act_16 hc ht2 hb hW ev ?_
    obtain ⟨k5, hc, hj, h30, hT⟩ := hT
    obtain ⟨v6, ev, hT⟩ := hT
    refine c_fgetG dX13_act_17 f_TallySlate_Block_19 hc hj (fun z => absurd z h30) hW ev ?_
    obtain ⟨-, -, cc, hcc, -⟩ := hW.ob 3 (by decide)
    refine c_invV (vs := [.int v6]) dX13_act_20 oX3_step q1332 q1331 hcc q1333 (Or.inl rfl) rfl rfl (Nat.le_of_ble_eq_true rfl) rfl hW hF hT ?_ ?_
    · intro _ s7 f8 hT h hW hF
      obtain ⟨rfl, hT⟩ := hT
      refine x_aload_n dX13_act_23 rfl rfl rfl ?_
      obtain ⟨hc, hT⟩ := hT
      obtain ⟨a9, ev, hT⟩ := hT
      refine c_fgetG dX13_act_24 f_TallySlate_Block_9 hc (by decide) (by decide) hW ev ?_
      refine x_iload_n dX13_act_27 rfl rfl ?_
      obtain ⟨t10, ht2, hc, hT⟩ := hT
      obtain ⟨hb, hT⟩ := hT
      obtain ⟨a11, ev, hT⟩ := hT
      refine c_faald dX13_act_28 hc ht2 hb hW ev ?_
      refine x_aload_n dX13_act_29 rfl rfl rfl ?_
      obtain ⟨P16, hP, k15, hc, hT⟩ := hT
      have kr : ∀ r s12 f13, P16 (.inl r) s12 f13 → ∀ h, CW E w s12 f13 h → Frz f0 f13 → Ex l E (d + 1) MX13_act (30 + 3) [some (.ref b0), some (.ref (w.1 3)), some (.int b2)] (r.toList ++ []) h (PoC E w f0 Q) := by
        intro r s12 f13 h0 h hW hF
        have hT := hP _ _ _ h0
        clear h0
        obtain ⟨v14, rfl, hT⟩ := hT
        refine x_if_eq (tgt := 38) dX13_act_33 rfl (fun c => ?_) (fun c => ?_)
        · replace hT := hT.1 c
          refine x_iinc (lo' := [some (.ref b0), some (.ref (w.1 3)), some (.int (b2 + 1))]) dX13_act_38 rfl (show _ = (b2 + 1) from rfl) rfl ?_
          refine x_goto (tgt := 2) dX13_act_41 rfl ?_
          exact hT f0 h hW hF
        · replace hT := hT.2 c
          refine x_iconst (v := 1) dX13_act_36 rfl ?_
          exact x_iret dX13_act_37 rfl rfl ⟨_, _, hW, hF, Or.inl ⟨_, rfl, hT⟩⟩
      have kt : ∀ k s12 f13, P16 (.inr k) s12 f13 → ∀ h a, CW E w s12 f13 h → xA w h k a → Frz f0 f13 → ExT l E (d + 1) MX13_act 30 [some (.ref b0), some (.ref (w.1 3)), some (.int b2)] [] a h (PoC E w f0 Q) := by
        intro k s12 f13 h0 h a hW hx hF
        have hT := hP _ _ _ h0
        clear h0
        exact c_out (rfl) hW hx hF hT
      obtain ⟨cc, hcc⟩ := hW.ocell hc
      rcases hT with ⟨rfl, hT⟩ | ⟨rfl, hT⟩ | ⟨rfl, hT⟩ | ⟨rfl, hT⟩ | ⟨rfl, hT⟩ | ⟨rfl, hT⟩
      · exact c_invV (vs := [.ref (w.1 3)]) dX13_act_30 oX15_act q1977 q1335 hcc q1976 (Or.inr hy_Deed_act) rfl rfl (Nat.le_of_ble_eq_true rfl) rfl hW hF hT kr kt
      · exact c_invV (vs := [.ref (w.1 3)]) dX13_act_30 oX26_act q2047 q1335 hcc q2046 (Or.inr hy_Deed_act) rfl rfl (Nat.le_of_ble_eq_true rfl) rfl hW hF hT kr kt
      · exact c_invV (vs := [.ref (w.1 3)]) dX13_act_30 oX27_act q1960 q1335 hcc q1959 (Or.inr hy_Deed_act) rfl rfl (Nat.le_of_ble_eq_true rfl) rfl hW hF hT kr kt
      · exact c_invV (vs := [.ref (w.1 3)]) dX13_act_30 oX28_act q1987 q1335 hcc q1986 (Or.inr hy_Deed_act) rfl rfl (Nat.le_of_ble_eq_true rfl) rfl hW hF hT kr kt
      · exact c_invV (vs := [.ref (w.1 3)]) dX13_act_30 oX29_act q2037 q1335 hcc q2036 (Or.inr hy_Deed_act) rfl rfl (Nat.le_of_ble_eq_true rfl) rfl hW hF hT kr kt
      · exact c_invV (vs := [.ref (w.1 3)]) dX13_act_30 oX30_act q1339 q1335 hcc q1338 (Or.inr hy_Deed_act) rfl rfl (Nat.le_of_ble_eq_true rfl) rfl hW hF hT kr kt
    · intro k s7 f8 hT h a hW hx hF
      exact c_out (rfl) hW hx hF hT
theorem vX14_init_0 {l : Launch} {E : EN} {w : CO} {d : Nat} {s : CS} {f : RH} {Q : KO → CS → RH → Prop} {x0 : Nat}  (hT : Q (.inl none) s f) : ExC l E w d MX14_init 0 [some (.ref x0)] [] s f Q := by
  intro f0 h hW hF
  refine x_aload_n dX14_init_0 rfl rfl rfl ?_
  refine x_objInit dX14_init_1 q865 q219 q220 (Nat.le_of_ble_eq_true rfl) rfl ?_
  exact x_vret dX14_init_4 rfl ⟨_, _, hW, hF, Or.inl ⟨_, rfl, hT⟩⟩
theorem eX14_init {l : Launch} {E : EN} {w : CO} {d : Nat} {s : CS} {f : RH} {Q : KO → CS → RH → Prop} {x0 : Nat}  (hst : l.stackTraces = false) (hT : Q (.inl none) s f) : EvC l E w d MX14_init [.ref x0] s f Q :=
  EvC.of hst (by decide) (Nat.le_of_ble_eq_true rfl) (vX14_init_0  hT)
theorem vX15_init_0 {l : Launch} {E : EN} {w : CO} {d : Nat} {s : CS} {f : RH} {Q : KO → CS → RH → Prop} {x0 : Nat}  (hT : (EvC l E w d MX14_init [.ref x0] s f (fun o s1 f2 => KP o (fun r => r = none ∧ Q (.inl none) s1 f2) (fun k => Q (.inr k) s1 f2)))) : ExC l E w (d + 1) MX15_init 0 [some (.ref x0)] [] s f Q := by
  intro f0 h hW hF
  refine x_aload_n dX15_init_0 rfl rfl rfl ?_
  refine c_invI (b := x0) (vs := []) dX15_init_1 oX14_init rfl rfl rfl q863 (Or.inr ⟨_, q862⟩) rfl rfl (Nat.le_of_ble_eq_true rfl) rfl hW hF hT ?_ ?_
  · intro _ s1 f2 hT h hW hF
    obtain ⟨rfl, hT⟩ := hT
    exact x_vret dX15_init_4 rfl ⟨_, _, hW, hF, Or.inl ⟨_, rfl, hT⟩⟩
  · intro k s1 f2 hT h a hW hx hF
    exact c_out (rfl) hW hx hF hT
theorem eX15_init {l : Launch} {E : EN} {w : CO} {d : Nat} {s : CS} {f : RH} {Q : KO → CS → RH → Prop} {x0 : Nat}  (hst : l.stackTraces = false) (hT : (EvC l E w d MX14_init [.ref x0] s f (fun o s1 f2 => KP o (fun r => r = none ∧ Q (.inl none) s1 f2) (fun k => Q (.inr k) s1 f2)))) : EvC l E w (d + 1) MX15_init [.ref x0] s f Q :=
  EvC.of hst (by decide) (Nat.le_of_ble_eq_true rfl) (vX15_init_0  hT)
set_option maxHeartbeats 16000000 in
theorem vX15_act_0 {l : Launch} {E : EN} {w : CO} {d : Nat} {s : CS} {f : RH} {Q : KO → CS → RH → Prop} {x0 : Nat}  (hT : (oc f x0 14 ∧ (∃ a1 : Nat, vl f x0 162 = .ref a1 ∧ (∃ P23 : KO → CS → RH → Prop, (∀ o s2 f3, P23 o s2 f3 → KP o (fun r => r = none ∧ (∃ k4 : Nat, oc f3 x0 k4 ∧ 161 ∈ CF k4 ∧ ¬ k4 = 30 ∧ (∃ v5 : Int32, vl f3 x0 161 = .int v5 ∧ (EvC l E w d MX3_isTrue [.ref (w.1 3), .int v5] s2 f3 (fun o s6 f7 => KP o (fun r => ∃ v8 : Int32, r = some (.int v8) ∧ ((v8 = 0 → (oc f7 x0 14 ∧ (∃ v9 : Value, vl f7 x0 164 = v9 ∧ isR v9 = true ∧ ((v9 = .null → Q (.inl (some (.int 0))) s6 f7) ∧ (∀ a10 : Nat, v9 = .ref a10 → (oc f7 x0 14 ∧ (∃ v11 : Value, vl f7 x0 164 = v11 ∧ isR v11 = true ∧ (∃ a14 : Nat, v11 = .ref a14 ∧ (oc f7 a14 13 ∧ EvC l E w d MX13_act [.ref a14, .ref (w.1 3)] s6 f7 (fun o s12 f13 => KP o (fun r => ∃ v15 : Int32, r = some (.int v15) ∧ ((v15 = 0 → Q (.inl (some (.int 0))) s12 f13) ∧ (¬ v15 = 0 → Q (.inl (some (.int 1))) s12 f13))) (fun k => Q (.inr k) s12 f13))))))))))) ∧ (¬ v8 = 0 → (oc f7 x0 14 ∧ (∃ a17 : Nat, vl f7 x0 163 = .ref a17 ∧ (oc f7 a17 13 ∧ EvC l E w d MX13_act [.ref a17, .ref (w.1 3)] s6 f7 (fun o s18 f19 => KP o (fun r => ∃ v20 : Int32, r = some (.int v20) ∧ (narrow .boolean (.int v20) = .int v20 ∧ Q (.inl (some (.int v20))) s18 f19)) (fun k => Q (.inr k) s18 f19)))))))) (fun k => Q (.inr k) s6 f7)))))) (fun k => Q (.inr k) s2 f3)) ∧ ∃ k22 : Nat, oc f a1 k22 ∧ ((k22 = 15 ∧ EvC l E w d MX17_work [.ref a1, .ref (w.1 3)] s f P23) ∨ (k22 = 16 ∧ EvC l E w d MX18_work [.ref a1, .ref (w.1 3)] s f P23) ∨ (k22 = 18 ∧ EvC l E w d MX20_work [.ref a1, .ref (w.1 3)] s f P23) ∨ (k22 = 19 ∧ EvC l E w d MX21_work [.ref a1, .ref (w.1 3)] s f P23) ∨ (k22 = 20 ∧ EvC l E w d MX22_work [.ref a1, .ref (w.1 3)] s f P23) ∨ (k22 = 21 ∧ EvC l E w d MX23_work [.ref a1, .ref (w.1 3)] s f P23) ∨ (k22 = 22 ∧ EvC l E w d MX24_work [.ref a1, .ref (w.1 3)] s f P23) ∨ (k22 = 23 ∧ EvC l E w d MX25_work [.ref a1, .ref (w.1 3)] s f P23)))))) : ExC l E w (d + 1) MX15_act 0 [some (.ref x0), some (.ref (w.1 3))] [] s f Q := by
  intro f0 h hW hF
  refine x_aload_n dX15_act_0 rfl rfl rfl ?_
  obtain ⟨hc, hT⟩ := hT
  obtain ⟨a1, ev, hT⟩ := hT
  refine c_fgetG dX15_act_1 f_TallySlate_If_7 hc (by decide) (by decide) hW ev ?_
  refine x_aload_n dX15_act_4 rfl rfl rfl ?_
  obtain ⟨P23, hP, k22, hc, hT⟩ := hT
  have kr : ∀ r s2 f3, P23 (.inl r) s2 f3 → ∀ h, CW E w s2 f3 h → Frz f0 f3 → Ex l E (d + 1) MX15_act (5 + 3) [some (.ref x0), some (.ref (w.1 3))] (r.toList ++ []) h (PoC E w f0 Q) := by
    intro r s2 f3 h0 h hW hF
    have hT := hP _ _ _ h0
    clear h0
    obtain ⟨rfl, hT⟩ := hT
    refine x_aload_n dX15_act_8 rfl rfl rfl ?_
    refine x_aload_n dX15_act_9 rfl rfl rfl ?_
    obtain ⟨k4, hc, hj, h30, hT⟩ := hT
    obtain ⟨v5, ev, hT⟩ := hT
    refine c_fgetG dX15_act_10 f_TallySlate_If_19 hc hj (fun z => absurd z h30) hW ev ?_
    obtain ⟨-, -, cc, hcc, -⟩ := hW.ob 3 (by decide)
    refine c_invV (vs := [.int v5]) dX15_act_13 oX3_isTrue q1981 q1980 hcc q1982 (Or.inl rfl) rfl rfl (Nat.le_of_ble_eq_true rfl) rfl hW hF hT ?_ ?_
    · intro _ s6 f7 hT h hW hF
      obtain ⟨v8, rfl, hT⟩ := hT
      refine x_if_eq (tgt := 28) dX15_act_16 rfl (fun c => ?_) (fun c => ?_)
      · replace hT := hT.1 c
        refine x_aload_n dX15_act_28 rfl rfl rfl ?_
        obtain ⟨hc, hT⟩ := hT
        obtain ⟨v9, ev, iv9, hT⟩ := hT
        refine c_fgetG dX15_act_29 f_TallySlate_If_39 hc (by decide) (by decide) hW ev ?_
        refine x_ifnull (tgt := 50) dX15_act_32 rfl iv9 (fun e => ?_) (fun a10 e => ?_)
        · subst e
          replace hT := hT.1 rfl
          refine x_iconst (v := 0) dX15_act_50 rfl ?_
          exact x_iret dX15_act_51 rfl rfl ⟨_, _, hW, hF, Or.inl ⟨_, rfl, hT⟩⟩
        · subst e
          replace hT := hT.2 a10 rfl
          refine x_aload_n dX15_act_35 rfl rfl rfl ?_
          obtain ⟨hc, hT⟩ := hT
          obtain ⟨v11, ev, iv11, hT⟩ := hT
          refine c_fgetG dX15_act_36 f_TallySlate_If_39 hc (by decide) (by decide) hW ev ?_
          refine x_aload_n dX15_act_39 rfl rfl rfl ?_
          obtain ⟨a14, rfl, hT⟩ := hT
          obtain ⟨hc, hT⟩ := hT
          obtain ⟨cc, hcc⟩ := hW.ocell hc
          refine c_invV (vs := [.ref (w.1 3)]) dX15_act_40 oX13_act q1328 q1985 hcc q1329 (Or.inl rfl) rfl rfl (Nat.le_of_ble_eq_true rfl) rfl hW hF hT ?_ ?_
          · intro _ s12 f13 hT h hW hF
            obtain ⟨v15, rfl, hT⟩ := hT
            refine x_if_eq (tgt := 50) dX15_act_43 rfl (fun c => ?_) (fun c => ?_)
            · replace hT := hT.1 c
              refine x_iconst (v := 0) dX15_act_50 rfl ?_
              exact x_iret dX15_act_51 rfl rfl ⟨_, _, hW, hF, Or.inl ⟨_, rfl, hT⟩⟩
            · replace hT := hT.2 c
              refine x_iconst (v := 1) dX15_act_46 rfl ?_
              refine x_goto (tgt := 51) dX15_act_47 rfl ?_
              exact x_iret dX15_act_51 rfl rfl ⟨_, _, hW, hF, Or.inl ⟨_, rfl, hT⟩⟩
          · intro k s12 f13 hT h a hW hx hF
            exact c_out (rfl) hW hx hF hT
      · replace hT := hT.2 c
        refine x_aload_n dX15_act_19 rfl rfl rfl ?_
        obtain ⟨hc, hT⟩ := hT
        obtain ⟨a17, ev, hT⟩ := hT
        refine c_fgetG dX15_act_20 f_TallySlate_If_29 hc (by decide) (by decide) hW ev ?_
        refine x_aload_n dX15_act_23 rfl rfl rfl ?_
        obtain ⟨hc, hT⟩ := hT
        obtain ⟨cc, hcc⟩ := hW.ocell hc
        refine c_invV (vs := [.ref (w.1 3)]) dX15_act_24 oX13_act q1328 q1985 hcc q1329 (Or.inl rfl) rfl rfl (Nat.le_of_ble_eq_true rfl) rfl hW hF hT ?_ ?_
        · intro _ s18 f19 hT h hW hF
          obtain ⟨v20, rfl, hT⟩ := hT
          exact x_iret dX15_act_27 rfl hT.1 ⟨_, _, hW, hF, Or.inl ⟨_, rfl, hT.2⟩⟩
        · intro k s18 f19 hT h a hW hx hF
          exact c_out (rfl) hW hx hF hT
    · intro k s6 f7 hT h a hW hx hF
      exact c_out (rfl) hW hx hF hT
  have kt : ∀ k s2 f3, P23 (.inr k) s2 f3 → ∀ h a, CW E w s2 f3 h → xA w h k a → Frz f0 f3 → ExT l E (d + 1) MX15_act 5 [some (.ref x0), some (.ref (w.1 3))] [] a h (PoC E w f0 Q) := by
    intro k s2 f3 h0 h a hW hx hF
    have hT := hP _ _ _ h0
    clear h0
    exact c_out (rfl) hW hx hF hT
  obtain ⟨cc, hcc⟩ := hW.ocell hc
  rcases hT with ⟨rfl, hT⟩ | ⟨rfl, hT⟩ | ⟨rfl, hT⟩ | ⟨rfl, hT⟩ | ⟨rfl, hT⟩ | ⟨rfl, hT⟩ | ⟨rfl, hT⟩ | ⟨rfl, hT⟩
  · exact c_invV (vs := [.ref (w.1 3)]) dX15_act_5 oX17_work q1367 q1979 hcc q1931 (Or.inr hy_Node_work) rfl rfl (Nat.le_of_ble_eq_true rfl) rfl hW hF hT kr kt
  · exact c_invV (vs := [.ref (w.1 3)]) dX15_act_5 oX18_work q1354 q1979 hcc q1929 (Or.inr hy_Node_work) rfl rfl (Nat.le_of_ble_eq_true rfl) rfl hW hF hT kr kt
  · exact c_invV (vs := [.ref (w.1 3)]) dX15_act_5 oX20_work q1345 q1979 hcc q1344 (Or.inr hy_Node_work) rfl rfl (Nat.le_of_ble_eq_true rfl) rfl hW hF hT kr kt
  · exact c_invV (vs := [.ref (w.1 3)]) dX15_act_5 oX21_work q1348 q1979 hcc q1927 (Or.inr hy_Node_work) rfl rfl (Nat.le_of_ble_eq_true rfl) rfl hW hF hT kr kt
  · exact c_invV (vs := [.ref (w.1 3)]) dX15_act_5 oX22_work q1357 q1979 hcc q1930 (Or.inr hy_Node_work) rfl rfl (Nat.le_of_ble_eq_true rfl) rfl hW hF hT kr kt
  · exact c_invV (vs := [.ref (w.1 3)]) dX15_act_5 oX23_work q1370 q1979 hcc q1932 (Or.inr hy_Node_work) rfl rfl (Nat.le_of_ble_eq_true rfl) rfl hW hF hT kr kt
  · exact c_invV (vs := [.ref (w.1 3)]) dX15_act_5 oX24_work q1373 q1979 hcc q1933 (Or.inr hy_Node_work) rfl rfl (Nat.le_of_ble_eq_true rfl) rfl hW hF hT kr kt
  · exact c_invV (vs := [.ref (w.1 3)]) dX15_act_5 oX25_work q1351 q1979 hcc q1928 (Or.inr hy_Node_work) rfl rfl (Nat.le_of_ble_eq_true rfl) rfl hW hF hT kr kt
theorem eX15_act {l : Launch} {E : EN} {w : CO} {d : Nat} {s : CS} {f : RH} {Q : KO → CS → RH → Prop} {x0 : Nat}  (hst : l.stackTraces = false) (hT : (oc f x0 14 ∧ (∃ a1 : Nat, vl f x0 162 = .ref a1 ∧ (∃ P23 : KO → CS → RH → Prop, (∀ o s2 f3, P23 o s2 f3 → KP o (fun r => r = none ∧ (∃ k4 : Nat, oc f3 x0 k4 ∧ 161 ∈ CF k4 ∧ ¬ k4 = 30 ∧ (∃ v5 : Int32, vl f3 x0 161 = .int v5 ∧ (EvC l E w d MX3_isTrue [.ref (w.1 3), .int v5] s2 f3 (fun o s6 f7 => KP o (fun r => ∃ v8 : Int32, r = some (.int v8) ∧ ((v8 = 0 → (oc f7 x0 14 ∧ (∃ v9 : Value, vl f7 x0 164 = v9 ∧ isR v9 = true ∧ ((v9 = .null → Q (.inl (some (.int 0))) s6 f7) ∧ (∀ a10 : Nat, v9 = .ref a10 → (oc f7 x0 14 ∧ (∃ v11 : Value, vl f7 x0 164 = v11 ∧ isR v11 = true ∧ (∃ a14 : Nat, v11 = .ref a14 ∧ (oc f7 a14 13 ∧ EvC l E w d MX13_act [.ref a14, .ref (w.1 3)] s6 f7 (fun o s12 f13 => KP o (fun r => ∃ v15 : Int32, r = some (.int v15) ∧ ((v15 = 0 → Q (.inl (some (.int 0))) s12 f13) ∧ (¬ v15 = 0 → Q (.inl (some (.int 1))) s12 f13))) (fun k => Q (.inr k) s12 f13))))))))))) ∧ (¬ v8 = 0 → (oc f7 x0 14 ∧ (∃ a17 : Nat, vl f7 x0 163 = .ref a17 ∧ (oc f7 a17 13 ∧ EvC l E w d MX13_act [.ref a17, .ref (w.1 3)] s6 f7 (fun o s18 f19 => KP o (fun r => ∃ v20 : Int32, r = some (.int v20) ∧ (narrow .boolean (.int v20) = .int v20 ∧ Q (.inl (some (.int v20))) s18 f19)) (fun k => Q (.inr k) s18 f19)))))))) (fun k => Q (.inr k) s6 f7)))))) (fun k => Q (.inr k) s2 f3)) ∧ ∃ k22 : Nat, oc f a1 k22 ∧ ((k22 = 15 ∧ EvC l E w d MX17_work [.ref a1, .ref (w.1 3)] s f P23) ∨ (k22 = 16 ∧ EvC l E w d MX18_work [.ref a1, .ref (w.1 3)] s f P23) ∨ (k22 = 18 ∧ EvC l E w d MX20_work [.ref a1, .ref (w.1 3)] s f P23) ∨ (k22 = 19 ∧ EvC l E w d MX21_work [.ref a1, .ref (w.1 3)] s f P23) ∨ (k22 = 20 ∧ EvC l E w d MX22_work [.ref a1, .ref (w.1 3)] s f P23) ∨ (k22 = 21 ∧ EvC l E w d MX23_work [.ref a1, .ref (w.1 3)] s f P23) ∨ (k22 = 22 ∧ EvC l E w d MX24_work [.ref a1, .ref (w.1 3)] s f P23) ∨ (k22 = 23 ∧ EvC l E w d MX25_work [.ref a1, .ref (w.1 3)] s f P23)))))) : EvC l E w (d + 1) MX15_act [.ref x0, .ref (w.1 3)] s f Q :=
  EvC.of hst (by decide) (Nat.le_of_ble_eq_true rfl) (vX15_act_0  hT)
theorem vX16_init_0 {l : Launch} {E : EN} {w : CO} {d : Nat} {s : CS} {f : RH} {Q : KO → CS → RH → Prop} {x0 : Nat}  (hT : Q (.inl none) s f) : ExC l E w d MX16_init 0 [some (.ref x0)] [] s f Q := by
  intro f0 h hW hF
  refine x_aload_n dX16_init_0 rfl rfl rfl ?_
  refine x_objInit dX16_init_1 q919 q219 q220 (Nat.le_of_ble_eq_true rfl) rfl ?_
  exact x_vret dX16_init_4 rfl ⟨_, _, hW, hF, Or.inl ⟨_, rfl, hT⟩⟩
theorem eX16_init {l : Launch} {E : EN} {w : CO} {d : Nat} {s : CS} {f : RH} {Q : KO → CS → RH → Prop} {x0 : Nat}  (hst : l.stackTraces = false) (hT : Q (.inl none) s f) : EvC l E w d MX16_init [.ref x0] s f Q :=
  EvC.of hst (by decide) (Nat.le_of_ble_eq_true rfl) (vX16_init_0  hT)
theorem vX17_init_0 {l : Launch} {E : EN} {w : CO} {d : Nat} {s : CS} {f : RH} {Q : KO → CS → RH → Prop} {x0 : Nat} {x1 : Int32}  (hT : (EvC l E w d MX16_init [.ref x0] s f (fun o s1 f2 => KP o (fun r => r = none ∧ (oc f2 x0 15 ∧ f2.2.2.2 ≤ x0 ∧ ∀ f3 : RH, f3 = fset f2 x0 166 (.int x1) → Q (.inl none) s1 f3)) (fun k => Q (.inr k) s1 f2)))) : ExC l E w (d + 1) MX17_init 0 [some (.ref x0), some (.int x1)] [] s f Q := by
  intro f0 h hW hF
  refine x_aload_n dX17_init_0 rfl rfl rfl ?_
  refine c_invI (b := x0) (vs := []) dX17_init_1 oX16_init rfl rfl rfl q917 (Or.inr ⟨_, q916⟩) rfl rfl (Nat.le_of_ble_eq_true rfl) rfl hW hF hT ?_ ?_
  · intro _ s1 f2 hT h hW hF
    obtain ⟨rfl, hT⟩ := hT
    refine x_aload_n dX17_init_4 rfl rfl rfl ?_
    refine x_iload_n dX17_init_5 rfl rfl ?_
    obtain ⟨hc, hz, hT⟩ := hT
    refine c_fputG dX17_init_6 f_TallySlate_Numeral_7 hc (by decide) (by decide) hz (Or.inr ⟨rfl, rfl⟩) rfl rfl hW hF ?_
    intro f3 ef3 h hW hF
    replace hT := hT f3 ef3
    exact x_vret dX17_init_9 rfl ⟨_, _, hW, hF, Or.inl ⟨_, rfl, hT⟩⟩
  · intro k s1 f2 hT h a hW hx hF
    exact c_out (rfl) hW hx hF hT
theorem eX17_init {l : Launch} {E : EN} {w : CO} {d : Nat} {s : CS} {f : RH} {Q : KO → CS → RH → Prop} {x0 : Nat} {x1 : Int32}  (hst : l.stackTraces = false) (hT : (EvC l E w d MX16_init [.ref x0] s f (fun o s1 f2 => KP o (fun r => r = none ∧ (oc f2 x0 15 ∧ f2.2.2.2 ≤ x0 ∧ ∀ f3 : RH, f3 = fset f2 x0 166 (.int x1) → Q (.inl none) s1 f3)) (fun k => Q (.inr k) s1 f2)))) : EvC l E w (d + 1) MX17_init [.ref x0, .int x1] s f Q :=
  EvC.of hst (by decide) (Nat.le_of_ble_eq_true rfl) (vX17_init_0  hT)
theorem vX17_work_0 {l : Launch} {E : EN} {w : CO} {d : Nat} {s : CS} {f : RH} {Q : KO → CS → RH → Prop} {x0 : Nat}  (hT : (oc f x0 15 ∧ (∃ v1 : Int32, vl f x0 166 = .int v1 ∧ (EvC l E w d MX3_push [.ref (w.1 3), .int v1] s f (fun o s2 f3 => KP o (fun r => r = none ∧ Q (.inl none) s2 f3) (fun k => Q (.inr k) s2 f3)))))) : ExC l E w (d + 1) MX17_work 0 [some (.ref x0), some (.ref (w.1 3))] [] s f Q := by
  intro f0 h hW hF
  refine x_aload_n dX17_work_0 rfl rfl rfl ?_
  refine x_aload_n dX17_work_1 rfl rfl rfl ?_
  obtain ⟨hc, hT⟩ := hT
  obtain ⟨v1, ev, hT⟩ := hT
  refine c_fgetG dX17_work_2 f_TallySlate_Numeral_7 hc (by decide) (by decide) hW ev ?_
  obtain ⟨-, -, cc, hcc, -⟩ := hW.ob 3 (by decide)
  refine c_invV (vs := [.int v1]) dX17_work_5 oX3_push q1364 q1369 hcc q1365 (Or.inl rfl) rfl rfl (Nat.le_of_ble_eq_true rfl) rfl hW hF hT ?_ ?_
  · intro _ s2 f3 hT h hW hF
    obtain ⟨rfl, hT⟩ := hT
    exact x_vret dX17_work_8 rfl ⟨_, _, hW, hF, Or.inl ⟨_, rfl, hT⟩⟩
  · intro k s2 f3 hT h a hW hx hF
    exact c_out (rfl) hW hx hF hT
theorem eX17_work {l : Launch} {E : EN} {w : CO} {d : Nat} {s : CS} {f : RH} {Q : KO → CS → RH → Prop} {x0 : Nat}  (hst : l.stackTraces = false) (hT : (oc f x0 15 ∧ (∃ v1 : Int32, vl f x0 166 = .int v1 ∧ (EvC l E w d MX3_push [.ref (w.1 3), .int v1] s f (fun o s2 f3 => KP o (fun r => r = none ∧ Q (.inl none) s2 f3) (fun k => Q (.inr k) s2 f3)))))) : EvC l E w (d + 1) MX17_work [.ref x0, .ref (w.1 3)] s f Q :=
  EvC.of hst (by decide) (Nat.le_of_ble_eq_true rfl) (vX17_work_0  hT)
theorem vX18_init_0 {l : Launch} {E : EN} {w : CO} {d : Nat} {s : CS} {f : RH} {Q : KO → CS → RH → Prop} {x0 : Nat}  (hT : (EvC l E w d MX16_init [.ref x0] s f (fun o s1 f2 => KP o (fun r => r = none ∧ (rmF E f2 1 4 ∧ ∀ (a3 : Nat) (f4 : RH), a3 = f2.1 → f4 = fnew f2 17 → (EvC l E w d MX19_init [.ref a3] s1 f4 (fun o s5 f6 => KP o (fun r => r = none ∧ (oc f6 x0 16 ∧ f6.2.2.2 ≤ x0 ∧ ∀ f7 : RH, f7 = fset f6 x0 167 (.ref a3) → Q (.inl none) s5 f7)) (fun k => Q (.inr k) s5 f6))))) (fun k => Q (.inr k) s1 f2)))) : ExC l E w (d + 1) MX18_init 0 [some (.ref x0)] [] s f Q := by
  intro f0 h hW hF
  refine x_aload_n dX18_init_0 rfl rfl rfl ?_
  refine c_invI (b := x0) (vs := []) dX18_init_1 oX16_init rfl rfl rfl q917 (Or.inr ⟨_, q949⟩) rfl rfl (Nat.le_of_ble_eq_true rfl) rfl hW hF hT ?_ ?_
  · intro _ s1 f2 hT h hW hF
    obtain ⟨rfl, hT⟩ := hT
    refine x_aload_n dX18_init_4 rfl rfl rfl ?_
    obtain ⟨hr, hT⟩ := hT
    refine c_newG (k := 17) dX18_init_5 (by decide) q950 q192 hr hW hF ?_
    intro a3 f4 ea3 ef4 h hW hF
    replace hT := hT a3 f4 ea3 ef4
    refine x_dup dX18_init_8 rfl ?_
    refine c_invI (b := a3) (vs := []) dX18_init_9 oX19_init rfl rfl rfl q953 (Or.inr ⟨_, q952⟩) rfl rfl (Nat.le_of_ble_eq_true rfl) rfl hW hF hT ?_ ?_
    · intro _ s5 f6 hT h hW hF
      obtain ⟨rfl, hT⟩ := hT
      obtain ⟨hc, hz, hT⟩ := hT
      refine c_fputG dX18_init_12 f_TallySlate_Literal_10 hc (by decide) (by decide) hz (Or.inr ⟨rfl, rfl⟩) rfl rfl hW hF ?_
      intro f7 ef7 h hW hF
      replace hT := hT f7 ef7
      exact x_vret dX18_init_15 rfl ⟨_, _, hW, hF, Or.inl ⟨_, rfl, hT⟩⟩
    · intro k s5 f6 hT h a hW hx hF
      exact c_out (rfl) hW hx hF hT
  · intro k s1 f2 hT h a hW hx hF
    exact c_out (rfl) hW hx hF hT
theorem eX18_init {l : Launch} {E : EN} {w : CO} {d : Nat} {s : CS} {f : RH} {Q : KO → CS → RH → Prop} {x0 : Nat}  (hst : l.stackTraces = false) (hT : (EvC l E w d MX16_init [.ref x0] s f (fun o s1 f2 => KP o (fun r => r = none ∧ (rmF E f2 1 4 ∧ ∀ (a3 : Nat) (f4 : RH), a3 = f2.1 → f4 = fnew f2 17 → (EvC l E w d MX19_init [.ref a3] s1 f4 (fun o s5 f6 => KP o (fun r => r = none ∧ (oc f6 x0 16 ∧ f6.2.2.2 ≤ x0 ∧ ∀ f7 : RH, f7 = fset f6 x0 167 (.ref a3) → Q (.inl none) s5 f7)) (fun k => Q (.inr k) s5 f6))))) (fun k => Q (.inr k) s1 f2)))) : EvC l E w (d + 1) MX18_init [.ref x0] s f Q :=
  EvC.of hst (by decide) (Nat.le_of_ble_eq_true rfl) (vX18_init_0  hT)
theorem vX18_work_0 {l : Launch} {E : EN} {w : CO} {d : Nat} {s : CS} {f : RH} {Q : KO → CS → RH → Prop} {x0 : Nat}  (hT : ExC l E w (d + 1) MX18_work 2 [some (.ref x0), some (.ref (w.1 3)), some (.int 0)] [] s f Q) : ExC l E w (d + 1) MX18_work 0 [some (.ref x0), some (.ref (w.1 3)), none] [] s f Q := by
  intro f0 h hW hF
  refine x_iconst (v := 0) dX18_work_0 rfl ?_
  refine x_istore_n (lo' := [some (.ref x0), some (.ref (w.1 3)), some (.int 0)]) dX18_work_1 rfl (Nat.le_of_ble_eq_true rfl) rfl ?_
  exact hT f0 h hW hF
theorem eX18_work {l : Launch} {E : EN} {w : CO} {d : Nat} {s : CS} {f : RH} {Q : KO → CS → RH → Prop} {x0 : Nat}  (hst : l.stackTraces = false) (hT : ExC l E w (d + 1) MX18_work 2 [some (.ref x0), some (.ref (w.1 3)), some (.int 0)] [] s f Q) : EvC l E w (d + 1) MX18_work [.ref x0, .ref (w.1 3)] s f Q :=
  EvC.of hst (by decide) (Nat.le_of_ble_eq_true rfl) (vX18_work_0  hT)
set_option maxHeartbeats 16000000 in
theorem vX18_work_2 {l : Launch} {E : EN} {w : CO} {d : Nat} {s : CS} {f : RH} {Q : KO → CS → RH → Prop} {b0 : Nat} {b2 : Int32}  (hT : (oc f b0 16 ∧ (∃ a1 : Nat, vl f b0 167 = .ref a1 ∧ (oc f a1 17 ∧ (∃ v2 : Int32, vl f a1 171 = .int v2 ∧ ((v2 ≤ b2 → (∃ k3 : Nat, oc f b0 k3 ∧ 165 ∈ CF k3 ∧ ¬ k3 = 30 ∧ (∃ v4 : Int32, vl f b0 165 = .int v4 ∧ (EvC l E w d MX3_step [.ref (w.1 3), .int v4] s f (fun o s5 f6 => KP o (fun r => r = none ∧ (oc f6 b0 16 ∧ (∃ a7 : Nat, vl f6 b0 167 = .ref a7 ∧ (oc f6 a7 17 ∧ (∃ v8 : Int32, vl f6 a7 171 = .int v8 ∧ (∃ k9 : Nat, oc f6 b0 k9 ∧ 165 ∈ CF k9 ∧ ¬ k9 = 30 ∧ (∃ v10 : Int32, vl f6 b0 165 = .int v10 ∧ (EvC l E w d MX3_literal [.ref (w.1 3), .int v8, .int v10] s5 f6 (fun o s11 f12 => KP o (fun r => r = none ∧ Q (.inl none) s11 f12) (fun k => Q (.inr k) s11 f12)))))))))) (fun k => Q (.inr k) s5 f6)))))) ∧ (¬ v2 ≤ b2 → (oc f b0 16 ∧ (∃ a13 : Nat, vl f b0 167 = .ref a13 ∧ (oc f a13 17 ∧ (∃ a14 : Nat, vl f a13 168 = .ref a14 ∧ (∃ t15 : Nat, 4 ≤ t15 ∧ (tg f a14 = some (.inr t15) ∧ inB b2 (ln f a14) ∧ (∃ a16 : Nat, vl f a14 b2.toNatClampNeg = .ref a16 ∧ (∃ P20 : KO → CS → RH → Prop, (∀ o s17 f18, P20 o s17 f18 → KP o (fun r => r = none ∧ ExC l E w (d + 1) MX18_work 2 [some (.ref b0), some (.ref (w.1 3)), some (.int (b2 + 1))] [] s17 f18 Q) (fun k => Q (.inr k) s17 f18)) ∧ ∃ k19 : Nat, oc f a16 k19 ∧ ((k19 = 15 ∧ EvC l E w d MX17_work [.ref a16, .ref (w.1 3)] s f P20) ∨ (k19 = 16 ∧ EvC l E w d MX18_work [.ref a16, .ref (w.1 3)] s f P20) ∨ (k19 = 18 ∧ EvC l E w d MX20_work [.ref a16, .ref (w.1 3)] s f P20) ∨ (k19 = 19 ∧ EvC l E w d MX21_work [.ref a16, .ref (w.1 3)] s f P20) ∨ (k19 = 20 ∧ EvC l E w d MX22_work [.ref a16, .ref (w.1 3)] s f P20) ∨ (k19 = 21 ∧ EvC l E w d MX23_work [.ref a16, .ref (w.1 3)] s f P20) ∨ (k19 = 22 ∧ EvC l E w d MX24_work [.ref a16, .ref (w.1 3)] s f P20) ∨ (k19 = 23 ∧ EvC l E w d MX25_work [.ref a16, .ref (w.1 3)] s f P20))))))))))))))))) : ExC l E w (d + 1) MX18_work 2 [some (.ref b0), some (.ref (w.1 3)), some (.int b2)] [] s f Q := by
  intro f0 h hW hF
  refine x_iload_n dX18_work_2 rfl rfl ?_
  refine x_aload_n dX18_work_3 rfl rfl rfl ?_
  obtain ⟨hc, hT⟩ := hT
  obtain ⟨a1, ev, hT⟩ := hT
  refine c_fgetG dX18_work_4 f_TallySlate_Literal_10 hc (by decide) (by decide) hW ev ?_
  obtain ⟨hc, hT⟩ := hT
  obtain ⟨v2, ev, hT⟩ := hT
  refine c_fgetG dX18_work_7 f_TallySlate_Literal_16 hc (by decide) (by decide) hW ev ?_
  refine x_icmp_ge (tgt := 32) dX18_work_10 rfl (fun c => ?_) (fun c => ?_)
  · replace hT := hT.1 c
    refine x_aload_n dX18_work_32 rfl rfl rfl ?_
    refine x_aload_n dX18_work_33 rfl rfl rfl ?_
    obtain ⟨k3, hc, hj, h30, hT⟩ := hT
    obtain ⟨v4, ev, hT⟩ := hT
    refine c_fgetG dX18_work_34 f_TallySlate_Literal_28 hc hj (fun z => absurd z h30) hW ev ?_
    obtain ⟨-, -, cc, hcc, -⟩ := hW.ob 3 (by decide)
    refine c_invV (vs := [.int v4]) dX18_work_37 oX3_step q1332 q1604 hcc q1333 (Or.inl rfl) rfl rfl (Nat.le_of_ble_eq_true rfl) rfl hW hF hT ?_ ?_
    · intro _ s5 f6 hT h hW hF
      obtain ⟨rfl, hT⟩ := hT
      refine x_aload_n dX18_work_40 rfl rfl rfl ?_
      refine x_aload_n dX18_work_41 rfl rfl rfl ?_
      obtain ⟨hc, hT⟩ := hT
      obtain ⟨a7, ev, hT⟩ := hT
      refine c_fgetG dX18_work_42 f_TallySlate_Literal_10 hc (by decide) (by decide) hW ev ?_
      obtain ⟨hc, hT⟩ := hT
      obtain ⟨v8, ev, hT⟩ := hT
      refine c_fgetG dX18_work_45 f_TallySlate_Literal_16 hc (by decide) (by decide) hW ev ?_
      refine x_aload_n dX18_work_48 rfl rfl rfl ?_
      obtain ⟨k9, hc, hj, h30, hT⟩ := hT
      obtain ⟨v10, ev, hT⟩ := hT
      refine c_fgetG dX18_work_49 f_TallySlate_Literal_28 hc hj (fun z => absurd z h30) hW ev ?_
      obtain ⟨-, -, cc, hcc, -⟩ := hW.ob 3 (by decide)
      refine c_invV (vs := [.int v8, .int v10]) dX18_work_52 oX3_literal q1606 q1605 hcc q1607 (Or.inl rfl) rfl rfl (Nat.le_of_ble_eq_true rfl) rfl hW hF hT ?_ ?_
      · intro _ s11 f12 hT h hW hF
        obtain ⟨rfl, hT⟩ := hT
        exact x_vret dX18_work_55 rfl ⟨_, _, hW, hF, Or.inl ⟨_, rfl, hT⟩⟩
      · intro k s11 f12 hT h a hW hx hF
        exact c_out (rfl) hW hx hF hT
    · intro k s5 f6 hT h a hW hx hF
      exact c_out (rfl) hW hx hF hT
  · replace hT := hT.2 c
    refine x_aload_n dX18_work_13 rfl rfl rfl ?_
    obtain ⟨hc, hT⟩ := hT
    obtain ⟨a13, ev, hT⟩ := hT
    refine c_fgetG dX18_work_14 f_TallySlate_Literal_10 hc (by decide) (by decide) hW ev ?_
    obtain ⟨hc, hT⟩ := hT
    obtain ⟨a14, ev, hT⟩ := hT
    refine c_fgetG dX18_work_17 f_TallySlate_Literal_20 hc (by decide) (by decide) hW ev ?_
    refine x_iload_n dX18_work_20 rfl rfl ?_
    obtain ⟨t15, ht2, hc, hT⟩ := hT
    obtain ⟨hb, hT⟩ := hT
    obtain ⟨a16, ev, hT⟩ := hT
    refine c_faald dX18_work_21 hc ht2 hb hW ev ?_
    refine x_aload_n dX18_work_22 rfl rfl rfl ?_
    obtain ⟨P20, hP, k19, hc, hT⟩ := hT
    have kr : ∀ r s17 f18, P20 (.inl r) s17 f18 → ∀ h, CW E w s17 f18 h → Frz f0 f18 → Ex l E (d + 1) MX18_work (23 + 3) [some (.ref b0), some (.ref (w.1 3)), some (.int b2)] (r.toList ++ []) h (PoC E w f0 Q) := by
      intro r s17 f18 h0 h hW hF
      have hT := hP _ _ _ h0
      clear h0
      obtain ⟨rfl, hT⟩ := hT
      refine x_iinc (lo' := [some (.ref b0), some (.ref (w.1 3)), some (.int (b2 + 1))]) dX18_work_26 rfl (show _ = (b2 + 1) from rfl) rfl ?_
      refine x_goto (tgt := 2) dX18_work_29 rfl ?_
      exact hT f0 h hW hF
    have kt : ∀ k s17 f18, P20 (.inr k) s17 f18 → ∀ h a, CW E w s17 f18 h → xA w h k a → Frz f0 f18 → ExT l E (d + 1) MX18_work 23 [some (.ref b0), some (.ref (w.1 3)), some (.int b2)] [] a h (PoC E w f0 Q) := by
      intro k s17 f18 h0 h a hW hx hF
      have hT := hP _ _ _ h0
      clear h0
      exact c_out (rfl) hW hx hF hT
    obtain ⟨cc, hcc⟩ := hW.ocell hc
    rcases hT with ⟨rfl, hT⟩ | ⟨rfl, hT⟩ | ⟨rfl, hT⟩ | ⟨rfl, hT⟩ | ⟨rfl, hT⟩ | ⟨rfl, hT⟩ | ⟨rfl, hT⟩ | ⟨rfl, hT⟩
    · exact c_invV (vs := [.ref (w.1 3)]) dX18_work_23 oX17_work q1367 q1356 hcc q1931 (Or.inr hy_Node_work) rfl rfl (Nat.le_of_ble_eq_true rfl) rfl hW hF hT kr kt
    · exact c_invV (vs := [.ref (w.1 3)]) dX18_work_23 oX18_work q1354 q1356 hcc q1929 (Or.inr hy_Node_work) rfl rfl (Nat.le_of_ble_eq_true rfl) rfl hW hF hT kr kt
    · exact c_invV (vs := [.ref (w.1 3)]) dX18_work_23 oX20_work q1345 q1356 hcc q1344 (Or.inr hy_Node_work) rfl rfl (Nat.le_of_ble_eq_true rfl) rfl hW hF hT kr kt
    · exact c_invV (vs := [.ref (w.1 3)]) dX18_work_23 oX21_work q1348 q1356 hcc q1927 (Or.inr hy_Node_work) rfl rfl (Nat.le_of_ble_eq_true rfl) rfl hW hF hT kr kt
    · exact c_invV (vs := [.ref (w.1 3)]) dX18_work_23 oX22_work q1357 q1356 hcc q1930 (Or.inr hy_Node_work) rfl rfl (Nat.le_of_ble_eq_true rfl) rfl hW hF hT kr kt
    · exact c_invV (vs := [.ref (w.1 3)]) dX18_work_23 oX23_work q1370 q1356 hcc q1932 (Or.inr hy_Node_work) rfl rfl (Nat.le_of_ble_eq_true rfl) rfl hW hF hT kr kt
    · exact c_invV (vs := [.ref (w.1 3)]) dX18_work_23 oX24_work q1373 q1356 hcc q1933 (Or.inr hy_Node_work) rfl rfl (Nat.le_of_ble_eq_true rfl) rfl hW hF hT kr kt
    · exact c_invV (vs := [.ref (w.1 3)]) dX18_work_23 oX25_work q1351 q1356 hcc q1928 (Or.inr hy_Node_work) rfl rfl (Nat.le_of_ble_eq_true rfl) rfl hW hF hT kr kt
theorem vX19_init_0 {l : Launch} {E : EN} {w : CO} {d : Nat} {s : CS} {f : RH} {Q : KO → CS → RH → Prop} {x0 : Nat}  (hT : ((2 : Int32).toNatClampNeg ≤ 60000000 ∧ rmF E f 1 (2 : Int32).toNatClampNeg ∧ ∀ (a1 : Nat) (f2 : RH), a1 = f.1 → f2 = fnewA f 5 (2 : Int32).toNatClampNeg → (oc f2 x0 17 ∧ f2.2.2.2 ≤ x0 ∧ ∀ f3 : RH, f3 = fset f2 x0 168 (.ref a1) → ((2 : Int32).toNatClampNeg ≤ 60000000 ∧ rmF E f3 1 (2 : Int32).toNatClampNeg ∧ ∀ (a4 : Nat) (f5 : RH), a4 = f3.1 → f5 = fnewA f3 0 (2 : Int32).toNatClampNeg → (oc f5 x0 17 ∧ f5.2.2.2 ≤ x0 ∧ ∀ f6 : RH, f6 = fset f5 x0 169 (.ref a4) → ((2 : Int32).toNatClampNeg ≤ 60000000 ∧ rmF E f6 1 (2 : Int32).toNatClampNeg ∧ ∀ (a7 : Nat) (f8 : RH), a7 = f6.1 → f8 = fnewA f6 0 (2 : Int32).toNatClampNeg → (oc f8 x0 17 ∧ f8.2.2.2 ≤ x0 ∧ ∀ f9 : RH, f9 = fset f8 x0 170 (.ref a7) → Q (.inl none) s f9))))))) : ExC l E w d MX19_init 0 [some (.ref x0)] [] s f Q := by
  intro f0 h hW hF
  refine x_aload_n dX19_init_0 rfl rfl rfl ?_
  refine x_objInit dX19_init_1 q955 q219 q220 (Nat.le_of_ble_eq_true rfl) rfl ?_
  refine x_aload_n dX19_init_4 rfl rfl rfl ?_
  refine x_iconst (v := 2) dX19_init_5 rfl ?_
  have hn : ¬ ((2 : Int32) < 0) := by decide
  obtain ⟨hb, hr, hT⟩ := hT
  refine c_anewarrayG (t := 5) dX19_init_6 (by decide) (by decide) (by decide) rfl q957 (Or.inl ⟨_, rfl, q956⟩) hn hb hr hW hF ?_
  intro a1 f2 ea1 ef2 h hW hF
  replace hT := hT a1 f2 ea1 ef2
  obtain ⟨hc, hz, hT⟩ := hT
  refine c_fputG dX19_init_9 f_TallySlate_Nodes_9 hc (by decide) (by decide) hz (Or.inl rfl) rfl rfl hW hF ?_
  intro f3 ef3 h hW hF
  replace hT := hT f3 ef3
  refine x_aload_n dX19_init_12 rfl rfl rfl ?_
  refine x_iconst (v := 2) dX19_init_13 rfl ?_
  have hn : ¬ ((2 : Int32) < 0) := by decide
  obtain ⟨hb, hr, hT⟩ := hT
  refine c_newarrayG (t := 0) dX19_init_14 (by decide) rfl hn hb hr hW hF ?_
  intro a4 f5 ea4 ef5 h hW hF
  replace hT := hT a4 f5 ea4 ef5
  obtain ⟨hc, hz, hT⟩ := hT
  refine c_fputG dX19_init_16 f_TallySlate_Nodes_15 hc (by decide) (by decide) hz (Or.inl rfl) rfl rfl hW hF ?_
  intro f6 ef6 h hW hF
  replace hT := hT f6 ef6
  refine x_aload_n dX19_init_19 rfl rfl rfl ?_
  refine x_iconst (v := 2) dX19_init_20 rfl ?_
  have hn : ¬ ((2 : Int32) < 0) := by decide
  obtain ⟨hb, hr, hT⟩ := hT
  refine c_newarrayG (t := 0) dX19_init_21 (by decide) rfl hn hb hr hW hF ?_
  intro a7 f8 ea7 ef8 h hW hF
  replace hT := hT a7 f8 ea7 ef8
  obtain ⟨hc, hz, hT⟩ := hT
  refine c_fputG dX19_init_23 f_TallySlate_Nodes_19 hc (by decide) (by decide) hz (Or.inl rfl) rfl rfl hW hF ?_
  intro f9 ef9 h hW hF
  replace hT := hT f9 ef9
  exact x_vret dX19_init_26 rfl ⟨_, _, hW, hF, Or.inl ⟨_, rfl, hT⟩⟩
theorem eX19_init {l : Launch} {E : EN} {w : CO} {d : Nat} {s : CS} {f : RH} {Q : KO → CS → RH → Prop} {x0 : Nat}  (hst : l.stackTraces = false) (hT : ((2 : Int32).toNatClampNeg ≤ 60000000 ∧ rmF E f 1 (2 : Int32).toNatClampNeg ∧ ∀ (a1 : Nat) (f2 : RH), a1 = f.1 → f2 = fnewA f 5 (2 : Int32).toNatClampNeg → (oc f2 x0 17 ∧ f2.2.2.2 ≤ x0 ∧ ∀ f3 : RH, f3 = fset f2 x0 168 (.ref a1) → ((2 : Int32).toNatClampNeg ≤ 60000000 ∧ rmF E f3 1 (2 : Int32).toNatClampNeg ∧ ∀ (a4 : Nat) (f5 : RH), a4 = f3.1 → f5 = fnewA f3 0 (2 : Int32).toNatClampNeg → (oc f5 x0 17 ∧ f5.2.2.2 ≤ x0 ∧ ∀ f6 : RH, f6 = fset f5 x0 169 (.ref a4) → ((2 : Int32).toNatClampNeg ≤ 60000000 ∧ rmF E f6 1 (2 : Int32).toNatClampNeg ∧ ∀ (a7 : Nat) (f8 : RH), a7 = f6.1 → f8 = fnewA f6 0 (2 : Int32).toNatClampNeg → (oc f8 x0 17 ∧ f8.2.2.2 ≤ x0 ∧ ∀ f9 : RH, f9 = fset f8 x0 170 (.ref a7) → Q (.inl none) s f9))))))) : EvC l E w d MX19_init [.ref x0] s f Q :=
  EvC.of hst (by decide) (Nat.le_of_ble_eq_true rfl) (vX19_init_0  hT)
set_option maxHeartbeats 16000000 in
theorem vX19_add_0 {l : Launch} {E : EN} {w : CO} {d : Nat} {s : CS} {f : RH} {Q : KO → CS → RH → Prop} {x0 : Nat} {x1 : Nat} {x2 : Int32} {x3 : Int32}  (hT : (oc f x0 17 ∧ (∃ v1 : Int32, vl f x0 171 = .int v1 ∧ (oc f x0 17 ∧ (∃ a2 : Nat, vl f x0 168 = .ref a2 ∧ (∃ t3 : Nat, tg f a2 = some (.inr t3) ∧ ((¬ v1 = (nI (ln f a2)) → (oc f x0 17 ∧ (∃ a4 : Nat, vl f x0 168 = .ref a4 ∧ (oc f x0 17 ∧ (∃ v5 : Int32, vl f x0 171 = .int v5 ∧ (∃ k15 : Nat, (tg f a4 = some (.inr 5) ∧ tg f x1 = some (.inl k15) ∧ k15 ∈ CKs 5 ∧ inB v5 (ln f a4) ∧ f.2.2.2 ≤ a4 ∧ ∀ f6 : RH, f6 = fset f a4 v5.toNatClampNeg (.ref x1) → (oc f6 x0 17 ∧ (∃ a7 : Nat, vl f6 x0 169 = .ref a7 ∧ (oc f6 x0 17 ∧ (∃ v8 : Int32, vl f6 x0 171 = .int v8 ∧ (tg f6 a7 = some (.inr 0) ∧ inB v8 (ln f6 a7) ∧ f6.2.2.2 ≤ a7 ∧ ∀ f9 : RH, f9 = fset f6 a7 v8.toNatClampNeg (.int x2) → (oc f9 x0 17 ∧ (∃ a10 : Nat, vl f9 x0 170 = .ref a10 ∧ (oc f9 x0 17 ∧ (∃ v11 : Int32, vl f9 x0 171 = .int v11 ∧ (tg f9 a10 = some (.inr 0) ∧ inB v11 (ln f9 a10) ∧ f9.2.2.2 ≤ a10 ∧ ∀ f12 : RH, f12 = fset f9 a10 v11.toNatClampNeg (.int x3) → (oc f12 x0 17 ∧ (∃ v13 : Int32, vl f12 x0 171 = .int v13 ∧ (oc f12 x0 17 ∧ f12.2.2.2 ≤ x0 ∧ ∀ f14 : RH, f14 = fset f12 x0 171 (.int (v13 + 1)) → Q (.inl none) s f14)))))))))))))))))))) ∧ (v1 = (nI (ln f a2)) → (oc f x0 17 ∧ EvC l E w d MX19_grow [.ref x0] s f (fun o s16 f17 => KP o (fun r => r = none ∧ (oc f17 x0 17 ∧ (∃ a18 : Nat, vl f17 x0 168 = .ref a18 ∧ (oc f17 x0 17 ∧ (∃ v19 : Int32, vl f17 x0 171 = .int v19 ∧ (∃ k29 : Nat, (tg f17 a18 = some (.inr 5) ∧ tg f17 x1 = some (.inl k29) ∧ k29 ∈ CKs 5 ∧ inB v19 (ln f17 a18) ∧ f17.2.2.2 ≤ a18 ∧ ∀ f20 : RH, f20 = fset f17 a18 v19.toNatClampNeg (.ref x1) → (oc f20 x0 17 ∧ (∃ a21 : Nat, vl f20 x0 169 = .ref a21 ∧ (oc f20 x0 17 ∧ (∃ v22 : Int32, vl f20 x0 171 = .int v22 ∧ (tg f20 a21 = some (.inr 0) ∧ inB v22 (ln f20 a21) ∧ f20.2.2.2 ≤ a21 ∧ ∀ f23 : RH, f23 = fset f20 a21 v22.toNatClampNeg (.int x2) → (oc f23 x0 17 ∧ (∃ a24 : Nat, vl f23 x0 170 = .ref a24 ∧ (oc f23 x0 17 ∧ (∃ v25 : Int32, vl f23 x0 171 = .int v25 ∧ (tg f23 a24 = some (.inr 0) ∧ inB v25 (ln f23 a24) ∧ f23.2.2.2 ≤ a24 ∧ ∀ f26 : RH, f26 = fset f23 a24 v25.toNatClampNeg (.int x3) → (oc f26 x0 17 ∧ (∃ v27 : Int32, vl f26 x0 171 = .int v27 ∧ (oc f26 x0 17 ∧ f26.2.2.2 ≤ x0 ∧ ∀ f28 : RH, f28 = fset f26 x0 171 (.int (v27 + 1)) → Q (.inl none) s16 f28)))))))))))))))))))) (fun k => Q (.inr k) s16 f17))))))))))) : ExC l E w (d + 1) MX19_add 0 [some (.ref x0), some (.ref x1), some (.int x2), some (.int x3)] [] s f Q := by
  intro f0 h hW hF
  refine x_aload_n dX19_add_0 rfl rfl rfl ?_
  obtain ⟨hc, hT⟩ := hT
  obtain ⟨v1, ev, hT⟩ := hT
  refine c_fgetG dX19_add_1 f_TallySlate_Nodes_22 hc (by decide) (by decide) hW ev ?_
  refine x_aload_n dX19_add_4 rfl rfl rfl ?_
  obtain ⟨hc, hT⟩ := hT
  obtain ⟨a2, ev, hT⟩ := hT
  refine c_fgetG dX19_add_5 f_TallySlate_Nodes_9 hc (by decide) (by decide) hW ev ?_
  obtain ⟨t3, hc, hT⟩ := hT
  refine c_alen dX19_add_8 hc hW ?_
  refine x_icmp_ne (tgt := 16) dX19_add_9 rfl (fun c => ?_) (fun c => ?_)
  · replace hT := hT.1 c
    refine x_aload_n dX19_add_16 rfl rfl rfl ?_
    obtain ⟨hc, hT⟩ := hT
    obtain ⟨a4, ev, hT⟩ := hT
    refine c_fgetG dX19_add_17 f_TallySlate_Nodes_9 hc (by decide) (by decide) hW ev ?_
    refine x_aload_n dX19_add_20 rfl rfl rfl ?_
    obtain ⟨hc, hT⟩ := hT
    obtain ⟨v5, ev, hT⟩ := hT
    refine c_fgetG dX19_add_21 f_TallySlate_Nodes_22 hc (by decide) (by decide) hW ev ?_
    refine x_aload_n dX19_add_24 rfl rfl rfl ?_
    obtain ⟨k15, hc, hv, hck, hT⟩ := hT
    obtain ⟨hb, hz, hT⟩ := hT
    refine c_faastG dX19_add_25 hc (by decide) hv hck hb hz hW hF ?_
    intro f6 ef6 h hW hF
    replace hT := hT f6 ef6
    refine x_aload_n dX19_add_26 rfl rfl rfl ?_
    obtain ⟨hc, hT⟩ := hT
    obtain ⟨a7, ev, hT⟩ := hT
    refine c_fgetG dX19_add_27 f_TallySlate_Nodes_15 hc (by decide) (by decide) hW ev ?_
    refine x_aload_n dX19_add_30 rfl rfl rfl ?_
    obtain ⟨hc, hT⟩ := hT
    obtain ⟨v8, ev, hT⟩ := hT
    refine c_fgetG dX19_add_31 f_TallySlate_Nodes_22 hc (by decide) (by decide) hW ev ?_
    refine x_iload_n dX19_add_34 rfl rfl ?_
    obtain ⟨hc, hT⟩ := hT
    obtain ⟨hb, hz, hT⟩ := hT
    refine c_fiastG dX19_add_35 hc hb hz hW hF ?_
    intro f9 ef9 h hW hF
    replace hT := hT f9 ef9
    refine x_aload_n dX19_add_36 rfl rfl rfl ?_
    obtain ⟨hc, hT⟩ := hT
    obtain ⟨a10, ev, hT⟩ := hT
    refine c_fgetG dX19_add_37 f_TallySlate_Nodes_19 hc (by decide) (by decide) hW ev ?_
    refine x_aload_n dX19_add_40 rfl rfl rfl ?_
    obtain ⟨hc, hT⟩ := hT
    obtain ⟨v11, ev, hT⟩ := hT
    refine c_fgetG dX19_add_41 f_TallySlate_Nodes_22 hc (by decide) (by decide) hW ev ?_
    refine x_iload_n dX19_add_44 rfl rfl ?_
    obtain ⟨hc, hT⟩ := hT
    obtain ⟨hb, hz, hT⟩ := hT
    refine c_fiastG dX19_add_45 hc hb hz hW hF ?_
    intro f12 ef12 h hW hF
    replace hT := hT f12 ef12
    refine x_aload_n dX19_add_46 rfl rfl rfl ?_
    refine x_dup dX19_add_47 rfl ?_
    obtain ⟨hc, hT⟩ := hT
    obtain ⟨v13, ev, hT⟩ := hT
    refine c_fgetG dX19_add_48 f_TallySlate_Nodes_22 hc (by decide) (by decide) hW ev ?_
    refine x_iconst (v := 1) dX19_add_51 rfl ?_
    refine x_iadd dX19_add_52 ?_
    obtain ⟨hc, hz, hT⟩ := hT
    refine c_fputG dX19_add_53 f_TallySlate_Nodes_22 hc (by decide) (by decide) hz (Or.inl rfl) rfl rfl hW hF ?_
    intro f14 ef14 h hW hF
    replace hT := hT f14 ef14
    exact x_vret dX19_add_56 rfl ⟨_, _, hW, hF, Or.inl ⟨_, rfl, hT⟩⟩
  · replace hT := hT.2 c
    refine x_aload_n dX19_add_12 rfl rfl rfl ?_
    obtain ⟨hc, hT⟩ := hT
    obtain ⟨cc, hcc⟩ := hW.ocell hc
    refine c_invV (vs := []) dX19_add_13 oX19_grow q997 q995 hcc qs20 (Or.inl rfl) rfl rfl (Nat.le_of_ble_eq_true rfl) rfl hW hF hT ?_ ?_
    · intro _ s16 f17 hT h hW hF
      obtain ⟨rfl, hT⟩ := hT
      refine x_aload_n dX19_add_16 rfl rfl rfl ?_
      obtain ⟨hc, hT⟩ := hT
      obtain ⟨a18, ev, hT⟩ := hT
      refine c_fgetG dX19_add_17 f_TallySlate_Nodes_9 hc (by decide) (by decide) hW ev ?_
      refine x_aload_n dX19_add_20 rfl rfl rfl ?_
      obtain ⟨hc, hT⟩ := hT
      obtain ⟨v19, ev, hT⟩ := hT
      refine c_fgetG dX19_add_21 f_TallySlate_Nodes_22 hc (by decide) (by decide) hW ev ?_
      refine x_aload_n dX19_add_24 rfl rfl rfl ?_
      obtain ⟨k29, hc, hv, hck, hT⟩ := hT
      obtain ⟨hb, hz, hT⟩ := hT
      refine c_faastG dX19_add_25 hc (by decide) hv hck hb hz hW hF ?_
      intro f20 ef20 h hW hF
      replace hT := hT f20 ef20
      refine x_aload_n dX19_add_26 rfl rfl rfl ?_
      obtain ⟨hc, hT⟩ := hT
      obtain ⟨a21, ev, hT⟩ := hT
      refine c_fgetG dX19_add_27 f_TallySlate_Nodes_15 hc (by decide) (by decide) hW ev ?_
      refine x_aload_n dX19_add_30 rfl rfl rfl ?_
      obtain ⟨hc, hT⟩ := hT
      obtain ⟨v22, ev, hT⟩ := hT
      refine c_fgetG dX19_add_31 f_TallySlate_Nodes_22 hc (by decide) (by decide) hW ev ?_
      refine x_iload_n dX19_add_34 rfl rfl ?_
      obtain ⟨hc, hT⟩ := hT
      obtain ⟨hb, hz, hT⟩ := hT
      refine c_fiastG dX19_add_35 hc hb hz hW hF ?_
      intro f23 ef23 h hW hF
      replace hT := hT f23 ef23
      refine x_aload_n dX19_add_36 rfl rfl rfl ?_
      obtain ⟨hc, hT⟩ := hT
      obtain ⟨a24, ev, hT⟩ := hT
      refine c_fgetG dX19_add_37 f_TallySlate_Nodes_19 hc (by decide) (by decide) hW ev ?_
      refine x_aload_n dX19_add_40 rfl rfl rfl ?_
      obtain ⟨hc, hT⟩ := hT
      obtain ⟨v25, ev, hT⟩ := hT
      refine c_fgetG dX19_add_41 f_TallySlate_Nodes_22 hc (by decide) (by decide) hW ev ?_
      refine x_iload_n dX19_add_44 rfl rfl ?_
      obtain ⟨hc, hT⟩ := hT
      obtain ⟨hb, hz, hT⟩ := hT
      refine c_fiastG dX19_add_45 hc hb hz hW hF ?_
      intro f26 ef26 h hW hF
      replace hT := hT f26 ef26
      refine x_aload_n dX19_add_46 rfl rfl rfl ?_
      refine x_dup dX19_add_47 rfl ?_
      obtain ⟨hc, hT⟩ := hT
      obtain ⟨v27, ev, hT⟩ := hT
      refine c_fgetG dX19_add_48 f_TallySlate_Nodes_22 hc (by decide) (by decide) hW ev ?_
      refine x_iconst (v := 1) dX19_add_51 rfl ?_
      refine x_iadd dX19_add_52 ?_
      obtain ⟨hc, hz, hT⟩ := hT
      refine c_fputG dX19_add_53 f_TallySlate_Nodes_22 hc (by decide) (by decide) hz (Or.inl rfl) rfl rfl hW hF ?_
      intro f28 ef28 h hW hF
      replace hT := hT f28 ef28
      exact x_vret dX19_add_56 rfl ⟨_, _, hW, hF, Or.inl ⟨_, rfl, hT⟩⟩
    · intro k s16 f17 hT h a hW hx hF
      exact c_out (rfl) hW hx hF hT
theorem eX19_add {l : Launch} {E : EN} {w : CO} {d : Nat} {s : CS} {f : RH} {Q : KO → CS → RH → Prop} {x0 : Nat} {x1 : Nat} {x2 : Int32} {x3 : Int32}  (hst : l.stackTraces = false) (hT : (oc f x0 17 ∧ (∃ v1 : Int32, vl f x0 171 = .int v1 ∧ (oc f x0 17 ∧ (∃ a2 : Nat, vl f x0 168 = .ref a2 ∧ (∃ t3 : Nat, tg f a2 = some (.inr t3) ∧ ((¬ v1 = (nI (ln f a2)) → (oc f x0 17 ∧ (∃ a4 : Nat, vl f x0 168 = .ref a4 ∧ (oc f x0 17 ∧ (∃ v5 : Int32, vl f x0 171 = .int v5 ∧ (∃ k15 : Nat, (tg f a4 = some (.inr 5) ∧ tg f x1 = some (.inl k15) ∧ k15 ∈ CKs 5 ∧ inB v5 (ln f a4) ∧ f.2.2.2 ≤ a4 ∧ ∀ f6 : RH, f6 = fset f a4 v5.toNatClampNeg (.ref x1) → (oc f6 x0 17 ∧ (∃ a7 : Nat, vl f6 x0 169 = .ref a7 ∧ (oc f6 x0 17 ∧ (∃ v8 : Int32, vl f6 x0 171 = .int v8 ∧ (tg f6 a7 = some (.inr 0) ∧ inB v8 (ln f6 a7) ∧ f6.2.2.2 ≤ a7 ∧ ∀ f9 : RH, f9 = fset f6 a7 v8.toNatClampNeg (.int x2) → (oc f9 x0 17 ∧ (∃ a10 : Nat, vl f9 x0 170 = .ref a10 ∧ (oc f9 x0 17 ∧ (∃ v11 : Int32, vl f9 x0 171 = .int v11 ∧ (tg f9 a10 = some (.inr 0) ∧ inB v11 (ln f9 a10) ∧ f9.2.2.2 ≤ a10 ∧ ∀ f12 : RH, f12 = fset f9 a10 v11.toNatClampNeg (.int x3) → (oc f12 x0 17 ∧ (∃ v13 : Int32, vl f12 x0 171 = .int v13 ∧ (oc f12 x0 17 ∧ f12.2.2.2 ≤ x0 ∧ ∀ f14 : RH, f14 = fset f12 x0 171 (.int (v13 + 1)) → Q (.inl none) s f14)))))))))))))))))))) ∧ (v1 = (nI (ln f a2)) → (oc f x0 17 ∧ EvC l E w d MX19_grow [.ref x0] s f (fun o s16 f17 => KP o (fun r => r = none ∧ (oc f17 x0 17 ∧ (∃ a18 : Nat, vl f17 x0 168 = .ref a18 ∧ (oc f17 x0 17 ∧ (∃ v19 : Int32, vl f17 x0 171 = .int v19 ∧ (∃ k29 : Nat, (tg f17 a18 = some (.inr 5) ∧ tg f17 x1 = some (.inl k29) ∧ k29 ∈ CKs 5 ∧ inB v19 (ln f17 a18) ∧ f17.2.2.2 ≤ a18 ∧ ∀ f20 : RH, f20 = fset f17 a18 v19.toNatClampNeg (.ref x1) → (oc f20 x0 17 ∧ (∃ a21 : Nat, vl f20 x0 169 = .ref a21 ∧ (oc f20 x0 17 ∧ (∃ v22 : Int32, vl f20 x0 171 = .int v22 ∧ (tg f20 a21 = some (.inr 0) ∧ inB v22 (ln f20 a21) ∧ f20.2.2.2 ≤ a21 ∧ ∀ f23 : RH, f23 = fset f20 a21 v22.toNatClampNeg (.int x2) → (oc f23 x0 17 ∧ (∃ a24 : Nat, vl f23 x0 170 = .ref a24 ∧ (oc f23 x0 17 ∧ (∃ v25 : Int32, vl f23 x0 171 = .int v25 ∧ (tg f23 a24 = some (.inr 0) ∧ inB v25 (ln f23 a24) ∧ f23.2.2.2 ≤ a24 ∧ ∀ f26 : RH, f26 = fset f23 a24 v25.toNatClampNeg (.int x3) → (oc f26 x0 17 ∧ (∃ v27 : Int32, vl f26 x0 171 = .int v27 ∧ (oc f26 x0 17 ∧ f26.2.2.2 ≤ x0 ∧ ∀ f28 : RH, f28 = fset f26 x0 171 (.int (v27 + 1)) → Q (.inl none) s16 f28)))))))))))))))))))) (fun k => Q (.inr k) s16 f17))))))))))) : EvC l E w (d + 1) MX19_add [.ref x0, .ref x1, .int x2, .int x3] s f Q :=
  EvC.of hst (by decide) (Nat.le_of_ble_eq_true rfl) (vX19_add_0  hT)
theorem vX19_grow_0 {l : Launch} {E : EN} {w : CO} {d : Nat} {s : CS} {f : RH} {Q : KO → CS → RH → Prop} {x0 : Nat}  (hT : (oc f x0 17 ∧ (∃ v1 : Int32, vl f x0 171 = .int v1 ∧ (¬ (4 * v1) < 0 ∧ (4 * v1).toNatClampNeg ≤ 60000000 ∧ rmF E f 1 (4 * v1).toNatClampNeg ∧ ∀ (a2 : Nat) (f3 : RH), a2 = f.1 → f3 = fnewA f 5 (4 * v1).toNatClampNeg → (oc f3 x0 17 ∧ (∃ v4 : Int32, vl f3 x0 171 = .int v4 ∧ (¬ (4 * v4) < 0 ∧ (4 * v4).toNatClampNeg ≤ 60000000 ∧ rmF E f3 1 (4 * v4).toNatClampNeg ∧ ∀ (a5 : Nat) (f6 : RH), a5 = f3.1 → f6 = fnewA f3 0 (4 * v4).toNatClampNeg → (oc f6 x0 17 ∧ (∃ v7 : Int32, vl f6 x0 171 = .int v7 ∧ (¬ (4 * v7) < 0 ∧ (4 * v7).toNatClampNeg ≤ 60000000 ∧ rmF E f6 1 (4 * v7).toNatClampNeg ∧ ∀ (a8 : Nat) (f9 : RH), a8 = f6.1 → f9 = fnewA f6 0 (4 * v7).toNatClampNeg → ExC l E w d MX19_grow 31 [some (.ref x0), some (.ref a2), some (.ref a5), some (.ref a8), some (.int 0)] [] s f9 Q)))))))))) : ExC l E w d MX19_grow 0 [some (.ref x0), none, none, none, none] [] s f Q := by
  intro f0 h hW hF
  refine x_iconst (v := 4) dX19_grow_0 rfl ?_
  refine x_aload_n dX19_grow_1 rfl rfl rfl ?_
  obtain ⟨hc, hT⟩ := hT
  obtain ⟨v1, ev, hT⟩ := hT
  refine c_fgetG dX19_grow_2 f_TallySlate_Nodes_22 hc (by decide) (by decide) hW ev ?_
  refine x_imul dX19_grow_5 ?_
  obtain ⟨hn, hT⟩ := hT
  obtain ⟨hb, hr, hT⟩ := hT
  refine c_anewarrayG (t := 5) dX19_grow_6 (by decide) (by decide) (by decide) rfl q957 (Or.inl ⟨_, rfl, q956⟩) hn hb hr hW hF ?_
  intro a2 f3 ea2 ef3 h hW hF
  replace hT := hT a2 f3 ea2 ef3
  refine x_astore_n (lo' := [some (.ref x0), some (.ref a2), none, none, none]) dX19_grow_9 rfl (Nat.le_of_ble_eq_true rfl) rfl rfl ?_
  refine x_iconst (v := 4) dX19_grow_10 rfl ?_
  refine x_aload_n dX19_grow_11 rfl rfl rfl ?_
  obtain ⟨hc, hT⟩ := hT
  obtain ⟨v4, ev, hT⟩ := hT
  refine c_fgetG dX19_grow_12 f_TallySlate_Nodes_22 hc (by decide) (by decide) hW ev ?_
  refine x_imul dX19_grow_15 ?_
  obtain ⟨hn, hT⟩ := hT
  obtain ⟨hb, hr, hT⟩ := hT
  refine c_newarrayG (t := 0) dX19_grow_16 (by decide) rfl hn hb hr hW hF ?_
  intro a5 f6 ea5 ef6 h hW hF
  replace hT := hT a5 f6 ea5 ef6
  refine x_astore_n (lo' := [some (.ref x0), some (.ref a2), some (.ref a5), none, none]) dX19_grow_18 rfl (Nat.le_of_ble_eq_true rfl) rfl rfl ?_
  refine x_iconst (v := 4) dX19_grow_19 rfl ?_
  refine x_aload_n dX19_grow_20 rfl rfl rfl ?_
  obtain ⟨hc, hT⟩ := hT
  obtain ⟨v7, ev, hT⟩ := hT
  refine c_fgetG dX19_grow_21 f_TallySlate_Nodes_22 hc (by decide) (by decide) hW ev ?_
  refine x_imul dX19_grow_24 ?_
  obtain ⟨hn, hT⟩ := hT
  obtain ⟨hb, hr, hT⟩ := hT
  refine c_newarrayG (t := 0) dX19_grow_25 (by decide) rfl hn hb hr hW hF ?_
  intro a8 f9 ea8 ef9 h hW hF
  replace hT := hT a8 f9 ea8 ef9
  refine x_astore_n (lo' := [some (.ref x0), some (.ref a2), some (.ref a5), some (.ref a8), none]) dX19_grow_27 rfl (Nat.le_of_ble_eq_true rfl) rfl rfl ?_
  refine x_iconst (v := 0) dX19_grow_28 rfl ?_
  refine x_istore (lo' := [some (.ref x0), some (.ref a2), some (.ref a5), some (.ref a8), some (.int 0)]) dX19_grow_29 (Nat.le_of_ble_eq_true rfl) rfl ?_
  exact hT f0 h hW hF
theorem eX19_grow {l : Launch} {E : EN} {w : CO} {d : Nat} {s : CS} {f : RH} {Q : KO → CS → RH → Prop} {x0 : Nat}  (hst : l.stackTraces = false) (hT : (oc f x0 17 ∧ (∃ v1 : Int32, vl f x0 171 = .int v1 ∧ (¬ (4 * v1) < 0 ∧ (4 * v1).toNatClampNeg ≤ 60000000 ∧ rmF E f 1 (4 * v1).toNatClampNeg ∧ ∀ (a2 : Nat) (f3 : RH), a2 = f.1 → f3 = fnewA f 5 (4 * v1).toNatClampNeg → (oc f3 x0 17 ∧ (∃ v4 : Int32, vl f3 x0 171 = .int v4 ∧ (¬ (4 * v4) < 0 ∧ (4 * v4).toNatClampNeg ≤ 60000000 ∧ rmF E f3 1 (4 * v4).toNatClampNeg ∧ ∀ (a5 : Nat) (f6 : RH), a5 = f3.1 → f6 = fnewA f3 0 (4 * v4).toNatClampNeg → (oc f6 x0 17 ∧ (∃ v7 : Int32, vl f6 x0 171 = .int v7 ∧ (¬ (4 * v7) < 0 ∧ (4 * v7).toNatClampNeg ≤ 60000000 ∧ rmF E f6 1 (4 * v7).toNatClampNeg ∧ ∀ (a8 : Nat) (f9 : RH), a8 = f6.1 → f9 = fnewA f6 0 (4 * v7).toNatClampNeg → ExC l E w d MX19_grow 31 [some (.ref x0), some (.ref a2), some (.ref a5), some (.ref a8), some (.int 0)] [] s f9 Q)))))))))) : EvC l E w d MX19_grow [.ref x0] s f Q :=
  EvC.of hst (by decide) (Nat.le_of_ble_eq_true rfl) (vX19_grow_0  hT)
set_option maxHeartbeats 16000000 in
theorem vX19_grow_31 {l : Launch} {E : EN} {w : CO} {d : Nat} {s : CS} {f : RH} {Q : KO → CS → RH → Prop} {b0 : Nat} {b1 : Nat} {b2 : Nat} {b3 : Nat} {b4 : Int32}  (hT : (oc f b0 17 ∧ (∃ v10 : Int32, vl f b0 171 = .int v10 ∧ ((v10 ≤ b4 → (oc f b0 17 ∧ f.2.2.2 ≤ b0 ∧ ∀ f11 : RH, f11 = fset f b0 168 (.ref b1) → (oc f11 b0 17 ∧ f11.2.2.2 ≤ b0 ∧ ∀ f12 : RH, f12 = fset f11 b0 169 (.ref b2) → (oc f12 b0 17 ∧ f12.2.2.2 ≤ b0 ∧ ∀ f13 : RH, f13 = fset f12 b0 170 (.ref b3) → Q (.inl none) s f13)))) ∧ (¬ v10 ≤ b4 → (oc f b0 17 ∧ (∃ a14 : Nat, vl f b0 168 = .ref a14 ∧ (∃ t15 : Nat, 4 ≤ t15 ∧ (tg f a14 = some (.inr t15) ∧ inB b4 (ln f a14) ∧ (∃ a16 : Nat, vl f a14 b4.toNatClampNeg = .ref a16 ∧ (∃ k24 : Nat, (tg f b1 = some (.inr 5) ∧ tg f a16 = some (.inl k24) ∧ k24 ∈ CKs 5 ∧ inB b4 (ln f b1) ∧ f.2.2.2 ≤ b1 ∧ ∀ f17 : RH, f17 = fset f b1 b4.toNatClampNeg (.ref a16) → (oc f17 b0 17 ∧ (∃ a18 : Nat, vl f17 b0 169 = .ref a18 ∧ (tg f17 a18 = some (.inr 0) ∧ inB b4 (ln f17 a18) ∧ (∃ v19 : Int32, vl f17 a18 b4.toNatClampNeg = .int v19 ∧ (tg f17 b2 = some (.inr 0) ∧ inB b4 (ln f17 b2) ∧ f17.2.2.2 ≤ b2 ∧ ∀ f20 : RH, f20 = fset f17 b2 b4.toNatClampNeg (.int v19) → (oc f20 b0 17 ∧ (∃ a21 : Nat, vl f20 b0 170 = .ref a21 ∧ (tg f20 a21 = some (.inr 0) ∧ inB b4 (ln f20 a21) ∧ (∃ v22 : Int32, vl f20 a21 b4.toNatClampNeg = .int v22 ∧ (tg f20 b3 = some (.inr 0) ∧ inB b4 (ln f20 b3) ∧ f20.2.2.2 ≤ b3 ∧ ∀ f23 : RH, f23 = fset f20 b3 b4.toNatClampNeg (.int v22) → ExC l E w d MX19_grow 31 [some (.ref b0), some (.ref b1), some (.ref b2), some (.ref b3), some (.int (b4 + 1))] [] s f23 Q)))))))))))))))))))))) : ExC l E w d MX19_grow 31 [some (.ref b0), some (.ref b1), some (.ref b2), some (.ref b3), some (.int b4)] [] s f Q := by
  intro f0 h hW hF
  refine x_iload dX19_grow_31 rfl ?_
  refine x_aload_n dX19_grow_33 rfl rfl rfl ?_
  obtain ⟨hc, hT⟩ := hT
  obtain ⟨v10, ev, hT⟩ := hT
  refine c_fgetG dX19_grow_34 f_TallySlate_Nodes_22 hc (by decide) (by decide) hW ev ?_
  refine x_icmp_ge (tgt := 79) dX19_grow_37 rfl (fun c => ?_) (fun c => ?_)
  · replace hT := hT.1 c
    refine x_aload_n dX19_grow_79 rfl rfl rfl ?_
    refine x_aload_n dX19_grow_80 rfl rfl rfl ?_
    obtain ⟨hc, hz, hT⟩ := hT
    refine c_fputG dX19_grow_81 f_TallySlate_Nodes_9 hc (by decide) (by decide) hz (Or.inl rfl) rfl rfl hW hF ?_
    intro f11 ef11 h hW hF
    replace hT := hT f11 ef11
    refine x_aload_n dX19_grow_84 rfl rfl rfl ?_
    refine x_aload_n dX19_grow_85 rfl rfl rfl ?_
    obtain ⟨hc, hz, hT⟩ := hT
    refine c_fputG dX19_grow_86 f_TallySlate_Nodes_15 hc (by decide) (by decide) hz (Or.inl rfl) rfl rfl hW hF ?_
    intro f12 ef12 h hW hF
    replace hT := hT f12 ef12
    refine x_aload_n dX19_grow_89 rfl rfl rfl ?_
    refine x_aload_n dX19_grow_90 rfl rfl rfl ?_
    obtain ⟨hc, hz, hT⟩ := hT
    refine c_fputG dX19_grow_91 f_TallySlate_Nodes_19 hc (by decide) (by decide) hz (Or.inl rfl) rfl rfl hW hF ?_
    intro f13 ef13 h hW hF
    replace hT := hT f13 ef13
    exact x_vret dX19_grow_94 rfl ⟨_, _, hW, hF, Or.inl ⟨_, rfl, hT⟩⟩
  · replace hT := hT.2 c
    refine x_aload_n dX19_grow_40 rfl rfl rfl ?_
    refine x_iload dX19_grow_41 rfl ?_
    refine x_aload_n dX19_grow_43 rfl rfl rfl ?_
    obtain ⟨hc, hT⟩ := hT
    obtain ⟨a14, ev, hT⟩ := hT
    refine c_fgetG dX19_grow_44 f_TallySlate_Nodes_9 hc (by decide) (by decide) hW ev ?_
    refine x_iload dX19_grow_47 rfl ?_
    obtain ⟨t15, ht2, hc, hT⟩ := hT
    obtain ⟨hb, hT⟩ := hT
    obtain ⟨a16, ev, hT⟩ := hT
    refine c_faald dX19_grow_49 hc ht2 hb hW ev ?_
    obtain ⟨k24, hc, hv, hck, hT⟩ := hT
    obtain ⟨hb, hz, hT⟩ := hT
    refine c_faastG dX19_grow_50 hc (by decide) hv hck hb hz hW hF ?_
    intro f17 ef17 h hW hF
    replace hT := hT f17 ef17
    refine x_aload_n dX19_grow_51 rfl rfl rfl ?_
    refine x_iload dX19_grow_52 rfl ?_
    refine x_aload_n dX19_grow_54 rfl rfl rfl ?_
    obtain ⟨hc, hT⟩ := hT
    obtain ⟨a18, ev, hT⟩ := hT
    refine c_fgetG dX19_grow_55 f_TallySlate_Nodes_15 hc (by decide) (by decide) hW ev ?_
    refine x_iload dX19_grow_58 rfl ?_
    obtain ⟨hc, hT⟩ := hT
    obtain ⟨hb, hT⟩ := hT
    obtain ⟨v19, ev, hT⟩ := hT
    refine c_fiald dX19_grow_60 hc hb hW ev ?_
    obtain ⟨hc, hT⟩ := hT
    obtain ⟨hb, hz, hT⟩ := hT
    refine c_fiastG dX19_grow_61 hc hb hz hW hF ?_
    intro f20 ef20 h hW hF
    replace hT := hT f20 ef20
    refine x_aload_n dX19_grow_62 rfl rfl rfl ?_
    refine x_iload dX19_grow_63 rfl ?_
    refine x_aload_n dX19_grow_65 rfl rfl rfl ?_
    obtain ⟨hc, hT⟩ := hT
    obtain ⟨a21, ev, hT⟩ := hT
    refine c_fgetG dX19_grow_66 f_TallySlate_Nodes_19 hc (by decide) (by decide) hW ev ?_
    refine x_iload dX19_grow_69 rfl ?_
    obtain ⟨hc, hT⟩ := hT
    obtain ⟨hb, hT⟩ := hT
    obtain ⟨v22, ev, hT⟩ := hT
    refine c_fiald dX19_grow_71 hc hb hW ev ?_
    obtain ⟨hc, hT⟩ := hT
    obtain ⟨hb, hz, hT⟩ := hT
    refine c_fiastG dX19_grow_72 hc hb hz hW hF ?_
    intro f23 ef23 h hW hF
    replace hT := hT f23 ef23
    refine x_iinc (lo' := [some (.ref b0), some (.ref b1), some (.ref b2), some (.ref b3), some (.int (b4 + 1))]) dX19_grow_73 rfl (show _ = (b4 + 1) from rfl) rfl ?_
    refine x_goto (tgt := 31) dX19_grow_76 rfl ?_
    exact hT f0 h hW hF
theorem vX2_wrong_0 {l : Launch} {E : EN} {w : CO} {d : Nat} {s : CS} {f : RH} {Q : KO → CS → RH → Prop} {x1 : Int32} {x2 : Int32}  (hT : Q (.inl (some (.ref (w.1 1)))) (uI (uI s 14 x1) 15 x2) f) : ExC l E w d MX2_wrong 0 [some (.ref (w.1 2)), some (.int x1), some (.int x2)] [] s f Q := by
  intro f0 h hW hF
  refine x_aload_n dX2_wrong_0 rfl rfl rfl ?_
  refine c_getO dX2_wrong_1 f_TallySlate_Scanner_15 (by decide) (by decide) rfl hW ?_
  refine x_iload_n dX2_wrong_4 rfl rfl ?_
  refine c_putI dX2_wrong_5 f_TallySlate_Scanner_19 (by decide) (by decide) rfl rfl rfl rfl hW ?_
  intro h hW
  refine x_aload_n dX2_wrong_8 rfl rfl rfl ?_
  refine c_getO dX2_wrong_9 f_TallySlate_Scanner_15 (by decide) (by decide) rfl hW ?_
  refine x_iload_n dX2_wrong_12 rfl rfl ?_
  refine c_putI dX2_wrong_13 f_TallySlate_Scanner_25 (by decide) (by decide) rfl rfl rfl rfl hW ?_
  intro h hW
  refine x_aload_n dX2_wrong_16 rfl rfl rfl ?_
  refine c_getO dX2_wrong_17 f_TallySlate_Scanner_15 (by decide) (by decide) rfl hW ?_
  exact x_aret dX2_wrong_20 rfl (by first | exact Or.inl ⟨_, rfl⟩ | exact Or.inr ⟨_, rfl⟩) rfl ⟨_, _, hW, hF, Or.inl ⟨_, rfl, hT⟩⟩
theorem eX2_wrong {l : Launch} {E : EN} {w : CO} {d : Nat} {s : CS} {f : RH} {Q : KO → CS → RH → Prop} {x1 : Int32} {x2 : Int32}  (hst : l.stackTraces = false) (hT : Q (.inl (some (.ref (w.1 1)))) (uI (uI s 14 x1) 15 x2) f) : EvC l E w d MX2_wrong [.ref (w.1 2), .int x1, .int x2] s f Q :=
  EvC.of hst (by decide) (Nat.le_of_ble_eq_true rfl) (vX2_wrong_0  hT)
