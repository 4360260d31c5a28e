/-! weakest preconditions of the Reader: printed by wpc.py -/
set_option maxRecDepth 100000
theorem vR11_init_0 {l : Launch} {E : EN} {w : CO} {d : Nat} {s : CS} {f : RH} {Q : KO → CS → RH → Prop} {x0 : Nat}  (hT : ((12 : Int32).toNatClampNeg ≤ 60000000 ∧ rmF E f 1 (12 : Int32).toNatClampNeg ∧ ∀ (a1 : Nat) (f2 : RH), a1 = f.1 → f2 = fnewA f 7 (12 : Int32).toNatClampNeg → (oc f2 x0 11 ∧ f2.2.2.2 ≤ x0 ∧ ∀ f3 : RH, f3 = fset f2 x0 148 (.ref a1) → ((16 : Int32).toNatClampNeg ≤ 60000000 ∧ rmF E f3 1 (16 : Int32).toNatClampNeg ∧ ∀ (a4 : Nat) (f5 : RH), a4 = f3.1 → f5 = fnewA f3 8 (16 : Int32).toNatClampNeg → (oc f5 x0 11 ∧ f5.2.2.2 ≤ x0 ∧ ∀ f6 : RH, f6 = fset f5 x0 151 (.ref a4) → (oc f6 x0 11 ∧ f6.2.2.2 ≤ x0 ∧ ∀ f7 : RH, f7 = fset f6 x0 147 (.ref (w.1 2)) → Q (.inl none) s f7)))))) : ExC l E w d MX11_init 0 [some (.ref x0), some (.ref (w.1 2))] [] s f Q := by
  intro f0 h hW hF
  refine x_aload_n dX11_init_0 rfl rfl rfl ?_
  refine x_objInit dX11_init_1 q579 q219 q220 (Nat.le_of_ble_eq_true rfl) rfl ?_
  refine x_aload_n dX11_init_4 rfl rfl rfl ?_
  refine x_bipush (v := 12) dX11_init_5 rfl ?_
  have hn : ¬ ((12 : Int32) < 0) := by decide
  obtain ⟨hb, hr, hT⟩ := hT
  refine c_anewarrayG (t := 7) dX11_init_7 (by decide) (by decide) (by decide) rfl q581 (Or.inl ⟨_, rfl, q580⟩) hn hb hr hW hF ?_
  intro a1 f2 ea1 ef2 h hW hF
  replace hT := hT a1 f2 ea1 ef2
  obtain ⟨hc, hz, hT⟩ := hT
  refine c_fputG dX11_init_10 f_TallySlate_Reader_11 hc (by decide) (by decide) hz (Or.inl rfl) rfl rfl hW hF ?_
  intro f3 ef3 h hW hF
  replace hT := hT f3 ef3
  refine x_aload_n dX11_init_13 rfl rfl rfl ?_
  refine x_bipush (v := 16) dX11_init_14 rfl ?_
  have hn : ¬ ((16 : Int32) < 0) := by decide
  obtain ⟨hb, hr, hT⟩ := hT
  refine c_anewarrayG (t := 8) dX11_init_16 (by decide) (by decide) (by decide) rfl q583 (Or.inl ⟨_, rfl, q582⟩) hn hb hr hW hF ?_
  intro a4 f5 ea4 ef5 h hW hF
  replace hT := hT a4 f5 ea4 ef5
  obtain ⟨hc, hz, hT⟩ := hT
  refine c_fputG dX11_init_19 f_TallySlate_Reader_19 hc (by decide) (by decide) hz (Or.inl rfl) rfl rfl hW hF ?_
  intro f6 ef6 h hW hF
  replace hT := hT f6 ef6
  refine x_aload_n dX11_init_22 rfl rfl rfl ?_
  refine x_aload_n dX11_init_23 rfl rfl rfl ?_
  obtain ⟨hc, hz, hT⟩ := hT
  refine c_fputG dX11_init_24 f_TallySlate_Reader_23 hc (by decide) (by decide) hz (Or.inr ⟨rfl, rfl⟩) rfl rfl hW hF ?_
  intro f7 ef7 h hW hF
  replace hT := hT f7 ef7
  exact x_vret dX11_init_27 rfl ⟨_, _, hW, hF, Or.inl ⟨_, rfl, hT⟩⟩
theorem eR11_init {l : Launch} {E : EN} {w : CO} {d : Nat} {s : CS} {f : RH} {Q : KO → CS → RH → Prop} {x0 : Nat}  (hst : l.stackTraces = false) (hT : ((12 : Int32).toNatClampNeg ≤ 60000000 ∧ rmF E f 1 (12 : Int32).toNatClampNeg ∧ ∀ (a1 : Nat) (f2 : RH), a1 = f.1 → f2 = fnewA f 7 (12 : Int32).toNatClampNeg → (oc f2 x0 11 ∧ f2.2.2.2 ≤ x0 ∧ ∀ f3 : RH, f3 = fset f2 x0 148 (.ref a1) → ((16 : Int32).toNatClampNeg ≤ 60000000 ∧ rmF E f3 1 (16 : Int32).toNatClampNeg ∧ ∀ (a4 : Nat) (f5 : RH), a4 = f3.1 → f5 = fnewA f3 8 (16 : Int32).toNatClampNeg → (oc f5 x0 11 ∧ f5.2.2.2 ≤ x0 ∧ ∀ f6 : RH, f6 = fset f5 x0 151 (.ref a4) → (oc f6 x0 11 ∧ f6.2.2.2 ≤ x0 ∧ ∀ f7 : RH, f7 = fset f6 x0 147 (.ref (w.1 2)) → Q (.inl none) s f7)))))) : EvC l E w d MX11_init [.ref x0, .ref (w.1 2)] s f Q :=
  EvC.of hst (by decide) (Nat.le_of_ble_eq_true rfl) (vR11_init_0  hT)
theorem vR11_read_0 {l : Launch} {E : EN} {w : CO} {d : Nat} {s : CS} {f : RH} {Q : KO → CS → RH → Prop} {x0 : Nat}  (hT : (oc f x0 11 ∧ vl f x0 147 = .ref (w.1 2) ∧ (EvC l E w d MX2_next [.ref (w.1 2)] s f (fun o s1 f2 => KP o (fun r => r = none ∧ ExC l E w (d + 1) MX11_read 7 [some (.ref x0), none] [] s1 f2 Q) (fun k => Q (.inr k) s1 f2))))) : ExC l E w (d + 1) MX11_read 0 [some (.ref x0), none] [] s f Q := by
  intro f0 h hW hF
  refine x_aload_n dX11_read_0 rfl rfl rfl ?_
  obtain ⟨hc, ev, hT⟩ := hT
  refine c_fgetG dX11_read_1 f_TallySlate_Reader_23 hc (by decide) (by decide) hW ev ?_
  obtain ⟨-, -, cc, hcc, -⟩ := hW.ob 2 (by decide)
  refine c_invV (vs := []) dX11_read_4 oX2_next q610 q609 hcc q611 (Or.inl rfl) rfl rfl (Nat.le_of_ble_eq_true rfl) rfl hW hF hT ?_ ?_
  · intro _ s1 f2 hT h hW hF
    obtain ⟨rfl, hT⟩ := hT
    exact hT f0 h hW hF
  · intro k s1 f2 hT h a hW hx hF
    exact c_out (rfl) hW hx hF hT
theorem eR11_read {l : Launch} {E : EN} {w : CO} {d : Nat} {s : CS} {f : RH} {Q : KO → CS → RH → Prop} {x0 : Nat}  (hst : l.stackTraces = false) (hT : (oc f x0 11 ∧ vl f x0 147 = .ref (w.1 2) ∧ (EvC l E w d MX2_next [.ref (w.1 2)] s f (fun o s1 f2 => KP o (fun r => r = none ∧ ExC l E w (d + 1) MX11_read 7 [some (.ref x0), none] [] s1 f2 Q) (fun k => Q (.inr k) s1 f2))))) : EvC l E w (d + 1) MX11_read [.ref x0] s f Q :=
  EvC.of hst (by decide) (Nat.le_of_ble_eq_true rfl) (vR11_read_0  hT)
theorem vR11_read_7 {l : Launch} {E : EN} {w : CO} {d : Nat} {s : CS} {f : RH} {Q : KO → CS → RH → Prop} {b0 : Nat}  (hT : (oc f b0 11 ∧ vl f b0 147 = .ref (w.1 2) ∧ (EvC l E w d MX2_isWord [.ref (w.1 2), .ref (eSC E 41)] s f (fun o s3 f4 => KP o (fun r => ∃ v5 : Int32, r = some (.int v5) ∧ ((v5 = 0 → (oc f4 b0 11 ∧ vl f4 b0 147 = .ref (w.1 2) ∧ (((s3.1 20) = 0 → ExC l E w (d + 1) MX11_read 54 [some (.ref b0), some (.int 0)] [] s3 f4 Q) ∧ (¬ (s3.1 20) = 0 → (oc f4 b0 11 ∧ vl f4 b0 147 = .ref (w.1 2) ∧ (oc f4 b0 11 ∧ vl f4 b0 147 = .ref (w.1 2) ∧ (EvC l E w d MX2_wrong [.ref (w.1 2), .int 2, .int (s3.1 21)] s3 f4 (fun o s6 f7 => KP o (fun r => r = some (.ref (w.1 1)) ∧ Q (.inr 1) s6 f7) (fun k => Q (.inr k) s6 f7))))))))) ∧ (¬ v5 = 0 → (oc f4 b0 11 ∧ EvC l E w d MX11_function [.ref b0] s3 f4 (fun o s8 f9 => KP o (fun r => r = none ∧ ExC l E w (d + 1) MX11_read 7 [some (.ref b0), none] [] s8 f9 Q) (fun k => Q (.inr k) s8 f9)))))) (fun k => Q (.inr k) s3 f4))))) : ExC l E w (d + 1) MX11_read 7 [some (.ref b0), none] [] s f Q := by
  intro f0 h hW hF
  refine x_aload_n dX11_read_7 rfl rfl rfl ?_
  obtain ⟨hc, ev, hT⟩ := hT
  refine c_fgetG dX11_read_8 f_TallySlate_Reader_23 hc (by decide) (by decide) hW ev ?_
  refine x_ldcS (i := 41) dX11_read_11 rfl ?_
  obtain ⟨-, -, cc, hcc, -⟩ := hW.ob 2 (by decide)
  refine c_invV (vs := [.ref (eSC E 41)]) dX11_read_13 oX2_isWord q728 q727 hcc q729 (Or.inl rfl) rfl rfl (Nat.le_of_ble_eq_true rfl) rfl hW hF hT ?_ ?_
  · intro _ s3 f4 hT h hW hF
    obtain ⟨v5, rfl, hT⟩ := hT
    refine x_if_eq (tgt := 26) dX11_read_16 rfl (fun c => ?_) (fun c => ?_)
    · replace hT := hT.1 c
      refine x_aload_n dX11_read_26 rfl rfl rfl ?_
      obtain ⟨hc, ev, hT⟩ := hT
      refine c_fgetG dX11_read_27 f_TallySlate_Reader_23 hc (by decide) (by decide) hW ev ?_
      refine c_getI (v := (s3.1 20)) dX11_read_30 f_TallySlate_Reader_41 (by decide) (by decide) rfl hW rfl ?_
      refine x_if_eq (tgt := 52) dX11_read_33 rfl (fun c => ?_) (fun c => ?_)
      · replace hT := hT.1 c
        refine x_iconst (v := 0) dX11_read_52 rfl ?_
        refine x_istore_n (lo' := [some (.ref b0), some (.int 0)]) dX11_read_53 rfl (Nat.le_of_ble_eq_true rfl) rfl ?_
        exact hT f0 h hW hF
      · replace hT := hT.2 c
        refine x_aload_n dX11_read_36 rfl rfl rfl ?_
        obtain ⟨hc, ev, hT⟩ := hT
        refine c_fgetG dX11_read_37 f_TallySlate_Reader_23 hc (by decide) (by decide) hW ev ?_
        refine x_iconst (v := 2) dX11_read_40 rfl ?_
        refine x_aload_n dX11_read_41 rfl rfl rfl ?_
        obtain ⟨hc, ev, hT⟩ := hT
        refine c_fgetG dX11_read_42 f_TallySlate_Reader_23 hc (by decide) (by decide) hW ev ?_
        refine c_getI (v := (s3.1 21)) dX11_read_45 f_TallySlate_Reader_45 (by decide) (by decide) rfl hW rfl ?_
        obtain ⟨-, -, cc, hcc, -⟩ := hW.ob 2 (by decide)
        refine c_invV (vs := [.int 2, .int (s3.1 21)]) dX11_read_48 oX2_wrong q564 q772 hcc q565 (Or.inl rfl) rfl rfl (Nat.le_of_ble_eq_true rfl) rfl hW hF hT ?_ ?_
        · intro _ s6 f7 hT h hW hF
          obtain ⟨rfl, hT⟩ := hT
          refine x_athrow dX11_read_51 ?_
          exact c_out (rfl) hW (Or.inr (Or.inl ⟨rfl, rfl⟩)) hF hT
        · intro k s6 f7 hT h a hW hx hF
          exact c_out (rfl) hW hx hF hT
    · replace hT := hT.2 c
      refine x_aload_n dX11_read_19 rfl rfl rfl ?_
      obtain ⟨hc, hT⟩ := hT
      obtain ⟨cc, hcc⟩ := hW.ocell hc
      refine c_invV (vs := []) dX11_read_20 oX11_function q754 q752 hcc qs6 (Or.inl rfl) rfl rfl (Nat.le_of_ble_eq_true rfl) rfl hW hF hT ?_ ?_
      · intro _ s8 f9 hT h hW hF
        obtain ⟨rfl, hT⟩ := hT
        refine x_goto (tgt := 7) dX11_read_23 rfl ?_
        exact hT f0 h hW hF
      · intro k s8 f9 hT h a hW hx hF
        exact c_out (rfl) hW hx hF hT
  · intro k s3 f4 hT h a hW hx hF
    exact c_out (rfl) hW hx hF hT
theorem vR11_read_54 {l : Launch} {E : EN} {w : CO} {d : Nat} {s : CS} {f : RH} {Q : KO → CS → RH → Prop} {b0 : Nat} {b1 : Int32}  (hT : (oc f b0 11 ∧ (∃ v11 : Int32, vl f b0 152 = .int v11 ∧ ((v11 ≤ b1 → Q (.inl none) s f) ∧ (¬ v11 ≤ b1 → (oc f b0 11 ∧ (∃ a12 : Nat, vl f b0 151 = .ref a12 ∧ (∃ t13 : Nat, 4 ≤ t13 ∧ (tg f a12 = some (.inr t13) ∧ inB b1 (ln f a12) ∧ (∃ a14 : Nat, vl f a12 b1.toNatClampNeg = .ref a14 ∧ (oc f b0 11 ∧ EvC l E w d MX11_resolve [.ref b0, .ref a14] s f (fun o s15 f16 => KP o (fun r => r = none ∧ ExC l E w (d + 1) MX11_read 54 [some (.ref b0), some (.int (b1 + 1))] [] s15 f16 Q) (fun k => Q (.inr k) s15 f16))))))))))))) : ExC l E w (d + 1) MX11_read 54 [some (.ref b0), some (.int b1)] [] s f Q := by
  intro f0 h hW hF
  refine x_iload_n dX11_read_54 rfl rfl ?_
  refine x_aload_n dX11_read_55 rfl rfl rfl ?_
  obtain ⟨hc, hT⟩ := hT
  obtain ⟨v11, ev, hT⟩ := hT
  refine c_fgetG dX11_read_56 f_TallySlate_Reader_52 hc (by decide) (by decide) hW ev ?_
  refine x_icmp_ge (tgt := 78) dX11_read_59 rfl (fun c => ?_) (fun c => ?_)
  · replace hT := hT.1 c
    exact x_vret dX11_read_78 rfl ⟨_, _, hW, hF, Or.inl ⟨_, rfl, hT⟩⟩
  · replace hT := hT.2 c
    refine x_aload_n dX11_read_62 rfl rfl rfl ?_
    refine x_aload_n dX11_read_63 rfl rfl rfl ?_
    obtain ⟨hc, hT⟩ := hT
    obtain ⟨a12, ev, hT⟩ := hT
    refine c_fgetG dX11_read_64 f_TallySlate_Reader_19 hc (by decide) (by decide) hW ev ?_
    refine x_iload_n dX11_read_67 rfl rfl ?_
    obtain ⟨t13, ht2, hc, hT⟩ := hT
    obtain ⟨hb, hT⟩ := hT
    obtain ⟨a14, ev, hT⟩ := hT
    refine c_faald dX11_read_68 hc ht2 hb hW ev ?_
    obtain ⟨hc, hT⟩ := hT
    obtain ⟨cc, hcc⟩ := hW.ocell hc
    refine c_invV (vs := [.ref a14]) dX11_read_69 oX11_resolve q1287 q1285 hcc qs34 (Or.inl rfl) rfl rfl (Nat.le_of_ble_eq_true rfl) rfl hW hF hT ?_ ?_
    · intro _ s15 f16 hT h hW hF
      obtain ⟨rfl, hT⟩ := hT
      refine x_iinc (lo' := [some (.ref b0), some (.int (b1 + 1))]) dX11_read_72 rfl (show _ = (b1 + 1) from rfl) rfl ?_
      refine x_goto (tgt := 54) dX11_read_75 rfl ?_
      exact hT f0 h hW hF
    · intro k s15 f16 hT h a hW hx hF
      exact c_out (rfl) hW hx hF hT
set_option maxHeartbeats 16000000 in
theorem vR11_function_0 {l : Launch} {E : EN} {w : CO} {d : Nat} {s : CS} {f : RH} {Q : KO → CS → RH → Prop} {x0 : Nat}  (hT : (oc f x0 11 ∧ vl f x0 147 = .ref (w.1 2) ∧ (EvC l E w d MX2_next [.ref (w.1 2)] s f (fun o s1 f2 => KP o (fun r => r = none ∧ (oc f2 x0 11 ∧ EvC l E w d MX11_wantName [.ref x0] s1 f2 (fun o s3 f4 => KP o (fun r => r = none ∧ (oc f4 x0 11 ∧ (∃ v5 : Int32, vl f4 x0 149 = .int v5 ∧ ((¬ v5 = 12 → (rmF E f4 1 6 ∧ ∀ (a6 : Nat) (f7 : RH), a6 = f4.1 → f7 = fnew f4 12 → (EvC l E w d MX12_init [.ref a6] s3 f7 (fun o s8 f9 => KP o (fun r => r = none ∧ (oc f9 x0 11 ∧ f9.2.2.2 ≤ x0 ∧ ∀ f10 : RH, f10 = fset f9 x0 150 (.ref a6) → (oc f10 x0 11 ∧ (∃ a11 : Nat, vl f10 x0 150 = .ref a11 ∧ (oc f10 x0 11 ∧ vl f10 x0 147 = .ref (w.1 2) ∧ (EvC l E w d MX2_name [.ref (w.1 2)] s8 f10 (fun o s12 f13 => KP o (fun r => ∃ v14 : Int64, r = some (.long v14) ∧ (oc f13 a11 12 ∧ f13.2.2.2 ≤ a11 ∧ ∀ f15 : RH, f15 = fset f13 a11 153 (.long v14) → (oc f15 x0 11 ∧ (∃ a16 : Nat, vl f15 x0 150 = .ref a16 ∧ (oc f15 x0 11 ∧ vl f15 x0 147 = .ref (w.1 2) ∧ (oc f15 a16 12 ∧ f15.2.2.2 ≤ a16 ∧ ∀ f17 : RH, f17 = fset f15 a16 154 (.int (s12.1 21)) → (oc f17 x0 11 ∧ (∃ a18 : Nat, vl f17 x0 150 = .ref a18 ∧ (oc f17 a18 12 ∧ (∃ v19 : Int64, vl f17 a18 153 = .long v19 ∧ (EvC l E w d MX11_isShelf [.long v19] s12 f17 (fun o s20 f21 => KP o (fun r => ∃ v22 : Int32, r = some (.int v22) ∧ ExC l E w (d + 1) MX11_function 88 [some (.ref x0), some (.int v22), some (.int 0)] [] s20 f21 Q) (fun k => Q (.inr k) s20 f21))))))))))))) (fun k => Q (.inr k) s12 f13)))))))) (fun k => Q (.inr k) s8 f9))))) ∧ (v5 = 12 → (oc f4 x0 11 ∧ vl f4 x0 147 = .ref (w.1 2) ∧ (oc f4 x0 11 ∧ vl f4 x0 147 = .ref (w.1 2) ∧ (EvC l E w d MX2_wrong [.ref (w.1 2), .int 3, .int (s3.1 21)] s3 f4 (fun o s23 f24 => KP o (fun r => r = some (.ref (w.1 1)) ∧ Q (.inr 1) s23 f24) (fun k => Q (.inr k) s23 f24)))))))))) (fun k => Q (.inr k) s3 f4)))) (fun k => Q (.inr k) s1 f2))))) : ExC l E w (d + 1) MX11_function 0 [some (.ref x0), none, none] [] s f Q := by
  intro f0 h hW hF
  refine x_aload_n dX11_function_0 rfl rfl rfl ?_
  obtain ⟨hc, ev, hT⟩ := hT
  refine c_fgetG dX11_function_1 f_TallySlate_Reader_23 hc (by decide) (by decide) hW ev ?_
  obtain ⟨-, -, cc, hcc, -⟩ := hW.ob 2 (by decide)
  refine c_invV (vs := []) dX11_function_4 oX2_next q610 q609 hcc q611 (Or.inl rfl) rfl rfl (Nat.le_of_ble_eq_true rfl) rfl hW hF hT ?_ ?_
  · intro _ s1 f2 hT h hW hF
    obtain ⟨rfl, hT⟩ := hT
    refine x_aload_n dX11_function_7 rfl rfl rfl ?_
    obtain ⟨hc, hT⟩ := hT
    obtain ⟨cc, hcc⟩ := hW.ocell hc
    refine c_invV (vs := []) dX11_function_8 oX11_wantName q758 q756 hcc qs7 (Or.inl rfl) rfl rfl (Nat.le_of_ble_eq_true rfl) rfl hW hF hT ?_ ?_
    · intro _ s3 f4 hT h hW hF
      obtain ⟨rfl, hT⟩ := hT
      refine x_aload_n dX11_function_11 rfl rfl rfl ?_
      obtain ⟨hc, hT⟩ := hT
      obtain ⟨v5, ev, hT⟩ := hT
      refine c_fgetG dX11_function_12 f_TallySlate_Reader_59 hc (by decide) (by decide) hW ev ?_
      refine x_bipush (v := 12) dX11_function_15 rfl ?_
      refine x_icmp_ne (tgt := 36) dX11_function_17 rfl (fun c => ?_) (fun c => ?_)
      · replace hT := hT.1 c
        refine x_aload_n dX11_function_36 rfl rfl rfl ?_
        obtain ⟨hr, hT⟩ := hT
        refine c_newG (k := 12) dX11_function_37 (by decide) q580 q185 hr hW hF ?_
        intro a6 f7 ea6 ef7 h hW hF
        replace hT := hT a6 f7 ea6 ef7
        refine x_dup dX11_function_40 rfl ?_
        refine c_invI (b := a6) (vs := []) dX11_function_41 oX12_init rfl rfl rfl q775 (Or.inr ⟨_, q774⟩) rfl rfl (Nat.le_of_ble_eq_true rfl) rfl hW hF hT ?_ ?_
        · intro _ s8 f9 hT h hW hF
          obtain ⟨rfl, hT⟩ := hT
          obtain ⟨hc, hz, hT⟩ := hT
          refine c_fputG dX11_function_44 f_TallySlate_Reader_100 hc (by decide) (by decide) hz (Or.inl rfl) rfl rfl hW hF ?_
          intro f10 ef10 h hW hF
          replace hT := hT f10 ef10
          refine x_aload_n dX11_function_47 rfl rfl rfl ?_
          obtain ⟨hc, hT⟩ := hT
          obtain ⟨a11, ev, hT⟩ := hT
          refine c_fgetG dX11_function_48 f_TallySlate_Reader_100 hc (by decide) (by decide) hW ev ?_
          refine x_aload_n dX11_function_51 rfl rfl rfl ?_
          obtain ⟨hc, ev, hT⟩ := hT
          refine c_fgetG dX11_function_52 f_TallySlate_Reader_23 hc (by decide) (by decide) hW ev ?_
          obtain ⟨-, -, cc, hcc, -⟩ := hW.ob 2 (by decide)
          refine c_invV (vs := []) dX11_function_55 oX2_name q806 q805 hcc q807 (Or.inl rfl) rfl rfl (Nat.le_of_ble_eq_true rfl) rfl hW hF hT ?_ ?_
          · intro _ s12 f13 hT h hW hF
            obtain ⟨v14, rfl, hT⟩ := hT
            obtain ⟨hc, hz, hT⟩ := hT
            refine c_fputG dX11_function_58 f_TallySlate_Reader_62 hc (by decide) (by decide) hz (Or.inl rfl) rfl rfl hW hF ?_
            intro f15 ef15 h hW hF
            replace hT := hT f15 ef15
            refine x_aload_n dX11_function_61 rfl rfl rfl ?_
            obtain ⟨hc, hT⟩ := hT
            obtain ⟨a16, ev, hT⟩ := hT
            refine c_fgetG dX11_function_62 f_TallySlate_Reader_100 hc (by decide) (by decide) hW ev ?_
            refine x_aload_n dX11_function_65 rfl rfl rfl ?_
            obtain ⟨hc, ev, hT⟩ := hT
            refine c_fgetG dX11_function_66 f_TallySlate_Reader_23 hc (by decide) (by decide) hW ev ?_
            refine c_getI (v := (s12.1 21)) dX11_function_69 f_TallySlate_Reader_45 (by decide) (by decide) rfl hW rfl ?_
            obtain ⟨hc, hz, hT⟩ := hT
            refine c_fputG dX11_function_72 f_TallySlate_Reader_106 hc (by decide) (by decide) hz (Or.inl rfl) rfl rfl hW hF ?_
            intro f17 ef17 h hW hF
            replace hT := hT f17 ef17
            refine x_aload_n dX11_function_75 rfl rfl rfl ?_
            obtain ⟨hc, hT⟩ := hT
            obtain ⟨a18, ev, hT⟩ := hT
            refine c_fgetG dX11_function_76 f_TallySlate_Reader_100 hc (by decide) (by decide) hW ev ?_
            obtain ⟨hc, hT⟩ := hT
            obtain ⟨v19, ev, hT⟩ := hT
            refine c_fgetG dX11_function_79 f_TallySlate_Reader_62 hc (by decide) (by decide) hW ev ?_
            refine c_invS (vs := [.long v19]) dX11_function_82 oX11_isShelf q812 (Or.inl q811) rfl rfl (Nat.le_of_ble_eq_true rfl) rfl hW hF hT ?_ ?_
            · intro _ s20 f21 hT h hW hF
              obtain ⟨v22, rfl, hT⟩ := hT
              refine x_istore_n (lo' := [some (.ref x0), some (.int v22), none]) dX11_function_85 rfl (Nat.le_of_ble_eq_true rfl) rfl ?_
              refine x_iconst (v := 0) dX11_function_86 rfl ?_
              refine x_istore_n (lo' := [some (.ref x0), some (.int v22), some (.int 0)]) dX11_function_87 rfl (Nat.le_of_ble_eq_true rfl) rfl ?_
              exact hT f0 h hW hF
            · intro k s20 f21 hT h a hW hx hF
              exact c_out (rfl) hW hx hF hT
          · intro k s12 f13 hT h a hW hx hF
            exact c_out (rfl) hW hx hF hT
        · intro k s8 f9 hT h a hW hx hF
          exact c_out (rfl) hW hx hF hT
      · replace hT := hT.2 c
        refine x_aload_n dX11_function_20 rfl rfl rfl ?_
        obtain ⟨hc, ev, hT⟩ := hT
        refine c_fgetG dX11_function_21 f_TallySlate_Reader_23 hc (by decide) (by decide) hW ev ?_
        refine x_iconst (v := 3) dX11_function_24 rfl ?_
        refine x_aload_n dX11_function_25 rfl rfl rfl ?_
        obtain ⟨hc, ev, hT⟩ := hT
        refine c_fgetG dX11_function_26 f_TallySlate_Reader_23 hc (by decide) (by decide) hW ev ?_
        refine c_getI (v := (s3.1 21)) dX11_function_29 f_TallySlate_Reader_45 (by decide) (by decide) rfl hW rfl ?_
        obtain ⟨-, -, cc, hcc, -⟩ := hW.ob 2 (by decide)
        refine c_invV (vs := [.int 3, .int (s3.1 21)]) dX11_function_32 oX2_wrong q564 q772 hcc q565 (Or.inl rfl) rfl rfl (Nat.le_of_ble_eq_true rfl) rfl hW hF hT ?_ ?_
        · intro _ s23 f24 hT h hW hF
          obtain ⟨rfl, hT⟩ := hT
          refine x_athrow dX11_function_35 ?_
          exact c_out (rfl) hW (Or.inr (Or.inl ⟨rfl, rfl⟩)) hF hT
        · intro k s23 f24 hT h a hW hx hF
          exact c_out (rfl) hW hx hF hT
    · intro k s3 f4 hT h a hW hx hF
      exact c_out (rfl) hW hx hF hT
  · intro k s1 f2 hT h a hW hx hF
    exact c_out (rfl) hW hx hF hT
theorem eR11_function {l : Launch} {E : EN} {w : CO} {d : Nat} {s : CS} {f : RH} {Q : KO → CS → RH → Prop} {x0 : Nat}  (hst : l.stackTraces = false) (hT : (oc f x0 11 ∧ vl f x0 147 = .ref (w.1 2) ∧ (EvC l E w d MX2_next [.ref (w.1 2)] s f (fun o s1 f2 => KP o (fun r => r = none ∧ (oc f2 x0 11 ∧ EvC l E w d MX11_wantName [.ref x0] s1 f2 (fun o s3 f4 => KP o (fun r => r = none ∧ (oc f4 x0 11 ∧ (∃ v5 : Int32, vl f4 x0 149 = .int v5 ∧ ((¬ v5 = 12 → (rmF E f4 1 6 ∧ ∀ (a6 : Nat) (f7 : RH), a6 = f4.1 → f7 = fnew f4 12 → (EvC l E w d MX12_init [.ref a6] s3 f7 (fun o s8 f9 => KP o (fun r => r = none ∧ (oc f9 x0 11 ∧ f9.2.2.2 ≤ x0 ∧ ∀ f10 : RH, f10 = fset f9 x0 150 (.ref a6) → (oc f10 x0 11 ∧ (∃ a11 : Nat, vl f10 x0 150 = .ref a11 ∧ (oc f10 x0 11 ∧ vl f10 x0 147 = .ref (w.1 2) ∧ (EvC l E w d MX2_name [.ref (w.1 2)] s8 f10 (fun o s12 f13 => KP o (fun r => ∃ v14 : Int64, r = some (.long v14) ∧ (oc f13 a11 12 ∧ f13.2.2.2 ≤ a11 ∧ ∀ f15 : RH, f15 = fset f13 a11 153 (.long v14) → (oc f15 x0 11 ∧ (∃ a16 : Nat, vl f15 x0 150 = .ref a16 ∧ (oc f15 x0 11 ∧ vl f15 x0 147 = .ref (w.1 2) ∧ (oc f15 a16 12 ∧ f15.2.2.2 ≤ a16 ∧ ∀ f17 : RH, f17 = fset f15 a16 154 (.int (s12.1 21)) → (oc f17 x0 11 ∧ (∃ a18 : Nat, vl f17 x0 150 = .ref a18 ∧ (oc f17 a18 12 ∧ (∃ v19 : Int64, vl f17 a18 153 = .long v19 ∧ (EvC l E w d MX11_isShelf [.long v19] s12 f17 (fun o s20 f21 => KP o (fun r => ∃ v22 : Int32, r = some (.int v22) ∧ ExC l E w (d + 1) MX11_function 88 [some (.ref x0), some (.int v22), some (.int 0)] [] s20 f21 Q) (fun k => Q (.inr k) s20 f21))))))))))))) (fun k => Q (.inr k) s12 f13)))))))) (fun k => Q (.inr k) s8 f9))))) ∧ (v5 = 12 → (oc f4 x0 11 ∧ vl f4 x0 147 = .ref (w.1 2) ∧ (oc f4 x0 11 ∧ vl f4 x0 147 = .ref (w.1 2) ∧ (EvC l E w d MX2_wrong [.ref (w.1 2), .int 3, .int (s3.1 21)] s3 f4 (fun o s23 f24 => KP o (fun r => r = some (.ref (w.1 1)) ∧ Q (.inr 1) s23 f24) (fun k => Q (.inr k) s23 f24)))))))))) (fun k => Q (.inr k) s3 f4)))) (fun k => Q (.inr k) s1 f2))))) : EvC l E w (d + 1) MX11_function [.ref x0] s f Q :=
  EvC.of hst (by decide) (Nat.le_of_ble_eq_true rfl) (vR11_function_0  hT)
set_option maxHeartbeats 16000000 in
theorem vR11_function_88 {l : Launch} {E : EN} {w : CO} {d : Nat} {s : CS} {f : RH} {Q : KO → CS → RH → Prop} {b0 : Nat} {b1 : Int32} {b2 : Int32}  (hT : (oc f b0 11 ∧ (∃ v26 : Int32, vl f b0 149 = .int v26 ∧ ((v26 ≤ b2 → ((b1 = 0 → (oc f b0 11 ∧ (∃ a27 : Nat, vl f b0 148 = .ref a27 ∧ (oc f b0 11 ∧ (∃ v28 : Int32, vl f b0 149 = .int v28 ∧ (oc f b0 11 ∧ (∃ a29 : Nat, vl f b0 150 = .ref a29 ∧ (∃ k40 : Nat, (tg f a27 = some (.inr 7) ∧ tg f a29 = some (.inl k40) ∧ k40 ∈ CKs 7 ∧ inB v28 (ln f a27) ∧ f.2.2.2 ≤ a27 ∧ ∀ f30 : RH, f30 = fset f a27 v28.toNatClampNeg (.ref a29) → (oc f30 b0 11 ∧ (∃ v31 : Int32, vl f30 b0 149 = .int v31 ∧ (oc f30 b0 11 ∧ f30.2.2.2 ≤ b0 ∧ ∀ f32 : RH, f32 = fset f30 b0 149 (.int (v31 + 1)) → (oc f32 b0 11 ∧ vl f32 b0 147 = .ref (w.1 2) ∧ (EvC l E w d MX2_next [.ref (w.1 2)] s f32 (fun o s33 f34 => KP o (fun r => r = none ∧ (oc f34 b0 11 ∧ vl f34 b0 147 = .ref (w.1 2) ∧ (EvC l E w d MX2_take [.ref (w.1 2), .int 40] s33 f34 (fun o s35 f36 => KP o (fun r => r = none ∧ (oc f36 b0 11 ∧ vl f36 b0 147 = .ref (w.1 2) ∧ (EvC l E w d MX2_is [.ref (w.1 2), .int 41] s35 f36 (fun o s37 f38 => KP o (fun r => ∃ v39 : Int32, r = some (.int v39) ∧ ((¬ v39 = 0 → ExC l E w (d + 1) MX11_function 209 [some (.ref b0), none, some (.int 0)] [] s37 f38 Q) ∧ (v39 = 0 → ExC l E w (d + 1) MX11_function 209 [some (.ref b0), none, some (.int 1)] [] s37 f38 Q))) (fun k => Q (.inr k) s37 f38))))) (fun k => Q (.inr k) s35 f36))))) (fun k => Q (.inr k) s33 f34)))))))))))))))) ∧ (¬ b1 = 0 → (oc f b0 11 ∧ vl f b0 147 = .ref (w.1 2) ∧ (oc f b0 11 ∧ vl f b0 147 = .ref (w.1 2) ∧ (EvC l E w d MX2_wrong [.ref (w.1 2), .int 4, .int (s.1 21)] s f (fun o s41 f42 => KP o (fun r => r = some (.ref (w.1 1)) ∧ Q (.inr 1) s41 f42) (fun k => Q (.inr k) s41 f42)))))))) ∧ (¬ v26 ≤ b2 → ((¬ b1 = 0 → ExC l E w (d + 1) MX11_function 88 [some (.ref b0), some (.int 1), some (.int (b2 + 1))] [] s f Q) ∧ (b1 = 0 → (oc f b0 11 ∧ (∃ a43 : Nat, vl f b0 148 = .ref a43 ∧ (∃ t44 : Nat, 4 ≤ t44 ∧ (tg f a43 = some (.inr t44) ∧ inB b2 (ln f a43) ∧ (∃ a45 : Nat, vl f a43 b2.toNatClampNeg = .ref a45 ∧ (oc f a45 12 ∧ (∃ v46 : Int64, vl f a45 153 = .long v46 ∧ (oc f b0 11 ∧ (∃ a47 : Nat, vl f b0 150 = .ref a47 ∧ (oc f a47 12 ∧ (∃ v48 : Int64, vl f a47 153 = .long v48 ∧ ((¬ (lg_cmp v46 v48) = 0 → ExC l E w (d + 1) MX11_function 88 [some (.ref b0), some (.int 0), some (.int (b2 + 1))] [] s f Q) ∧ ((lg_cmp v46 v48) = 0 → ExC l E w (d + 1) MX11_function 88 [some (.ref b0), some (.int 1), some (.int (b2 + 1))] [] s f Q)))))))))))))))))))) : ExC l E w (d + 1) MX11_function 88 [some (.ref b0), some (.int b1), some (.int b2)] [] s f Q := by
  intro f0 h hW hF
  refine x_iload_n dX11_function_88 rfl rfl ?_
  refine x_aload_n dX11_function_89 rfl rfl rfl ?_
  obtain ⟨hc, hT⟩ := hT
  obtain ⟨v26, ev, hT⟩ := hT
  refine c_fgetG dX11_function_90 f_TallySlate_Reader_59 hc (by decide) (by decide) hW ev ?_
  refine x_icmp_ge (tgt := 132) dX11_function_93 rfl (fun c => ?_) (fun c => ?_)
  · replace hT := hT.1 c
    refine x_iload_n dX11_function_132 rfl rfl ?_
    refine x_if_eq (tgt := 152) dX11_function_133 rfl (fun c => ?_) (fun c => ?_)
    · replace hT := hT.1 c
      refine x_aload_n dX11_function_152 rfl rfl rfl ?_
      obtain ⟨hc, hT⟩ := hT
      obtain ⟨a27, ev, hT⟩ := hT
      refine c_fgetG dX11_function_153 f_TallySlate_Reader_11 hc (by decide) (by decide) hW ev ?_
      refine x_aload_n dX11_function_156 rfl rfl rfl ?_
      obtain ⟨hc, hT⟩ := hT
      obtain ⟨v28, ev, hT⟩ := hT
      refine c_fgetG dX11_function_157 f_TallySlate_Reader_59 hc (by decide) (by decide) hW ev ?_
      refine x_aload_n dX11_function_160 rfl rfl rfl ?_
      obtain ⟨hc, hT⟩ := hT
      obtain ⟨a29, ev, hT⟩ := hT
      refine c_fgetG dX11_function_161 f_TallySlate_Reader_100 hc (by decide) (by decide) hW ev ?_
      obtain ⟨k40, hc, hv, hck, hT⟩ := hT
      obtain ⟨hb, hz, hT⟩ := hT
      refine c_faastG dX11_function_164 hc (by decide) hv hck hb hz hW hF ?_
      intro f30 ef30 h hW hF
      replace hT := hT f30 ef30
      refine x_aload_n dX11_function_165 rfl rfl rfl ?_
      refine x_dup dX11_function_166 rfl ?_
      obtain ⟨hc, hT⟩ := hT
      obtain ⟨v31, ev, hT⟩ := hT
      refine c_fgetG dX11_function_167 f_TallySlate_Reader_59 hc (by decide) (by decide) hW ev ?_
      refine x_iconst (v := 1) dX11_function_170 rfl ?_
      refine x_iadd dX11_function_171 ?_
      obtain ⟨hc, hz, hT⟩ := hT
      refine c_fputG dX11_function_172 f_TallySlate_Reader_59 hc (by decide) (by decide) hz (Or.inl rfl) rfl rfl hW hF ?_
      intro f32 ef32 h hW hF
      replace hT := hT f32 ef32
      refine x_aload_n dX11_function_175 rfl rfl rfl ?_
      obtain ⟨hc, ev, hT⟩ := hT
      refine c_fgetG dX11_function_176 f_TallySlate_Reader_23 hc (by decide) (by decide) hW ev ?_
      obtain ⟨-, -, cc, hcc, -⟩ := hW.ob 2 (by decide)
      refine c_invV (vs := []) dX11_function_179 oX2_next q610 q609 hcc q611 (Or.inl rfl) rfl rfl (Nat.le_of_ble_eq_true rfl) rfl hW hF hT ?_ ?_
      · intro _ s33 f34 hT h hW hF
        obtain ⟨rfl, hT⟩ := hT
        refine x_aload_n dX11_function_182 rfl rfl rfl ?_
        obtain ⟨hc, ev, hT⟩ := hT
        refine c_fgetG dX11_function_183 f_TallySlate_Reader_23 hc (by decide) (by decide) hW ev ?_
        refine x_bipush (v := 40) dX11_function_186 rfl ?_
        obtain ⟨-, -, cc, hcc, -⟩ := hW.ob 2 (by decide)
        refine c_invV (vs := [.int 40]) dX11_function_188 oX2_take q816 q815 hcc q817 (Or.inl rfl) rfl rfl (Nat.le_of_ble_eq_true rfl) rfl hW hF hT ?_ ?_
        · intro _ s35 f36 hT h hW hF
          obtain ⟨rfl, hT⟩ := hT
          refine x_aload_n dX11_function_191 rfl rfl rfl ?_
          obtain ⟨hc, ev, hT⟩ := hT
          refine c_fgetG dX11_function_192 f_TallySlate_Reader_23 hc (by decide) (by decide) hW ev ?_
          refine x_bipush (v := 41) dX11_function_195 rfl ?_
          obtain ⟨-, -, cc, hcc, -⟩ := hW.ob 2 (by decide)
          refine c_invV (vs := [.int 41]) dX11_function_197 oX2_is q820 q824 hcc q821 (Or.inl rfl) rfl rfl (Nat.le_of_ble_eq_true rfl) rfl hW hF hT ?_ ?_
          · intro _ s37 f38 hT h hW hF
            obtain ⟨v39, rfl, hT⟩ := hT
            refine x_if_ne (tgt := 207) dX11_function_200 rfl (fun c => ?_) (fun c => ?_)
            · replace hT := hT.1 c
              refine x_iconst (v := 0) dX11_function_207 rfl ?_
              refine x_istore_n (lo' := [some (.ref b0), some (.int b1), some (.int 0)]) dX11_function_208 rfl (Nat.le_of_ble_eq_true rfl) rfl ?_
              refine Ex.wkl (lo' := [some (.ref b0), none, some (.int 0)]) ⟨rfl, rfl, trivial⟩ ?_
              exact hT f0 h hW hF
            · replace hT := hT.2 c
              refine x_iconst (v := 1) dX11_function_203 rfl ?_
              refine x_goto (tgt := 208) dX11_function_204 rfl ?_
              refine x_istore_n (lo' := [some (.ref b0), some (.int b1), some (.int 1)]) dX11_function_208 rfl (Nat.le_of_ble_eq_true rfl) rfl ?_
              refine Ex.wkl (lo' := [some (.ref b0), none, some (.int 1)]) ⟨rfl, rfl, trivial⟩ ?_
              exact hT f0 h hW hF
          · intro k s37 f38 hT h a hW hx hF
            exact c_out (rfl) hW hx hF hT
        · intro k s35 f36 hT h a hW hx hF
          exact c_out (rfl) hW hx hF hT
      · intro k s33 f34 hT h a hW hx hF
        exact c_out (rfl) hW hx hF hT
    · replace hT := hT.2 c
      refine x_aload_n dX11_function_136 rfl rfl rfl ?_
      obtain ⟨hc, ev, hT⟩ := hT
      refine c_fgetG dX11_function_137 f_TallySlate_Reader_23 hc (by decide) (by decide) hW ev ?_
      refine x_iconst (v := 4) dX11_function_140 rfl ?_
      refine x_aload_n dX11_function_141 rfl rfl rfl ?_
      obtain ⟨hc, ev, hT⟩ := hT
      refine c_fgetG dX11_function_142 f_TallySlate_Reader_23 hc (by decide) (by decide) hW ev ?_
      refine c_getI (v := (s.1 21)) dX11_function_145 f_TallySlate_Reader_45 (by decide) (by decide) rfl hW rfl ?_
      obtain ⟨-, -, cc, hcc, -⟩ := hW.ob 2 (by decide)
      refine c_invV (vs := [.int 4, .int (s.1 21)]) dX11_function_148 oX2_wrong q564 q772 hcc q565 (Or.inl rfl) rfl rfl (Nat.le_of_ble_eq_true rfl) rfl hW hF hT ?_ ?_
      · intro _ s41 f42 hT h hW hF
        obtain ⟨rfl, hT⟩ := hT
        refine x_athrow dX11_function_151 ?_
        exact c_out (rfl) hW (Or.inr (Or.inl ⟨rfl, rfl⟩)) hF hT
      · intro k s41 f42 hT h a hW hx hF
        exact c_out (rfl) hW hx hF hT
  · replace hT := hT.2 c
    refine x_iload_n dX11_function_96 rfl rfl ?_
    refine x_if_ne (tgt := 120) dX11_function_97 rfl (fun c => ?_) (fun c => ?_)
    · replace hT := hT.1 c
      refine x_iconst (v := 1) dX11_function_120 rfl ?_
      refine x_goto (tgt := 125) dX11_function_121 rfl ?_
      refine x_istore_n (lo' := [some (.ref b0), some (.int 1), some (.int b2)]) dX11_function_125 rfl (Nat.le_of_ble_eq_true rfl) rfl ?_
      refine x_iinc (lo' := [some (.ref b0), some (.int 1), some (.int (b2 + 1))]) dX11_function_126 rfl (show _ = (b2 + 1) from rfl) rfl ?_
      refine x_goto (tgt := 88) dX11_function_129 rfl ?_
      exact hT f0 h hW hF
    · replace hT := hT.2 c
      refine x_aload_n dX11_function_100 rfl rfl rfl ?_
      obtain ⟨hc, hT⟩ := hT
      obtain ⟨a43, ev, hT⟩ := hT
      refine c_fgetG dX11_function_101 f_TallySlate_Reader_11 hc (by decide) (by decide) hW ev ?_
      refine x_iload_n dX11_function_104 rfl rfl ?_
      obtain ⟨t44, ht2, hc, hT⟩ := hT
      obtain ⟨hb, hT⟩ := hT
      obtain ⟨a45, ev, hT⟩ := hT
      refine c_faald dX11_function_105 hc ht2 hb hW ev ?_
      obtain ⟨hc, hT⟩ := hT
      obtain ⟨v46, ev, hT⟩ := hT
      refine c_fgetG dX11_function_106 f_TallySlate_Reader_62 hc (by decide) (by decide) hW ev ?_
      refine x_aload_n dX11_function_109 rfl rfl rfl ?_
      obtain ⟨hc, hT⟩ := hT
      obtain ⟨a47, ev, hT⟩ := hT
      refine c_fgetG dX11_function_110 f_TallySlate_Reader_100 hc (by decide) (by decide) hW ev ?_
      obtain ⟨hc, hT⟩ := hT
      obtain ⟨v48, ev, hT⟩ := hT
      refine c_fgetG dX11_function_113 f_TallySlate_Reader_62 hc (by decide) (by decide) hW ev ?_
      refine x_lcmp dX11_function_116 ?_
      refine x_if_ne (tgt := 124) dX11_function_117 rfl (fun c => ?_) (fun c => ?_)
      · replace hT := hT.1 c
        refine x_iconst (v := 0) dX11_function_124 rfl ?_
        refine x_istore_n (lo' := [some (.ref b0), some (.int 0), some (.int b2)]) dX11_function_125 rfl (Nat.le_of_ble_eq_true rfl) rfl ?_
        refine x_iinc (lo' := [some (.ref b0), some (.int 0), some (.int (b2 + 1))]) dX11_function_126 rfl (show _ = (b2 + 1) from rfl) rfl ?_
        refine x_goto (tgt := 88) dX11_function_129 rfl ?_
        exact hT f0 h hW hF
      · replace hT := hT.2 c
        refine x_iconst (v := 1) dX11_function_120 rfl ?_
        refine x_goto (tgt := 125) dX11_function_121 rfl ?_
        refine x_istore_n (lo' := [some (.ref b0), some (.int 1), some (.int b2)]) dX11_function_125 rfl (Nat.le_of_ble_eq_true rfl) rfl ?_
        refine x_iinc (lo' := [some (.ref b0), some (.int 1), some (.int (b2 + 1))]) dX11_function_126 rfl (show _ = (b2 + 1) from rfl) rfl ?_
        refine x_goto (tgt := 88) dX11_function_129 rfl ?_
        exact hT f0 h hW hF
set_option maxHeartbeats 16000000 in
theorem vR11_function_209 {l : Launch} {E : EN} {w : CO} {d : Nat} {s : CS} {f : RH} {Q : KO → CS → RH → Prop} {b0 : Nat} {b2 : Int32}  (hT : ((b2 = 0 → (oc f b0 11 ∧ vl f b0 147 = .ref (w.1 2) ∧ (EvC l E w d MX2_take [.ref (w.1 2), .int 41] s f (fun o s49 f50 => KP o (fun r => r = none ∧ (oc f50 b0 11 ∧ (∃ a51 : Nat, vl f50 b0 150 = .ref a51 ∧ (oc f50 b0 11 ∧ EvC l E w d MX11_block [.ref b0] s49 f50 (fun o s52 f53 => KP o (fun r => ∃ a54 : Nat, r = some (.ref a54) ∧ (oc f53 a51 12 ∧ f53.2.2.2 ≤ a51 ∧ ∀ f55 : RH, f55 = fset f53 a51 158 (.ref a54) → Q (.inl none) s52 f55)) (fun k => Q (.inr k) s52 f53)))))) (fun k => Q (.inr k) s49 f50))))) ∧ (¬ b2 = 0 → (oc f b0 11 ∧ EvC l E w d MX11_parameter [.ref b0] s f (fun o s57 f58 => KP o (fun r => r = none ∧ (oc f58 b0 11 ∧ vl f58 b0 147 = .ref (w.1 2) ∧ (EvC l E w d MX2_is [.ref (w.1 2), .int 44] s57 f58 (fun o s59 f60 => KP o (fun r => ∃ v61 : Int32, r = some (.int v61) ∧ ((v61 = 0 → ExC l E w (d + 1) MX11_function 209 [some (.ref b0), none, some (.int v61)] [] s59 f60 Q) ∧ (¬ v61 = 0 → (oc f60 b0 11 ∧ vl f60 b0 147 = .ref (w.1 2) ∧ (EvC l E w d MX2_next [.ref (w.1 2)] s59 f60 (fun o s62 f63 => KP o (fun r => r = none ∧ ExC l E w (d + 1) MX11_function 209 [some (.ref b0), none, some (.int v61)] [] s62 f63 Q) (fun k => Q (.inr k) s62 f63))))))) (fun k => Q (.inr k) s59 f60))))) (fun k => Q (.inr k) s57 f58)))))) : ExC l E w (d + 1) MX11_function 209 [some (.ref b0), none, some (.int b2)] [] s f Q := by
  intro f0 h hW hF
  refine x_iload_n dX11_function_209 rfl rfl ?_
  refine x_if_eq (tgt := 241) dX11_function_210 rfl (fun c => ?_) (fun c => ?_)
  · replace hT := hT.1 c
    refine x_aload_n dX11_function_241 rfl rfl rfl ?_
    obtain ⟨hc, ev, hT⟩ := hT
    refine c_fgetG dX11_function_242 f_TallySlate_Reader_23 hc (by decide) (by decide) hW ev ?_
    refine x_bipush (v := 41) dX11_function_245 rfl ?_
    obtain ⟨-, -, cc, hcc, -⟩ := hW.ob 2 (by decide)
    refine c_invV (vs := [.int 41]) dX11_function_247 oX2_take q816 q815 hcc q817 (Or.inl rfl) rfl rfl (Nat.le_of_ble_eq_true rfl) rfl hW hF hT ?_ ?_
    · intro _ s49 f50 hT h hW hF
      obtain ⟨rfl, hT⟩ := hT
      refine x_aload_n dX11_function_250 rfl rfl rfl ?_
      obtain ⟨hc, hT⟩ := hT
      obtain ⟨a51, ev, hT⟩ := hT
      refine c_fgetG dX11_function_251 f_TallySlate_Reader_100 hc (by decide) (by decide) hW ev ?_
      refine x_aload_n dX11_function_254 rfl rfl rfl ?_
      obtain ⟨hc, hT⟩ := hT
      obtain ⟨cc, hcc⟩ := hW.ocell hc
      refine c_invV (vs := []) dX11_function_255 oX11_block q831 q829 hcc qs11 (Or.inl rfl) rfl rfl (Nat.le_of_ble_eq_true rfl) rfl hW hF hT ?_ ?_
      · intro _ s52 f53 hT h hW hF
        obtain ⟨a54, rfl, hT⟩ := hT
        obtain ⟨hc, hz, hT⟩ := hT
        refine c_fputG dX11_function_258 f_TallySlate_Reader_126 hc (by decide) (by decide) hz (Or.inl rfl) rfl rfl hW hF ?_
        intro f55 ef55 h hW hF
        replace hT := hT f55 ef55
        exact x_vret dX11_function_261 rfl ⟨_, _, hW, hF, Or.inl ⟨_, rfl, hT⟩⟩
      · intro k s52 f53 hT h a hW hx hF
        exact c_out (rfl) hW hx hF hT
    · intro k s49 f50 hT h a hW hx hF
      exact c_out (rfl) hW hx hF hT
  · replace hT := hT.2 c
    refine x_aload_n dX11_function_213 rfl rfl rfl ?_
    obtain ⟨hc, hT⟩ := hT
    obtain ⟨cc, hcc⟩ := hW.ocell hc
    refine c_invV (vs := []) dX11_function_214 oX11_parameter q827 q825 hcc qs10 (Or.inl rfl) rfl rfl (Nat.le_of_ble_eq_true rfl) rfl hW hF hT ?_ ?_
    · intro _ s57 f58 hT h hW hF
      obtain ⟨rfl, hT⟩ := hT
      refine x_aload_n dX11_function_217 rfl rfl rfl ?_
      obtain ⟨hc, ev, hT⟩ := hT
      refine c_fgetG dX11_function_218 f_TallySlate_Reader_23 hc (by decide) (by decide) hW ev ?_
      refine x_bipush (v := 44) dX11_function_221 rfl ?_
      obtain ⟨-, -, cc, hcc, -⟩ := hW.ob 2 (by decide)
      refine c_invV (vs := [.int 44]) dX11_function_223 oX2_is q820 q824 hcc q821 (Or.inl rfl) rfl rfl (Nat.le_of_ble_eq_true rfl) rfl hW hF hT ?_ ?_
      · intro _ s59 f60 hT h hW hF
        obtain ⟨v61, rfl, hT⟩ := hT
        refine x_istore_n (lo' := [some (.ref b0), none, some (.int v61)]) dX11_function_226 rfl (Nat.le_of_ble_eq_true rfl) rfl ?_
        refine x_iload_n dX11_function_227 rfl rfl ?_
        refine x_if_eq (tgt := 209) dX11_function_228 rfl (fun c => ?_) (fun c => ?_)
        · replace hT := hT.1 c
          exact hT f0 h hW hF
        · replace hT := hT.2 c
          refine x_aload_n dX11_function_231 rfl rfl rfl ?_
          obtain ⟨hc, ev, hT⟩ := hT
          refine c_fgetG dX11_function_232 f_TallySlate_Reader_23 hc (by decide) (by decide) hW ev ?_
          obtain ⟨-, -, cc, hcc, -⟩ := hW.ob 2 (by decide)
          refine c_invV (vs := []) dX11_function_235 oX2_next q610 q609 hcc q611 (Or.inl rfl) rfl rfl (Nat.le_of_ble_eq_true rfl) rfl hW hF hT ?_ ?_
          · intro _ s62 f63 hT h hW hF
            obtain ⟨rfl, hT⟩ := hT
            refine x_goto (tgt := 209) dX11_function_238 rfl ?_
            exact hT f0 h hW hF
          · intro k s62 f63 hT h a hW hx hF
            exact c_out (rfl) hW hx hF hT
      · intro k s59 f60 hT h a hW hx hF
        exact c_out (rfl) hW hx hF hT
    · intro k s57 f58 hT h a hW hx hF
      exact c_out (rfl) hW hx hF hT
theorem vR11_wantName_0 {l : Launch} {E : EN} {w : CO} {d : Nat} {s : CS} {f : RH} {Q : KO → CS → RH → Prop} {x0 : Nat}  (hT : (oc f x0 11 ∧ vl f x0 147 = .ref (w.1 2) ∧ ((¬ (s.1 20) = 1 → (oc f x0 11 ∧ vl f x0 147 = .ref (w.1 2) ∧ (oc f x0 11 ∧ vl f x0 147 = .ref (w.1 2) ∧ (EvC l E w d MX2_wrong [.ref (w.1 2), .int 2, .int (s.1 21)] s f (fun o s1 f2 => KP o (fun r => r = some (.ref (w.1 1)) ∧ Q (.inr 1) s1 f2) (fun k => Q (.inr k) s1 f2)))))) ∧ ((s.1 20) = 1 → (oc f x0 11 ∧ EvC l E w d MX11_isReserved [.ref x0] s f (fun o s3 f4 => KP o (fun r => ∃ v5 : Int32, r = some (.int v5) ∧ ((v5 = 0 → Q (.inl none) s3 f4) ∧ (¬ v5 = 0 → (oc f4 x0 11 ∧ vl f4 x0 147 = .ref (w.1 2) ∧ (oc f4 x0 11 ∧ vl f4 x0 147 = .ref (w.1 2) ∧ (EvC l E w d MX2_wrong [.ref (w.1 2), .int 2, .int (s3.1 21)] s3 f4 (fun o s6 f7 => KP o (fun r => r = some (.ref (w.1 1)) ∧ Q (.inr 1) s6 f7) (fun k => Q (.inr k) s6 f7)))))))) (fun k => Q (.inr k) s3 f4))))))) : ExC l E w (d + 1) MX11_wantName 0 [some (.ref x0)] [] s f Q := by
  intro f0 h hW hF
  refine x_aload_n dX11_wantName_0 rfl rfl rfl ?_
  obtain ⟨hc, ev, hT⟩ := hT
  refine c_fgetG dX11_wantName_1 f_TallySlate_Reader_23 hc (by decide) (by decide) hW ev ?_
  refine c_getI (v := (s.1 20)) dX11_wantName_4 f_TallySlate_Reader_41 (by decide) (by decide) rfl hW rfl ?_
  refine x_iconst (v := 1) dX11_wantName_7 rfl ?_
  refine x_icmp_ne (tgt := 18) dX11_wantName_8 rfl (fun c => ?_) (fun c => ?_)
  · replace hT := hT.1 c
    refine x_aload_n dX11_wantName_18 rfl rfl rfl ?_
    obtain ⟨hc, ev, hT⟩ := hT
    refine c_fgetG dX11_wantName_19 f_TallySlate_Reader_23 hc (by decide) (by decide) hW ev ?_
    refine x_iconst (v := 2) dX11_wantName_22 rfl ?_
    refine x_aload_n dX11_wantName_23 rfl rfl rfl ?_
    obtain ⟨hc, ev, hT⟩ := hT
    refine c_fgetG dX11_wantName_24 f_TallySlate_Reader_23 hc (by decide) (by decide) hW ev ?_
    refine c_getI (v := (s.1 21)) dX11_wantName_27 f_TallySlate_Reader_45 (by decide) (by decide) rfl hW rfl ?_
    obtain ⟨-, -, cc, hcc, -⟩ := hW.ob 2 (by decide)
    refine c_invV (vs := [.int 2, .int (s.1 21)]) dX11_wantName_30 oX2_wrong q564 q772 hcc q565 (Or.inl rfl) rfl rfl (Nat.le_of_ble_eq_true rfl) rfl hW hF hT ?_ ?_
    · intro _ s1 f2 hT h hW hF
      obtain ⟨rfl, hT⟩ := hT
      refine x_athrow dX11_wantName_33 ?_
      exact c_out (rfl) hW (Or.inr (Or.inl ⟨rfl, rfl⟩)) hF hT
    · intro k s1 f2 hT h a hW hx hF
      exact c_out (rfl) hW hx hF hT
  · replace hT := hT.2 c
    refine x_aload_n dX11_wantName_11 rfl rfl rfl ?_
    obtain ⟨hc, hT⟩ := hT
    obtain ⟨cc, hcc⟩ := hW.ocell hc
    refine c_invV (vs := []) dX11_wantName_12 oX11_isReserved q762 q760 hcc qs8 (Or.inl rfl) rfl rfl (Nat.le_of_ble_eq_true rfl) rfl hW hF hT ?_ ?_
    · intro _ s3 f4 hT h hW hF
      obtain ⟨v5, rfl, hT⟩ := hT
      refine x_if_eq (tgt := 34) dX11_wantName_15 rfl (fun c => ?_) (fun c => ?_)
      · replace hT := hT.1 c
        exact x_vret dX11_wantName_34 rfl ⟨_, _, hW, hF, Or.inl ⟨_, rfl, hT⟩⟩
      · replace hT := hT.2 c
        refine x_aload_n dX11_wantName_18 rfl rfl rfl ?_
        obtain ⟨hc, ev, hT⟩ := hT
        refine c_fgetG dX11_wantName_19 f_TallySlate_Reader_23 hc (by decide) (by decide) hW ev ?_
        refine x_iconst (v := 2) dX11_wantName_22 rfl ?_
        refine x_aload_n dX11_wantName_23 rfl rfl rfl ?_
        obtain ⟨hc, ev, hT⟩ := hT
        refine c_fgetG dX11_wantName_24 f_TallySlate_Reader_23 hc (by decide) (by decide) hW ev ?_
        refine c_getI (v := (s3.1 21)) dX11_wantName_27 f_TallySlate_Reader_45 (by decide) (by decide) rfl hW rfl ?_
        obtain ⟨-, -, cc, hcc, -⟩ := hW.ob 2 (by decide)
        refine c_invV (vs := [.int 2, .int (s3.1 21)]) dX11_wantName_30 oX2_wrong q564 q772 hcc q565 (Or.inl rfl) rfl rfl (Nat.le_of_ble_eq_true rfl) rfl hW hF hT ?_ ?_
        · intro _ s6 f7 hT h hW hF
          obtain ⟨rfl, hT⟩ := hT
          refine x_athrow dX11_wantName_33 ?_
          exact c_out (rfl) hW (Or.inr (Or.inl ⟨rfl, rfl⟩)) hF hT
        · intro k s6 f7 hT h a hW hx hF
          exact c_out (rfl) hW hx hF hT
    · intro k s3 f4 hT h a hW hx hF
      exact c_out (rfl) hW hx hF hT
theorem eR11_wantName {l : Launch} {E : EN} {w : CO} {d : Nat} {s : CS} {f : RH} {Q : KO → CS → RH → Prop} {x0 : Nat}  (hst : l.stackTraces = false) (hT : (oc f x0 11 ∧ vl f x0 147 = .ref (w.1 2) ∧ ((¬ (s.1 20) = 1 → (oc f x0 11 ∧ vl f x0 147 = .ref (w.1 2) ∧ (oc f x0 11 ∧ vl f x0 147 = .ref (w.1 2) ∧ (EvC l E w d MX2_wrong [.ref (w.1 2), .int 2, .int (s.1 21)] s f (fun o s1 f2 => KP o (fun r => r = some (.ref (w.1 1)) ∧ Q (.inr 1) s1 f2) (fun k => Q (.inr k) s1 f2)))))) ∧ ((s.1 20) = 1 → (oc f x0 11 ∧ EvC l E w d MX11_isReserved [.ref x0] s f (fun o s3 f4 => KP o (fun r => ∃ v5 : Int32, r = some (.int v5) ∧ ((v5 = 0 → Q (.inl none) s3 f4) ∧ (¬ v5 = 0 → (oc f4 x0 11 ∧ vl f4 x0 147 = .ref (w.1 2) ∧ (oc f4 x0 11 ∧ vl f4 x0 147 = .ref (w.1 2) ∧ (EvC l E w d MX2_wrong [.ref (w.1 2), .int 2, .int (s3.1 21)] s3 f4 (fun o s6 f7 => KP o (fun r => r = some (.ref (w.1 1)) ∧ Q (.inr 1) s6 f7) (fun k => Q (.inr k) s6 f7)))))))) (fun k => Q (.inr k) s3 f4))))))) : EvC l E w (d + 1) MX11_wantName [.ref x0] s f Q :=
  EvC.of hst (by decide) (Nat.le_of_ble_eq_true rfl) (vR11_wantName_0  hT)
theorem vR11_isReserved_0 {l : Launch} {E : EN} {w : CO} {d : Nat} {s : CS} {f : RH} {Q : KO → CS → RH → Prop} {x0 : Nat}  (hT : ExC l E w (d + 1) MX11_isReserved 4 [some (.ref x0), some (.int 0), some (.int 0)] [] s f Q) : ExC l E w (d + 1) MX11_isReserved 0 [some (.ref x0), none, none] [] s f Q := by
  intro f0 h hW hF
  refine x_iconst (v := 0) dX11_isReserved_0 rfl ?_
  refine x_istore_n (lo' := [some (.ref x0), some (.int 0), none]) dX11_isReserved_1 rfl (Nat.le_of_ble_eq_true rfl) rfl ?_
  refine x_iconst (v := 0) dX11_isReserved_2 rfl ?_
  refine x_istore_n (lo' := [some (.ref x0), some (.int 0), some (.int 0)]) dX11_isReserved_3 rfl (Nat.le_of_ble_eq_true rfl) rfl ?_
  exact hT f0 h hW hF
theorem eR11_isReserved {l : Launch} {E : EN} {w : CO} {d : Nat} {s : CS} {f : RH} {Q : KO → CS → RH → Prop} {x0 : Nat}  (hst : l.stackTraces = false) (hT : ExC l E w (d + 1) MX11_isReserved 4 [some (.ref x0), some (.int 0), some (.int 0)] [] s f Q) : EvC l E w (d + 1) MX11_isReserved [.ref x0] s f Q :=
  EvC.of hst (by decide) (Nat.le_of_ble_eq_true rfl) (vR11_isReserved_0  hT)
set_option maxHeartbeats 16000000 in
theorem vR11_isReserved_4 {l : Launch} {E : EN} {w : CO} {d : Nat} {s : CS} {f : RH} {Q : KO → CS → RH → Prop} {b0 : Nat} {b1 : Int32} {b2 : Int32}  (hT : (∃ a1 : Nat, eSV E 2 = .ref a1 ∧ (∃ t2 : Nat, tg f a1 = some (.inr t2) ∧ (((nI (ln f a1)) ≤ b2 → ((¬ b1 = 0 → Q (.inl (some (.int 1))) s f) ∧ (b1 = 0 → (oc f b0 11 ∧ EvC l E w d MX11_builtIn [.ref b0] s f (fun o s3 f4 => KP o (fun r => ∃ v5 : Int32, r = some (.int v5) ∧ ((v5 < 0 → Q (.inl (some (.int 0))) s3 f4) ∧ (¬ v5 < 0 → Q (.inl (some (.int 1))) s3 f4))) (fun k => Q (.inr k) s3 f4)))))) ∧ (¬ (nI (ln f a1)) ≤ b2 → ((¬ b1 = 0 → ExC l E w (d + 1) MX11_isReserved 4 [some (.ref b0), some (.int 1), some (.int (b2 + 1))] [] s f Q) ∧ (b1 = 0 → (oc f b0 11 ∧ vl f b0 147 = .ref (w.1 2) ∧ (∃ a7 : Nat, eSV E 2 = .ref a7 ∧ (∃ t8 : Nat, 4 ≤ t8 ∧ (tg f a7 = some (.inr t8) ∧ inB b2 (ln f a7) ∧ (∃ a9 : Nat, vl f a7 b2.toNatClampNeg = .ref a9 ∧ (EvC l E w d MX2_isWord [.ref (w.1 2), .ref a9] s f (fun o s10 f11 => KP o (fun r => ∃ v12 : Int32, r = some (.int v12) ∧ ((v12 = 0 → ExC l E w (d + 1) MX11_isReserved 4 [some (.ref b0), some (.int 0), some (.int (b2 + 1))] [] s10 f11 Q) ∧ (¬ v12 = 0 → ExC l E w (d + 1) MX11_isReserved 4 [some (.ref b0), some (.int 1), some (.int (b2 + 1))] [] s10 f11 Q))) (fun k => Q (.inr k) s10 f11))))))))))))))) : ExC l E w (d + 1) MX11_isReserved 4 [some (.ref b0), some (.int b1), some (.int b2)] [] s f Q := by
  intro f0 h hW hF
  refine x_iload_n dX11_isReserved_4 rfl rfl ?_
  obtain ⟨a1, es, hT⟩ := hT
  refine x_getstatic (i := 2) (ref := "") dX11_isReserved_5 rfl (Or.inr ⟨_, q764⟩) ?_
  rw [es]
  obtain ⟨t2, hc, hT⟩ := hT
  refine c_alen dX11_isReserved_8 hc hW ?_
  refine x_icmp_ge (tgt := 43) dX11_isReserved_9 rfl (fun c => ?_) (fun c => ?_)
  · replace hT := hT.1 c
    refine x_iload_n dX11_isReserved_43 rfl rfl ?_
    refine x_if_ne (tgt := 54) dX11_isReserved_44 rfl (fun c => ?_) (fun c => ?_)
    · replace hT := hT.1 c
      refine x_iconst (v := 1) dX11_isReserved_54 rfl ?_
      refine x_goto (tgt := 59) dX11_isReserved_55 rfl ?_
      exact x_iret dX11_isReserved_59 rfl rfl ⟨_, _, hW, hF, Or.inl ⟨_, rfl, hT⟩⟩
    · replace hT := hT.2 c
      refine x_aload_n dX11_isReserved_47 rfl rfl rfl ?_
      obtain ⟨hc, hT⟩ := hT
      obtain ⟨cc, hcc⟩ := hW.ocell hc
      refine c_invV (vs := []) dX11_isReserved_48 oX11_builtIn q768 q766 hcc qs9 (Or.inl rfl) rfl rfl (Nat.le_of_ble_eq_true rfl) rfl hW hF hT ?_ ?_
      · intro _ s3 f4 hT h hW hF
        obtain ⟨v5, rfl, hT⟩ := hT
        refine x_if_lt (tgt := 58) dX11_isReserved_51 rfl (fun c => ?_) (fun c => ?_)
        · replace hT := hT.1 c
          refine x_iconst (v := 0) dX11_isReserved_58 rfl ?_
          exact x_iret dX11_isReserved_59 rfl rfl ⟨_, _, hW, hF, Or.inl ⟨_, rfl, hT⟩⟩
        · replace hT := hT.2 c
          refine x_iconst (v := 1) dX11_isReserved_54 rfl ?_
          refine x_goto (tgt := 59) dX11_isReserved_55 rfl ?_
          exact x_iret dX11_isReserved_59 rfl rfl ⟨_, _, hW, hF, Or.inl ⟨_, rfl, hT⟩⟩
      · intro k s3 f4 hT h a hW hx hF
        exact c_out (rfl) hW hx hF hT
  · replace hT := hT.2 c
    refine x_iload_n dX11_isReserved_12 rfl rfl ?_
    refine x_if_ne (tgt := 31) dX11_isReserved_13 rfl (fun c => ?_) (fun c => ?_)
    · replace hT := hT.1 c
      refine x_iconst (v := 1) dX11_isReserved_31 rfl ?_
      refine x_goto (tgt := 36) dX11_isReserved_32 rfl ?_
      refine x_istore_n (lo' := [some (.ref b0), some (.int 1), some (.int b2)]) dX11_isReserved_36 rfl (Nat.le_of_ble_eq_true rfl) rfl ?_
      refine x_iinc (lo' := [some (.ref b0), some (.int 1), some (.int (b2 + 1))]) dX11_isReserved_37 rfl (show _ = (b2 + 1) from rfl) rfl ?_
      refine x_goto (tgt := 4) dX11_isReserved_40 rfl ?_
      exact hT f0 h hW hF
    · replace hT := hT.2 c
      refine x_aload_n dX11_isReserved_16 rfl rfl rfl ?_
      obtain ⟨hc, ev, hT⟩ := hT
      refine c_fgetG dX11_isReserved_17 f_TallySlate_Reader_23 hc (by decide) (by decide) hW ev ?_
      obtain ⟨a7, es, hT⟩ := hT
      refine x_getstatic (i := 2) (ref := "") dX11_isReserved_20 rfl (Or.inr ⟨_, q764⟩) ?_
      rw [es]
      refine x_iload_n dX11_isReserved_23 rfl rfl ?_
      obtain ⟨t8, ht2, hc, hT⟩ := hT
      obtain ⟨hb, hT⟩ := hT
      obtain ⟨a9, ev, hT⟩ := hT
      refine c_faald dX11_isReserved_24 hc ht2 hb hW ev ?_
      obtain ⟨-, -, cc, hcc, -⟩ := hW.ob 2 (by decide)
      refine c_invV (vs := [.ref a9]) dX11_isReserved_25 oX2_isWord q728 q727 hcc q729 (Or.inl rfl) rfl rfl (Nat.le_of_ble_eq_true rfl) rfl hW hF hT ?_ ?_
      · intro _ s10 f11 hT h hW hF
        obtain ⟨v12, rfl, hT⟩ := hT
        refine x_if_eq (tgt := 35) dX11_isReserved_28 rfl (fun c => ?_) (fun c => ?_)
        · replace hT := hT.1 c
          refine x_iconst (v := 0) dX11_isReserved_35 rfl ?_
          refine x_istore_n (lo' := [some (.ref b0), some (.int 0), some (.int b2)]) dX11_isReserved_36 rfl (Nat.le_of_ble_eq_true rfl) rfl ?_
          refine x_iinc (lo' := [some (.ref b0), some (.int 0), some (.int (b2 + 1))]) dX11_isReserved_37 rfl (show _ = (b2 + 1) from rfl) rfl ?_
          refine x_goto (tgt := 4) dX11_isReserved_40 rfl ?_
          exact hT f0 h hW hF
        · replace hT := hT.2 c
          refine x_iconst (v := 1) dX11_isReserved_31 rfl ?_
          refine x_goto (tgt := 36) dX11_isReserved_32 rfl ?_
          refine x_istore_n (lo' := [some (.ref b0), some (.int 1), some (.int b2)]) dX11_isReserved_36 rfl (Nat.le_of_ble_eq_true rfl) rfl ?_
          refine x_iinc (lo' := [some (.ref b0), some (.int 1), some (.int (b2 + 1))]) dX11_isReserved_37 rfl (show _ = (b2 + 1) from rfl) rfl ?_
          refine x_goto (tgt := 4) dX11_isReserved_40 rfl ?_
          exact hT f0 h hW hF
      · intro k s10 f11 hT h a hW hx hF
        exact c_out (rfl) hW hx hF hT
theorem vR11_builtIn_0 {l : Launch} {E : EN} {w : CO} {d : Nat} {s : CS} {f : RH} {Q : KO → CS → RH → Prop} {x0 : Nat}  (hT : ExC l E w (d + 1) MX11_builtIn 4 [some (.ref x0), some (.int (-1)), some (.int 0)] [] s f Q) : ExC l E w (d + 1) MX11_builtIn 0 [some (.ref x0), none, none] [] s f Q := by
  intro f0 h hW hF
  refine x_iconst (v := (-1)) dX11_builtIn_0 rfl ?_
  refine x_istore_n (lo' := [some (.ref x0), some (.int (-1)), none]) dX11_builtIn_1 rfl (Nat.le_of_ble_eq_true rfl) rfl ?_
  refine x_iconst (v := 0) dX11_builtIn_2 rfl ?_
  refine x_istore_n (lo' := [some (.ref x0), some (.int (-1)), some (.int 0)]) dX11_builtIn_3 rfl (Nat.le_of_ble_eq_true rfl) rfl ?_
  exact hT f0 h hW hF
theorem eR11_builtIn {l : Launch} {E : EN} {w : CO} {d : Nat} {s : CS} {f : RH} {Q : KO → CS → RH → Prop} {x0 : Nat}  (hst : l.stackTraces = false) (hT : ExC l E w (d + 1) MX11_builtIn 4 [some (.ref x0), some (.int (-1)), some (.int 0)] [] s f Q) : EvC l E w (d + 1) MX11_builtIn [.ref x0] s f Q :=
  EvC.of hst (by decide) (Nat.le_of_ble_eq_true rfl) (vR11_builtIn_0  hT)
theorem vR11_builtIn_4 {l : Launch} {E : EN} {w : CO} {d : Nat} {s : CS} {f : RH} {Q : KO → CS → RH → Prop} {b0 : Nat} {b1 : Int32} {b2 : Int32}  (hT : (∃ a1 : Nat, eSV E 0 = .ref a1 ∧ (∃ t2 : Nat, tg f a1 = some (.inr t2) ∧ (((nI (ln f a1)) ≤ b2 → Q (.inl (some (.int b1))) s f) ∧ (¬ (nI (ln f a1)) ≤ b2 → (oc f b0 11 ∧ vl f b0 147 = .ref (w.1 2) ∧ (∃ a3 : Nat, eSV E 0 = .ref a3 ∧ (∃ t4 : Nat, 4 ≤ t4 ∧ (tg f a3 = some (.inr t4) ∧ inB b2 (ln f a3) ∧ (∃ a5 : Nat, vl f a3 b2.toNatClampNeg = .ref a5 ∧ (EvC l E w d MX2_isWord [.ref (w.1 2), .ref a5] s f (fun o s6 f7 => KP o (fun r => ∃ v8 : Int32, r = some (.int v8) ∧ ((v8 = 0 → ExC l E w (d + 1) MX11_builtIn 4 [some (.ref b0), some (.int b1), some (.int (b2 + 1))] [] s6 f7 Q) ∧ (¬ v8 = 0 → ExC l E w (d + 1) MX11_builtIn 4 [some (.ref b0), some (.int b2), some (.int (b2 + 1))] [] s6 f7 Q))) (fun k => Q (.inr k) s6 f7))))))))))))) : ExC l E w (d + 1) MX11_builtIn 4 [some (.ref b0), some (.int b1), some (.int b2)] [] s f Q := by
  intro f0 h hW hF
  refine x_iload_n dX11_builtIn_4 rfl rfl ?_
  obtain ⟨a1, es, hT⟩ := hT
  refine x_getstatic (i := 0) (ref := "") dX11_builtIn_5 rfl (Or.inr ⟨_, q770⟩) ?_
  rw [es]
  obtain ⟨t2, hc, hT⟩ := hT
  refine c_alen dX11_builtIn_8 hc hW ?_
  refine x_icmp_ge (tgt := 39) dX11_builtIn_9 rfl (fun c => ?_) (fun c => ?_)
  · replace hT := hT.1 c
    refine x_iload_n dX11_builtIn_39 rfl rfl ?_
    exact x_iret dX11_builtIn_40 rfl rfl ⟨_, _, hW, hF, Or.inl ⟨_, rfl, hT⟩⟩
  · replace hT := hT.2 c
    refine x_aload_n dX11_builtIn_12 rfl rfl rfl ?_
    obtain ⟨hc, ev, hT⟩ := hT
    refine c_fgetG dX11_builtIn_13 f_TallySlate_Reader_23 hc (by decide) (by decide) hW ev ?_
    obtain ⟨a3, es, hT⟩ := hT
    refine x_getstatic (i := 0) (ref := "") dX11_builtIn_16 rfl (Or.inr ⟨_, q770⟩) ?_
    rw [es]
    refine x_iload_n dX11_builtIn_19 rfl rfl ?_
    obtain ⟨t4, ht2, hc, hT⟩ := hT
    obtain ⟨hb, hT⟩ := hT
    obtain ⟨a5, ev, hT⟩ := hT
    refine c_faald dX11_builtIn_20 hc ht2 hb hW ev ?_
    obtain ⟨-, -, cc, hcc, -⟩ := hW.ob 2 (by decide)
    refine c_invV (vs := [.ref a5]) dX11_builtIn_21 oX2_isWord q728 q727 hcc q729 (Or.inl rfl) rfl rfl (Nat.le_of_ble_eq_true rfl) rfl hW hF hT ?_ ?_
    · intro _ s6 f7 hT h hW hF
      obtain ⟨v8, rfl, hT⟩ := hT
      refine x_if_eq (tgt := 31) dX11_builtIn_24 rfl (fun c => ?_) (fun c => ?_)
      · replace hT := hT.1 c
        refine x_iload_n dX11_builtIn_31 rfl rfl ?_
        refine x_istore_n (lo' := [some (.ref b0), some (.int b1), some (.int b2)]) dX11_builtIn_32 rfl (Nat.le_of_ble_eq_true rfl) rfl ?_
        refine x_iinc (lo' := [some (.ref b0), some (.int b1), some (.int (b2 + 1))]) dX11_builtIn_33 rfl (show _ = (b2 + 1) from rfl) rfl ?_
        refine x_goto (tgt := 4) dX11_builtIn_36 rfl ?_
        exact hT f0 h hW hF
      · replace hT := hT.2 c
        refine x_iload_n dX11_builtIn_27 rfl rfl ?_
        refine x_goto (tgt := 32) dX11_builtIn_28 rfl ?_
        refine x_istore_n (lo' := [some (.ref b0), some (.int b2), some (.int b2)]) dX11_builtIn_32 rfl (Nat.le_of_ble_eq_true rfl) rfl ?_
        refine x_iinc (lo' := [some (.ref b0), some (.int b2), some (.int (b2 + 1))]) dX11_builtIn_33 rfl (show _ = (b2 + 1) from rfl) rfl ?_
        refine x_goto (tgt := 4) dX11_builtIn_36 rfl ?_
        exact hT f0 h hW hF
    · intro k s6 f7 hT h a hW hx hF
      exact c_out (rfl) hW hx hF hT
theorem vR11_isShelf_0 {l : Launch} {E : EN} {w : CO} {d : Nat} {s : CS} {f : RH} {Q : KO → CS → RH → Prop} {x1 : Int64}  (hT : (((lg_cmp x1 1) < 0 → Q (.inl (some (.int 0))) s f) ∧ (¬ (lg_cmp x1 1) < 0 → ((0 < (lg_cmp x1 8) → Q (.inl (some (.int 0))) s f) ∧ (¬ 0 < (lg_cmp x1 8) → Q (.inl (some (.int 1))) s f))))) : ExC l E w d MX11_isShelf 0 [some (.long x1), none] [] s f Q := by
  intro f0 h hW hF
  refine x_lload_n dX11_isShelf_0 rfl rfl ?_
  refine x_lconst (v := 1) dX11_isShelf_1 rfl ?_
  refine x_lcmp dX11_isShelf_2 ?_
  refine x_if_lt (tgt := 18) dX11_isShelf_3 rfl (fun c => ?_) (fun c => ?_)
  · replace hT := hT.1 c
    refine x_iconst (v := 0) dX11_isShelf_18 rfl ?_
    exact x_iret dX11_isShelf_19 rfl rfl ⟨_, _, hW, hF, Or.inl ⟨_, rfl, hT⟩⟩
  · replace hT := hT.2 c
    refine x_lload_n dX11_isShelf_6 rfl rfl ?_
    refine x_ldc2 dX11_isShelf_7 q814 ?_
    refine x_lcmp dX11_isShelf_10 ?_
    refine x_if_gt (tgt := 18) dX11_isShelf_11 rfl (fun c => ?_) (fun c => ?_)
    · replace hT := hT.1 c
      refine x_iconst (v := 0) dX11_isShelf_18 rfl ?_
      exact x_iret dX11_isShelf_19 rfl rfl ⟨_, _, hW, hF, Or.inl ⟨_, rfl, hT⟩⟩
    · replace hT := hT.2 c
      refine x_iconst (v := 1) dX11_isShelf_14 rfl ?_
      refine x_goto (tgt := 19) dX11_isShelf_15 rfl ?_
      exact x_iret dX11_isShelf_19 rfl rfl ⟨_, _, hW, hF, Or.inl ⟨_, rfl, hT⟩⟩
theorem eR11_isShelf {l : Launch} {E : EN} {w : CO} {d : Nat} {s : CS} {f : RH} {Q : KO → CS → RH → Prop} {x1 : Int64}  (hst : l.stackTraces = false) (hT : (((lg_cmp x1 1) < 0 → Q (.inl (some (.int 0))) s f) ∧ (¬ (lg_cmp x1 1) < 0 → ((0 < (lg_cmp x1 8) → Q (.inl (some (.int 0))) s f) ∧ (¬ 0 < (lg_cmp x1 8) → Q (.inl (some (.int 1))) s f))))) : EvC l E w d MX11_isShelf [.long x1] s f Q :=
  EvC.of hst (by decide) (Nat.le_of_ble_eq_true rfl) (vR11_isShelf_0  hT)
theorem vR11_parameter_0 {l : Launch} {E : EN} {w : CO} {d : Nat} {s : CS} {f : RH} {Q : KO → CS → RH → Prop} {x0 : Nat}  (hT : (oc f x0 11 ∧ EvC l E w d MX11_wantName [.ref x0] s f (fun o s1 f2 => KP o (fun r => r = none ∧ (oc f2 x0 11 ∧ (∃ a3 : Nat, vl f2 x0 150 = .ref a3 ∧ (oc f2 a3 12 ∧ (∃ v4 : Int32, vl f2 a3 155 = .int v4 ∧ ((¬ v4 = 4 → (oc f2 x0 11 ∧ vl f2 x0 147 = .ref (w.1 2) ∧ (EvC l E w d MX2_name [.ref (w.1 2)] s1 f2 (fun o s5 f6 => KP o (fun r => ∃ v7 : Int64, r = some (.long v7) ∧ (EvC l E w d MX11_isShelf [.long v7] s5 f6 (fun o s8 f9 => KP o (fun r => ∃ v10 : Int32, r = some (.int v10) ∧ ExC l E w (d + 1) MX11_parameter 44 [some (.ref x0), some (.int v10), some (.int 0)] [] s8 f9 Q) (fun k => Q (.inr k) s8 f9)))) (fun k => Q (.inr k) s5 f6))))) ∧ (v4 = 4 → (oc f2 x0 11 ∧ vl f2 x0 147 = .ref (w.1 2) ∧ (oc f2 x0 11 ∧ vl f2 x0 147 = .ref (w.1 2) ∧ (EvC l E w d MX2_wrong [.ref (w.1 2), .int 3, .int (s1.1 21)] s1 f2 (fun o s11 f12 => KP o (fun r => r = some (.ref (w.1 1)) ∧ Q (.inr 1) s11 f12) (fun k => Q (.inr k) s11 f12)))))))))))) (fun k => Q (.inr k) s1 f2)))) : ExC l E w (d + 1) MX11_parameter 0 [some (.ref x0), none, none] [] s f Q := by
  intro f0 h hW hF
  refine x_aload_n dX11_parameter_0 rfl rfl rfl ?_
  obtain ⟨hc, hT⟩ := hT
  obtain ⟨cc, hcc⟩ := hW.ocell hc
  refine c_invV (vs := []) dX11_parameter_1 oX11_wantName q758 q756 hcc qs7 (Or.inl rfl) rfl rfl (Nat.le_of_ble_eq_true rfl) rfl hW hF hT ?_ ?_
  · intro _ s1 f2 hT h hW hF
    obtain ⟨rfl, hT⟩ := hT
    refine x_aload_n dX11_parameter_4 rfl rfl rfl ?_
    obtain ⟨hc, hT⟩ := hT
    obtain ⟨a3, ev, hT⟩ := hT
    refine c_fgetG dX11_parameter_5 f_TallySlate_Reader_100 hc (by decide) (by decide) hW ev ?_
    obtain ⟨hc, hT⟩ := hT
    obtain ⟨v4, ev, hT⟩ := hT
    refine c_fgetG dX11_parameter_8 f_TallySlate_Reader_70 hc (by decide) (by decide) hW ev ?_
    refine x_iconst (v := 4) dX11_parameter_11 rfl ?_
    refine x_icmp_ne (tgt := 31) dX11_parameter_12 rfl (fun c => ?_) (fun c => ?_)
    · replace hT := hT.1 c
      refine x_aload_n dX11_parameter_31 rfl rfl rfl ?_
      obtain ⟨hc, ev, hT⟩ := hT
      refine c_fgetG dX11_parameter_32 f_TallySlate_Reader_23 hc (by decide) (by decide) hW ev ?_
      obtain ⟨-, -, cc, hcc, -⟩ := hW.ob 2 (by decide)
      refine c_invV (vs := []) dX11_parameter_35 oX2_name q806 q805 hcc q807 (Or.inl rfl) rfl rfl (Nat.le_of_ble_eq_true rfl) rfl hW hF hT ?_ ?_
      · intro _ s5 f6 hT h hW hF
        obtain ⟨v7, rfl, hT⟩ := hT
        refine c_invS (vs := [.long v7]) dX11_parameter_38 oX11_isShelf q812 (Or.inl q811) rfl rfl (Nat.le_of_ble_eq_true rfl) rfl hW hF hT ?_ ?_
        · intro _ s8 f9 hT h hW hF
          obtain ⟨v10, rfl, hT⟩ := hT
          refine x_istore_n (lo' := [some (.ref x0), some (.int v10), none]) dX11_parameter_41 rfl (Nat.le_of_ble_eq_true rfl) rfl ?_
          refine x_iconst (v := 0) dX11_parameter_42 rfl ?_
          refine x_istore_n (lo' := [some (.ref x0), some (.int v10), some (.int 0)]) dX11_parameter_43 rfl (Nat.le_of_ble_eq_true rfl) rfl ?_
          exact hT f0 h hW hF
        · intro k s8 f9 hT h a hW hx hF
          exact c_out (rfl) hW hx hF hT
      · intro k s5 f6 hT h a hW hx hF
        exact c_out (rfl) hW hx hF hT
    · replace hT := hT.2 c
      refine x_aload_n dX11_parameter_15 rfl rfl rfl ?_
      obtain ⟨hc, ev, hT⟩ := hT
      refine c_fgetG dX11_parameter_16 f_TallySlate_Reader_23 hc (by decide) (by decide) hW ev ?_
      refine x_iconst (v := 3) dX11_parameter_19 rfl ?_
      refine x_aload_n dX11_parameter_20 rfl rfl rfl ?_
      obtain ⟨hc, ev, hT⟩ := hT
      refine c_fgetG dX11_parameter_21 f_TallySlate_Reader_23 hc (by decide) (by decide) hW ev ?_
      refine c_getI (v := (s1.1 21)) dX11_parameter_24 f_TallySlate_Reader_45 (by decide) (by decide) rfl hW rfl ?_
      obtain ⟨-, -, cc, hcc, -⟩ := hW.ob 2 (by decide)
      refine c_invV (vs := [.int 3, .int (s1.1 21)]) dX11_parameter_27 oX2_wrong q564 q772 hcc q565 (Or.inl rfl) rfl rfl (Nat.le_of_ble_eq_true rfl) rfl hW hF hT ?_ ?_
      · intro _ s11 f12 hT h hW hF
        obtain ⟨rfl, hT⟩ := hT
        refine x_athrow dX11_parameter_30 ?_
        exact c_out (rfl) hW (Or.inr (Or.inl ⟨rfl, rfl⟩)) hF hT
      · intro k s11 f12 hT h a hW hx hF
        exact c_out (rfl) hW hx hF hT
  · intro k s1 f2 hT h a hW hx hF
    exact c_out (rfl) hW hx hF hT
theorem eR11_parameter {l : Launch} {E : EN} {w : CO} {d : Nat} {s : CS} {f : RH} {Q : KO → CS → RH → Prop} {x0 : Nat}  (hst : l.stackTraces = false) (hT : (oc f x0 11 ∧ EvC l E w d MX11_wantName [.ref x0] s f (fun o s1 f2 => KP o (fun r => r = none ∧ (oc f2 x0 11 ∧ (∃ a3 : Nat, vl f2 x0 150 = .ref a3 ∧ (oc f2 a3 12 ∧ (∃ v4 : Int32, vl f2 a3 155 = .int v4 ∧ ((¬ v4 = 4 → (oc f2 x0 11 ∧ vl f2 x0 147 = .ref (w.1 2) ∧ (EvC l E w d MX2_name [.ref (w.1 2)] s1 f2 (fun o s5 f6 => KP o (fun r => ∃ v7 : Int64, r = some (.long v7) ∧ (EvC l E w d MX11_isShelf [.long v7] s5 f6 (fun o s8 f9 => KP o (fun r => ∃ v10 : Int32, r = some (.int v10) ∧ ExC l E w (d + 1) MX11_parameter 44 [some (.ref x0), some (.int v10), some (.int 0)] [] s8 f9 Q) (fun k => Q (.inr k) s8 f9)))) (fun k => Q (.inr k) s5 f6))))) ∧ (v4 = 4 → (oc f2 x0 11 ∧ vl f2 x0 147 = .ref (w.1 2) ∧ (oc f2 x0 11 ∧ vl f2 x0 147 = .ref (w.1 2) ∧ (EvC l E w d MX2_wrong [.ref (w.1 2), .int 3, .int (s1.1 21)] s1 f2 (fun o s11 f12 => KP o (fun r => r = some (.ref (w.1 1)) ∧ Q (.inr 1) s11 f12) (fun k => Q (.inr k) s11 f12)))))))))))) (fun k => Q (.inr k) s1 f2)))) : EvC l E w (d + 1) MX11_parameter [.ref x0] s f Q :=
  EvC.of hst (by decide) (Nat.le_of_ble_eq_true rfl) (vR11_parameter_0  hT)
set_option maxHeartbeats 16000000 in
theorem vR11_parameter_44 {l : Launch} {E : EN} {w : CO} {d : Nat} {s : CS} {f : RH} {Q : KO → CS → RH → Prop} {b0 : Nat} {b1 : Int32} {b2 : Int32}  (hT : (oc f b0 11 ∧ (∃ a14 : Nat, vl f b0 150 = .ref a14 ∧ (oc f a14 12 ∧ (∃ v15 : Int32, vl f a14 155 = .int v15 ∧ ((v15 ≤ b2 → ((b1 = 0 → (oc f b0 11 ∧ (∃ a16 : Nat, vl f b0 150 = .ref a16 ∧ (oc f a16 12 ∧ (∃ a17 : Nat, vl f a16 157 = .ref a17 ∧ (oc f b0 11 ∧ (∃ a18 : Nat, vl f b0 150 = .ref a18 ∧ (oc f a18 12 ∧ (∃ v19 : Int32, vl f a18 155 = .int v19 ∧ (oc f b0 11 ∧ vl f b0 147 = .ref (w.1 2) ∧ (EvC l E w d MX2_name [.ref (w.1 2)] s f (fun o s20 f21 => KP o (fun r => ∃ v22 : Int64, r = some (.long v22) ∧ (tg f21 a17 = some (.inr 1) ∧ inB v19 (ln f21 a17) ∧ f21.2.2.2 ≤ a17 ∧ ∀ f23 : RH, f23 = fset f21 a17 v19.toNatClampNeg (.long v22) → (oc f23 b0 11 ∧ (∃ a24 : Nat, vl f23 b0 150 = .ref a24 ∧ (oc f23 a24 12 ∧ (∃ v25 : Int32, vl f23 a24 155 = .int v25 ∧ (oc f23 a24 12 ∧ f23.2.2.2 ≤ a24 ∧ ∀ f26 : RH, f26 = fset f23 a24 155 (.int (v25 + 1)) → (oc f26 b0 11 ∧ (∃ a27 : Nat, vl f26 b0 150 = .ref a27 ∧ (oc f26 a27 12 ∧ (∃ v28 : Int32, vl f26 a27 156 = .int v28 ∧ (oc f26 a27 12 ∧ f26.2.2.2 ≤ a27 ∧ ∀ f29 : RH, f29 = fset f26 a27 156 (.int (v28 + 1)) → (oc f29 b0 11 ∧ vl f29 b0 147 = .ref (w.1 2) ∧ (EvC l E w d MX2_next [.ref (w.1 2)] s20 f29 (fun o s30 f31 => KP o (fun r => r = none ∧ Q (.inl none) s30 f31) (fun k => Q (.inr k) s30 f31)))))))))))))))) (fun k => Q (.inr k) s20 f21))))))))))))) ∧ (¬ b1 = 0 → (oc f b0 11 ∧ vl f b0 147 = .ref (w.1 2) ∧ (oc f b0 11 ∧ vl f b0 147 = .ref (w.1 2) ∧ (EvC l E w d MX2_wrong [.ref (w.1 2), .int 4, .int (s.1 21)] s f (fun o s32 f33 => KP o (fun r => r = some (.ref (w.1 1)) ∧ Q (.inr 1) s32 f33) (fun k => Q (.inr k) s32 f33)))))))) ∧ (¬ v15 ≤ b2 → ((¬ b1 = 0 → ExC l E w (d + 1) MX11_parameter 44 [some (.ref b0), some (.int 1), some (.int (b2 + 1))] [] s f Q) ∧ (b1 = 0 → (oc f b0 11 ∧ (∃ a34 : Nat, vl f b0 150 = .ref a34 ∧ (oc f a34 12 ∧ (∃ a35 : Nat, vl f a34 157 = .ref a35 ∧ (tg f a35 = some (.inr 1) ∧ inB b2 (ln f a35) ∧ (∃ v36 : Int64, vl f a35 b2.toNatClampNeg = .long v36 ∧ (oc f b0 11 ∧ vl f b0 147 = .ref (w.1 2) ∧ (EvC l E w d MX2_name [.ref (w.1 2)] s f (fun o s37 f38 => KP o (fun r => ∃ v39 : Int64, r = some (.long v39) ∧ ((¬ (lg_cmp v36 v39) = 0 → ExC l E w (d + 1) MX11_parameter 44 [some (.ref b0), some (.int 0), some (.int (b2 + 1))] [] s37 f38 Q) ∧ ((lg_cmp v36 v39) = 0 → ExC l E w (d + 1) MX11_parameter 44 [some (.ref b0), some (.int 1), some (.int (b2 + 1))] [] s37 f38 Q))) (fun k => Q (.inr k) s37 f38))))))))))))))))))) : ExC l E w (d + 1) MX11_parameter 44 [some (.ref b0), some (.int b1), some (.int b2)] [] s f Q := by
  intro f0 h hW hF
  refine x_iload_n dX11_parameter_44 rfl rfl ?_
  refine x_aload_n dX11_parameter_45 rfl rfl rfl ?_
  obtain ⟨hc, hT⟩ := hT
  obtain ⟨a14, ev, hT⟩ := hT
  refine c_fgetG dX11_parameter_46 f_TallySlate_Reader_100 hc (by decide) (by decide) hW ev ?_
  obtain ⟨hc, hT⟩ := hT
  obtain ⟨v15, ev, hT⟩ := hT
  refine c_fgetG dX11_parameter_49 f_TallySlate_Reader_70 hc (by decide) (by decide) hW ev ?_
  refine x_icmp_ge (tgt := 91) dX11_parameter_52 rfl (fun c => ?_) (fun c => ?_)
  · replace hT := hT.1 c
    refine x_iload_n dX11_parameter_91 rfl rfl ?_
    refine x_if_eq (tgt := 111) dX11_parameter_92 rfl (fun c => ?_) (fun c => ?_)
    · replace hT := hT.1 c
      refine x_aload_n dX11_parameter_111 rfl rfl rfl ?_
      obtain ⟨hc, hT⟩ := hT
      obtain ⟨a16, ev, hT⟩ := hT
      refine c_fgetG dX11_parameter_112 f_TallySlate_Reader_100 hc (by decide) (by decide) hW ev ?_
      obtain ⟨hc, hT⟩ := hT
      obtain ⟨a17, ev, hT⟩ := hT
      refine c_fgetG dX11_parameter_115 f_TallySlate_Reader_130 hc (by decide) (by decide) hW ev ?_
      refine x_aload_n dX11_parameter_118 rfl rfl rfl ?_
      obtain ⟨hc, hT⟩ := hT
      obtain ⟨a18, ev, hT⟩ := hT
      refine c_fgetG dX11_parameter_119 f_TallySlate_Reader_100 hc (by decide) (by decide) hW ev ?_
      obtain ⟨hc, hT⟩ := hT
      obtain ⟨v19, ev, hT⟩ := hT
      refine c_fgetG dX11_parameter_122 f_TallySlate_Reader_70 hc (by decide) (by decide) hW ev ?_
      refine x_aload_n dX11_parameter_125 rfl rfl rfl ?_
      obtain ⟨hc, ev, hT⟩ := hT
      refine c_fgetG dX11_parameter_126 f_TallySlate_Reader_23 hc (by decide) (by decide) hW ev ?_
      obtain ⟨-, -, cc, hcc, -⟩ := hW.ob 2 (by decide)
      refine c_invV (vs := []) dX11_parameter_129 oX2_name q806 q805 hcc q807 (Or.inl rfl) rfl rfl (Nat.le_of_ble_eq_true rfl) rfl hW hF hT ?_ ?_
      · intro _ s20 f21 hT h hW hF
        obtain ⟨v22, rfl, hT⟩ := hT
        obtain ⟨hc, hT⟩ := hT
        obtain ⟨hb, hz, hT⟩ := hT
        refine c_flastG dX11_parameter_132 hc hb hz hW hF ?_
        intro f23 ef23 h hW hF
        replace hT := hT f23 ef23
        refine x_aload_n dX11_parameter_133 rfl rfl rfl ?_
        obtain ⟨hc, hT⟩ := hT
        obtain ⟨a24, ev, hT⟩ := hT
        refine c_fgetG dX11_parameter_134 f_TallySlate_Reader_100 hc (by decide) (by decide) hW ev ?_
        refine x_dup dX11_parameter_137 rfl ?_
        obtain ⟨hc, hT⟩ := hT
        obtain ⟨v25, ev, hT⟩ := hT
        refine c_fgetG dX11_parameter_138 f_TallySlate_Reader_70 hc (by decide) (by decide) hW ev ?_
        refine x_iconst (v := 1) dX11_parameter_141 rfl ?_
        refine x_iadd dX11_parameter_142 ?_
        obtain ⟨hc, hz, hT⟩ := hT
        refine c_fputG dX11_parameter_143 f_TallySlate_Reader_70 hc (by decide) (by decide) hz (Or.inl rfl) rfl rfl hW hF ?_
        intro f26 ef26 h hW hF
        replace hT := hT f26 ef26
        refine x_aload_n dX11_parameter_146 rfl rfl rfl ?_
        obtain ⟨hc, hT⟩ := hT
        obtain ⟨a27, ev, hT⟩ := hT
        refine c_fgetG dX11_parameter_147 f_TallySlate_Reader_100 hc (by decide) (by decide) hW ev ?_
        refine x_dup dX11_parameter_150 rfl ?_
        obtain ⟨hc, hT⟩ := hT
        obtain ⟨v28, ev, hT⟩ := hT
        refine c_fgetG dX11_parameter_151 f_TallySlate_Reader_134 hc (by decide) (by decide) hW ev ?_
        refine x_iconst (v := 1) dX11_parameter_154 rfl ?_
        refine x_iadd dX11_parameter_155 ?_
        obtain ⟨hc, hz, hT⟩ := hT
        refine c_fputG dX11_parameter_156 f_TallySlate_Reader_134 hc (by decide) (by decide) hz (Or.inl rfl) rfl rfl hW hF ?_
        intro f29 ef29 h hW hF
        replace hT := hT f29 ef29
        refine x_aload_n dX11_parameter_159 rfl rfl rfl ?_
        obtain ⟨hc, ev, hT⟩ := hT
        refine c_fgetG dX11_parameter_160 f_TallySlate_Reader_23 hc (by decide) (by decide) hW ev ?_
        obtain ⟨-, -, cc, hcc, -⟩ := hW.ob 2 (by decide)
        refine c_invV (vs := []) dX11_parameter_163 oX2_next q610 q609 hcc q611 (Or.inl rfl) rfl rfl (Nat.le_of_ble_eq_true rfl) rfl hW hF hT ?_ ?_
        · intro _ s30 f31 hT h hW hF
          obtain ⟨rfl, hT⟩ := hT
          exact x_vret dX11_parameter_166 rfl ⟨_, _, hW, hF, Or.inl ⟨_, rfl, hT⟩⟩
        · intro k s30 f31 hT h a hW hx hF
          exact c_out (rfl) hW hx hF hT
      · intro k s20 f21 hT h a hW hx hF
        exact c_out (rfl) hW hx hF hT
    · replace hT := hT.2 c
      refine x_aload_n dX11_parameter_95 rfl rfl rfl ?_
      obtain ⟨hc, ev, hT⟩ := hT
      refine c_fgetG dX11_parameter_96 f_TallySlate_Reader_23 hc (by decide) (by decide) hW ev ?_
      refine x_iconst (v := 4) dX11_parameter_99 rfl ?_
      refine x_aload_n dX11_parameter_100 rfl rfl rfl ?_
      obtain ⟨hc, ev, hT⟩ := hT
      refine c_fgetG dX11_parameter_101 f_TallySlate_Reader_23 hc (by decide) (by decide) hW ev ?_
      refine c_getI (v := (s.1 21)) dX11_parameter_104 f_TallySlate_Reader_45 (by decide) (by decide) rfl hW rfl ?_
      obtain ⟨-, -, cc, hcc, -⟩ := hW.ob 2 (by decide)
      refine c_invV (vs := [.int 4, .int (s.1 21)]) dX11_parameter_107 oX2_wrong q564 q772 hcc q565 (Or.inl rfl) rfl rfl (Nat.le_of_ble_eq_true rfl) rfl hW hF hT ?_ ?_
      · intro _ s32 f33 hT h hW hF
        obtain ⟨rfl, hT⟩ := hT
        refine x_athrow dX11_parameter_110 ?_
        exact c_out (rfl) hW (Or.inr (Or.inl ⟨rfl, rfl⟩)) hF hT
      · intro k s32 f33 hT h a hW hx hF
        exact c_out (rfl) hW hx hF hT
  · replace hT := hT.2 c
    refine x_iload_n dX11_parameter_55 rfl rfl ?_
    refine x_if_ne (tgt := 79) dX11_parameter_56 rfl (fun c => ?_) (fun c => ?_)
    · replace hT := hT.1 c
      refine x_iconst (v := 1) dX11_parameter_79 rfl ?_
      refine x_goto (tgt := 84) dX11_parameter_80 rfl ?_
      refine x_istore_n (lo' := [some (.ref b0), some (.int 1), some (.int b2)]) dX11_parameter_84 rfl (Nat.le_of_ble_eq_true rfl) rfl ?_
      refine x_iinc (lo' := [some (.ref b0), some (.int 1), some (.int (b2 + 1))]) dX11_parameter_85 rfl (show _ = (b2 + 1) from rfl) rfl ?_
      refine x_goto (tgt := 44) dX11_parameter_88 rfl ?_
      exact hT f0 h hW hF
    · replace hT := hT.2 c
      refine x_aload_n dX11_parameter_59 rfl rfl rfl ?_
      obtain ⟨hc, hT⟩ := hT
      obtain ⟨a34, ev, hT⟩ := hT
      refine c_fgetG dX11_parameter_60 f_TallySlate_Reader_100 hc (by decide) (by decide) hW ev ?_
      obtain ⟨hc, hT⟩ := hT
      obtain ⟨a35, ev, hT⟩ := hT
      refine c_fgetG dX11_parameter_63 f_TallySlate_Reader_130 hc (by decide) (by decide) hW ev ?_
      refine x_iload_n dX11_parameter_66 rfl rfl ?_
      obtain ⟨hc, hT⟩ := hT
      obtain ⟨hb, hT⟩ := hT
      obtain ⟨v36, ev, hT⟩ := hT
      refine c_flald dX11_parameter_67 hc hb hW ev ?_
      refine x_aload_n dX11_parameter_68 rfl rfl rfl ?_
      obtain ⟨hc, ev, hT⟩ := hT
      refine c_fgetG dX11_parameter_69 f_TallySlate_Reader_23 hc (by decide) (by decide) hW ev ?_
      obtain ⟨-, -, cc, hcc, -⟩ := hW.ob 2 (by decide)
      refine c_invV (vs := []) dX11_parameter_72 oX2_name q806 q805 hcc q807 (Or.inl rfl) rfl rfl (Nat.le_of_ble_eq_true rfl) rfl hW hF hT ?_ ?_
      · intro _ s37 f38 hT h hW hF
        obtain ⟨v39, rfl, hT⟩ := hT
        refine x_lcmp dX11_parameter_75 ?_
        refine x_if_ne (tgt := 83) dX11_parameter_76 rfl (fun c => ?_) (fun c => ?_)
        · replace hT := hT.1 c
          refine x_iconst (v := 0) dX11_parameter_83 rfl ?_
          refine x_istore_n (lo' := [some (.ref b0), some (.int 0), some (.int b2)]) dX11_parameter_84 rfl (Nat.le_of_ble_eq_true rfl) rfl ?_
          refine x_iinc (lo' := [some (.ref b0), some (.int 0), some (.int (b2 + 1))]) dX11_parameter_85 rfl (show _ = (b2 + 1) from rfl) rfl ?_
          refine x_goto (tgt := 44) dX11_parameter_88 rfl ?_
          exact hT f0 h hW hF
        · replace hT := hT.2 c
          refine x_iconst (v := 1) dX11_parameter_79 rfl ?_
          refine x_goto (tgt := 84) dX11_parameter_80 rfl ?_
          refine x_istore_n (lo' := [some (.ref b0), some (.int 1), some (.int b2)]) dX11_parameter_84 rfl (Nat.le_of_ble_eq_true rfl) rfl ?_
          refine x_iinc (lo' := [some (.ref b0), some (.int 1), some (.int (b2 + 1))]) dX11_parameter_85 rfl (show _ = (b2 + 1) from rfl) rfl ?_
          refine x_goto (tgt := 44) dX11_parameter_88 rfl ?_
          exact hT f0 h hW hF
      · intro k s37 f38 hT h a hW hx hF
        exact c_out (rfl) hW hx hF hT
theorem vR11_block_0 {l : Launch} {E : EN} {w : CO} {d : Nat} {s : CS} {f : RH} {Q : KO → CS → RH → Prop} {x0 : Nat}  (hT : (rmF E f 1 2 ∧ ∀ (a1 : Nat) (f2 : RH), a1 = f.1 → f2 = fnew f 13 → (EvC l E w d MX13_init [.ref a1] s f2 (fun o s3 f4 => KP o (fun r => r = none ∧ (oc f4 x0 11 ∧ vl f4 x0 147 = .ref (w.1 2) ∧ (EvC l E w d MX2_take [.ref (w.1 2), .int 123] s3 f4 (fun o s5 f6 => KP o (fun r => r = none ∧ ExC l E w (d + 1) MX11_block 17 [some (.ref x0), some (.ref a1)] [] s5 f6 Q) (fun k => Q (.inr k) s5 f6))))) (fun k => Q (.inr k) s3 f4))))) : ExC l E w (d + 1) MX11_block 0 [some (.ref x0), none] [] s f Q := by
  intro f0 h hW hF
  obtain ⟨hr, hT⟩ := hT
  refine c_newG (k := 13) dX11_block_0 (by decide) q833 q186 hr hW hF ?_
  intro a1 f2 ea1 ef2 h hW hF
  replace hT := hT a1 f2 ea1 ef2
  refine x_dup dX11_block_3 rfl ?_
  refine c_invI (b := a1) (vs := []) dX11_block_4 oX13_init rfl rfl rfl q836 (Or.inr ⟨_, q835⟩) rfl rfl (Nat.le_of_ble_eq_true rfl) rfl hW hF hT ?_ ?_
  · intro _ s3 f4 hT h hW hF
    obtain ⟨rfl, hT⟩ := hT
    refine x_astore_n (lo' := [some (.ref x0), some (.ref a1)]) dX11_block_7 rfl (Nat.le_of_ble_eq_true rfl) rfl rfl ?_
    refine x_aload_n dX11_block_8 rfl rfl rfl ?_
    obtain ⟨hc, ev, hT⟩ := hT
    refine c_fgetG dX11_block_9 f_TallySlate_Reader_23 hc (by decide) (by decide) hW ev ?_
    refine x_bipush (v := 123) dX11_block_12 rfl ?_
    obtain ⟨-, -, cc, hcc, -⟩ := hW.ob 2 (by decide)
    refine c_invV (vs := [.int 123]) dX11_block_14 oX2_take q816 q815 hcc q817 (Or.inl rfl) rfl rfl (Nat.le_of_ble_eq_true rfl) rfl hW hF hT ?_ ?_
    · intro _ s5 f6 hT h hW hF
      obtain ⟨rfl, hT⟩ := hT
      exact hT f0 h hW hF
    · intro k s5 f6 hT h a hW hx hF
      exact c_out (rfl) hW hx hF hT
  · intro k s3 f4 hT h a hW hx hF
    exact c_out (rfl) hW hx hF hT
theorem eR11_block {l : Launch} {E : EN} {w : CO} {d : Nat} {s : CS} {f : RH} {Q : KO → CS → RH → Prop} {x0 : Nat}  (hst : l.stackTraces = false) (hT : (rmF E f 1 2 ∧ ∀ (a1 : Nat) (f2 : RH), a1 = f.1 → f2 = fnew f 13 → (EvC l E w d MX13_init [.ref a1] s f2 (fun o s3 f4 => KP o (fun r => r = none ∧ (oc f4 x0 11 ∧ vl f4 x0 147 = .ref (w.1 2) ∧ (EvC l E w d MX2_take [.ref (w.1 2), .int 123] s3 f4 (fun o s5 f6 => KP o (fun r => r = none ∧ ExC l E w (d + 1) MX11_block 17 [some (.ref x0), some (.ref a1)] [] s5 f6 Q) (fun k => Q (.inr k) s5 f6))))) (fun k => Q (.inr k) s3 f4))))) : EvC l E w (d + 1) MX11_block [.ref x0] s f Q :=
  EvC.of hst (by decide) (Nat.le_of_ble_eq_true rfl) (vR11_block_0  hT)
theorem vR11_block_17 {l : Launch} {E : EN} {w : CO} {d : Nat} {s : CS} {f : RH} {Q : KO → CS → RH → Prop} {b0 : Nat} {b1 : Nat}  (hT : (oc f b0 11 ∧ vl f b0 147 = .ref (w.1 2) ∧ (EvC l E w d MX2_is [.ref (w.1 2), .int 125] s f (fun o s7 f8 => KP o (fun r => ∃ v9 : Int32, r = some (.int v9) ∧ ((¬ v9 = 0 → (oc f8 b0 11 ∧ vl f8 b0 147 = .ref (w.1 2) ∧ (EvC l E w d MX2_take [.ref (w.1 2), .int 125] s7 f8 (fun o s10 f11 => KP o (fun r => r = none ∧ Q (.inl (some (.ref b1))) s10 f11) (fun k => Q (.inr k) s10 f11))))) ∧ (v9 = 0 → (oc f8 b0 11 ∧ EvC l E w d MX11_deed [.ref b0] s7 f8 (fun o s12 f13 => KP o (fun r => ∃ a14 : Nat, r = some (.ref a14) ∧ (oc f13 b1 13 ∧ EvC l E w d MX13_add [.ref b1, .ref a14] s12 f13 (fun o s15 f16 => KP o (fun r => r = none ∧ ExC l E w (d + 1) MX11_block 17 [some (.ref b0), some (.ref b1)] [] s15 f16 Q) (fun k => Q (.inr k) s15 f16)))) (fun k => Q (.inr k) s12 f13)))))) (fun k => Q (.inr k) s7 f8))))) : ExC l E w (d + 1) MX11_block 17 [some (.ref b0), some (.ref b1)] [] s f Q := by
  intro f0 h hW hF
  refine x_aload_n dX11_block_17 rfl rfl rfl ?_
  obtain ⟨hc, ev, hT⟩ := hT
  refine c_fgetG dX11_block_18 f_TallySlate_Reader_23 hc (by decide) (by decide) hW ev ?_
  refine x_bipush (v := 125) dX11_block_21 rfl ?_
  obtain ⟨-, -, cc, hcc, -⟩ := hW.ob 2 (by decide)
  refine c_invV (vs := [.int 125]) dX11_block_23 oX2_is q820 q824 hcc q821 (Or.inl rfl) rfl rfl (Nat.le_of_ble_eq_true rfl) rfl hW hF hT ?_ ?_
  · intro _ s7 f8 hT h hW hF
    obtain ⟨v9, rfl, hT⟩ := hT
    refine x_if_ne (tgt := 40) dX11_block_26 rfl (fun c => ?_) (fun c => ?_)
    · replace hT := hT.1 c
      refine x_aload_n dX11_block_40 rfl rfl rfl ?_
      obtain ⟨hc, ev, hT⟩ := hT
      refine c_fgetG dX11_block_41 f_TallySlate_Reader_23 hc (by decide) (by decide) hW ev ?_
      refine x_bipush (v := 125) dX11_block_44 rfl ?_
      obtain ⟨-, -, cc, hcc, -⟩ := hW.ob 2 (by decide)
      refine c_invV (vs := [.int 125]) dX11_block_46 oX2_take q816 q815 hcc q817 (Or.inl rfl) rfl rfl (Nat.le_of_ble_eq_true rfl) rfl hW hF hT ?_ ?_
      · intro _ s10 f11 hT h hW hF
        obtain ⟨rfl, hT⟩ := hT
        refine x_aload_n dX11_block_49 rfl rfl rfl ?_
        exact x_aret dX11_block_50 rfl (by first | exact Or.inl ⟨_, rfl⟩ | exact Or.inr ⟨_, rfl⟩) rfl ⟨_, _, hW, hF, Or.inl ⟨_, rfl, hT⟩⟩
      · intro k s10 f11 hT h a hW hx hF
        exact c_out (rfl) hW hx hF hT
    · replace hT := hT.2 c
      refine x_aload_n dX11_block_29 rfl rfl rfl ?_
      refine x_aload_n dX11_block_30 rfl rfl rfl ?_
      obtain ⟨hc, hT⟩ := hT
      obtain ⟨cc, hcc⟩ := hW.ocell hc
      refine c_invV (vs := []) dX11_block_31 oX11_deed q850 q848 hcc qs12 (Or.inl rfl) rfl rfl (Nat.le_of_ble_eq_true rfl) rfl hW hF hT ?_ ?_
      · intro _ s12 f13 hT h hW hF
        obtain ⟨a14, rfl, hT⟩ := hT
        obtain ⟨hc, hT⟩ := hT
        obtain ⟨cc, hcc⟩ := hW.ocell hc
        refine c_invV (vs := [.ref a14]) dX11_block_34 oX13_add q1282 q1281 hcc q1283 (Or.inl rfl) rfl rfl (Nat.le_of_ble_eq_true rfl) rfl hW hF hT ?_ ?_
        · intro _ s15 f16 hT h hW hF
          obtain ⟨rfl, hT⟩ := hT
          refine x_goto (tgt := 17) dX11_block_37 rfl ?_
          exact hT f0 h hW hF
        · intro k s15 f16 hT h a hW hx hF
          exact c_out (rfl) hW hx hF hT
      · intro k s12 f13 hT h a hW hx hF
        exact c_out (rfl) hW hx hF hT
  · intro k s7 f8 hT h a hW hx hF
    exact c_out (rfl) hW hx hF hT
set_option maxHeartbeats 16000000 in
theorem vR11_deed_0 {l : Launch} {E : EN} {w : CO} {d : Nat} {s : CS} {f : RH} {Q : KO → CS → RH → Prop} {x0 : Nat}  (hT : (oc f x0 11 ∧ vl f x0 147 = .ref (w.1 2) ∧ (∀ y1 : Int32, y1 = (s.1 21) → (oc f x0 11 ∧ vl f x0 147 = .ref (w.1 2) ∧ (EvC l E w d MX2_isWord [.ref (w.1 2), .ref (eSC E 42)] s f (fun o s2 f3 => KP o (fun r => ∃ v4 : Int32, r = some (.int v4) ∧ ((v4 = 0 → (oc f3 x0 11 ∧ vl f3 x0 147 = .ref (w.1 2) ∧ (EvC l E w d MX2_isWord [.ref (w.1 2), .ref (eSC E 43)] s2 f3 (fun o s5 f6 => KP o (fun r => ∃ v7 : Int32, r = some (.int v7) ∧ ((v7 = 0 → (oc f6 x0 11 ∧ vl f6 x0 147 = .ref (w.1 2) ∧ (EvC l E w d MX2_isWord [.ref (w.1 2), .ref (eSC E 44)] s5 f6 (fun o s8 f9 => KP o (fun r => ∃ v10 : Int32, r = some (.int v10) ∧ ((v10 = 0 → (oc f9 x0 11 ∧ vl f9 x0 147 = .ref (w.1 2) ∧ (EvC l E w d MX2_isWord [.ref (w.1 2), .ref (eSC E 45)] s8 f9 (fun o s11 f12 => KP o (fun r => ∃ v13 : Int32, r = some (.int v13) ∧ ((v13 = 0 → (oc f12 x0 11 ∧ vl f12 x0 147 = .ref (w.1 2) ∧ (EvC l E w d MX2_isWord [.ref (w.1 2), .ref (eSC E 46)] s11 f12 (fun o s14 f15 => KP o (fun r => ∃ v16 : Int32, r = some (.int v16) ∧ ((v16 = 0 → (oc f15 x0 11 ∧ vl f15 x0 147 = .ref (w.1 2) ∧ (EvC l E w d MX2_isWord [.ref (w.1 2), .ref (eSC E 47)] s14 f15 (fun o s17 f18 => KP o (fun r => ∃ v19 : Int32, r = some (.int v19) ∧ ((v19 = 0 → (oc f18 x0 11 ∧ vl f18 x0 147 = .ref (w.1 2) ∧ (EvC l E w d MX2_isWord [.ref (w.1 2), .ref (eSC E 48)] s17 f18 (fun o s20 f21 => KP o (fun r => ∃ v22 : Int32, r = some (.int v22) ∧ ((v22 = 0 → (oc f21 x0 11 ∧ vl f21 x0 147 = .ref (w.1 2) ∧ ((¬ (s20.1 20) = 1 → (oc f21 x0 11 ∧ EvC l E w d MX11_assign [.ref x0] s20 f21 (fun o s23 f24 => KP o (fun r => ∃ a25 : Nat, r = some (.ref a25) ∧ (∃ k27 : Nat, oc f24 a25 k27 ∧ 161 ∈ CF k27 ∧ ¬ k27 = 30 ∧ f24.2.2.2 ≤ a25 ∧ ∀ f26 : RH, f26 = fset f24 a25 161 (.int y1) → Q (.inl (some (.ref a25))) s23 f26)) (fun k => Q (.inr k) s23 f24)))) ∧ ((s20.1 20) = 1 → (oc f21 x0 11 ∧ EvC l E w d MX11_builtIn [.ref x0] s20 f21 (fun o s29 f30 => KP o (fun r => ∃ v31 : Int32, r = some (.int v31) ∧ ((0 ≤ v31 → (oc f30 x0 11 ∧ EvC l E w d MX11_alone [.ref x0] s29 f30 (fun o s32 f33 => KP o (fun r => ∃ a34 : Nat, r = some (.ref a34) ∧ (∃ k36 : Nat, oc f33 a34 k36 ∧ 161 ∈ CF k36 ∧ ¬ k36 = 30 ∧ f33.2.2.2 ≤ a34 ∧ ∀ f35 : RH, f35 = fset f33 a34 161 (.int y1) → Q (.inl (some (.ref a34))) s32 f35)) (fun k => Q (.inr k) s32 f33)))) ∧ (¬ 0 ≤ v31 → (oc f30 x0 11 ∧ EvC l E w d MX11_isReserved [.ref x0] s29 f30 (fun o s38 f39 => KP o (fun r => ∃ v40 : Int32, r = some (.int v40) ∧ ((¬ v40 = 0 → (oc f39 x0 11 ∧ EvC l E w d MX11_assign [.ref x0] s38 f39 (fun o s41 f42 => KP o (fun r => ∃ a43 : Nat, r = some (.ref a43) ∧ (∃ k45 : Nat, oc f42 a43 k45 ∧ 161 ∈ CF k45 ∧ ¬ k45 = 30 ∧ f42.2.2.2 ≤ a43 ∧ ∀ f44 : RH, f44 = fset f42 a43 161 (.int y1) → Q (.inl (some (.ref a43))) s41 f44)) (fun k => Q (.inr k) s41 f42)))) ∧ (v40 = 0 → (oc f39 x0 11 ∧ vl f39 x0 147 = .ref (w.1 2) ∧ (EvC l E w d MX2_isCalled [.ref (w.1 2)] s38 f39 (fun o s47 f48 => KP o (fun r => ∃ v49 : Int32, r = some (.int v49) ∧ ((v49 = 0 → (oc f48 x0 11 ∧ EvC l E w d MX11_assign [.ref x0] s47 f48 (fun o s50 f51 => KP o (fun r => ∃ a52 : Nat, r = some (.ref a52) ∧ (∃ k54 : Nat, oc f51 a52 k54 ∧ 161 ∈ CF k54 ∧ ¬ k54 = 30 ∧ f51.2.2.2 ≤ a52 ∧ ∀ f53 : RH, f53 = fset f51 a52 161 (.int y1) → Q (.inl (some (.ref a52))) s50 f53)) (fun k => Q (.inr k) s50 f51)))) ∧ (¬ v49 = 0 → (oc f48 x0 11 ∧ EvC l E w d MX11_alone [.ref x0] s47 f48 (fun o s56 f57 => KP o (fun r => ∃ a58 : Nat, r = some (.ref a58) ∧ (∃ k60 : Nat, oc f57 a58 k60 ∧ 161 ∈ CF k60 ∧ ¬ k60 = 30 ∧ f57.2.2.2 ≤ a58 ∧ ∀ f59 : RH, f59 = fset f57 a58 161 (.int y1) → Q (.inl (some (.ref a58))) s56 f59)) (fun k => Q (.inr k) s56 f57)))))) (fun k => Q (.inr k) s47 f48))))))) (fun k => Q (.inr k) s38 f39)))))) (fun k => Q (.inr k) s29 f30))))))) ∧ (¬ v22 = 0 → (oc f21 x0 11 ∧ EvC l E w d MX11_attempt [.ref x0] s20 f21 (fun o s64 f65 => KP o (fun r => ∃ a66 : Nat, r = some (.ref a66) ∧ (∃ k68 : Nat, oc f65 a66 k68 ∧ 161 ∈ CF k68 ∧ ¬ k68 = 30 ∧ f65.2.2.2 ≤ a66 ∧ ∀ f67 : RH, f67 = fset f65 a66 161 (.int y1) → Q (.inl (some (.ref a66))) s64 f67)) (fun k => Q (.inr k) s64 f65)))))) (fun k => Q (.inr k) s20 f21))))) ∧ (¬ v19 = 0 → (oc f18 x0 11 ∧ EvC l E w d MX11_plain [.ref x0, .int 3] s17 f18 (fun o s70 f71 => KP o (fun r => ∃ a72 : Nat, r = some (.ref a72) ∧ (∃ k74 : Nat, oc f71 a72 k74 ∧ 161 ∈ CF k74 ∧ ¬ k74 = 30 ∧ f71.2.2.2 ≤ a72 ∧ ∀ f73 : RH, f73 = fset f71 a72 161 (.int y1) → Q (.inl (some (.ref a72))) s70 f73)) (fun k => Q (.inr k) s70 f71)))))) (fun k => Q (.inr k) s17 f18))))) ∧ (¬ v16 = 0 → (oc f15 x0 11 ∧ EvC l E w d MX11_plain [.ref x0, .int 2] s14 f15 (fun o s76 f77 => KP o (fun r => ∃ a78 : Nat, r = some (.ref a78) ∧ (∃ k80 : Nat, oc f77 a78 k80 ∧ 161 ∈ CF k80 ∧ ¬ k80 = 30 ∧ f77.2.2.2 ≤ a78 ∧ ∀ f79 : RH, f79 = fset f77 a78 161 (.int y1) → Q (.inl (some (.ref a78))) s76 f79)) (fun k => Q (.inr k) s76 f77)))))) (fun k => Q (.inr k) s14 f15))))) ∧ (¬ v13 = 0 → (oc f12 x0 11 ∧ EvC l E w d MX11_plain [.ref x0, .int 1] s11 f12 (fun o s82 f83 => KP o (fun r => ∃ a84 : Nat, r = some (.ref a84) ∧ (∃ k86 : Nat, oc f83 a84 k86 ∧ 161 ∈ CF k86 ∧ ¬ k86 = 30 ∧ f83.2.2.2 ≤ a84 ∧ ∀ f85 : RH, f85 = fset f83 a84 161 (.int y1) → Q (.inl (some (.ref a84))) s82 f85)) (fun k => Q (.inr k) s82 f83)))))) (fun k => Q (.inr k) s11 f12))))) ∧ (¬ v10 = 0 → (oc f9 x0 11 ∧ EvC l E w d MX11_walk [.ref x0] s8 f9 (fun o s88 f89 => KP o (fun r => ∃ a90 : Nat, r = some (.ref a90) ∧ (∃ k92 : Nat, oc f89 a90 k92 ∧ 161 ∈ CF k92 ∧ ¬ k92 = 30 ∧ f89.2.2.2 ≤ a90 ∧ ∀ f91 : RH, f91 = fset f89 a90 161 (.int y1) → Q (.inl (some (.ref a90))) s88 f91)) (fun k => Q (.inr k) s88 f89)))))) (fun k => Q (.inr k) s8 f9))))) ∧ (¬ v7 = 0 → (oc f6 x0 11 ∧ EvC l E w d MX11_loop [.ref x0] s5 f6 (fun o s94 f95 => KP o (fun r => ∃ a96 : Nat, r = some (.ref a96) ∧ (∃ k98 : Nat, oc f95 a96 k98 ∧ 161 ∈ CF k98 ∧ ¬ k98 = 30 ∧ f95.2.2.2 ≤ a96 ∧ ∀ f97 : RH, f97 = fset f95 a96 161 (.int y1) → Q (.inl (some (.ref a96))) s94 f97)) (fun k => Q (.inr k) s94 f95)))))) (fun k => Q (.inr k) s5 f6))))) ∧ (¬ v4 = 0 → (oc f3 x0 11 ∧ EvC l E w d MX11_choice [.ref x0] s2 f3 (fun o s100 f101 => KP o (fun r => ∃ a102 : Nat, r = some (.ref a102) ∧ (∃ k104 : Nat, oc f101 a102 k104 ∧ 161 ∈ CF k104 ∧ ¬ k104 = 30 ∧ f101.2.2.2 ≤ a102 ∧ ∀ f103 : RH, f103 = fset f101 a102 161 (.int y1) → Q (.inl (some (.ref a102))) s100 f103)) (fun k => Q (.inr k) s100 f101)))))) (fun k => Q (.inr k) s2 f3))))))) : ExC l E w (d + 1) MX11_deed 0 [some (.ref x0), none, none] [] s f Q := by
  intro f0 h hW hF
  refine x_aload_n dX11_deed_0 rfl rfl rfl ?_
  obtain ⟨hc, ev, hT⟩ := hT
  refine c_fgetG dX11_deed_1 f_TallySlate_Reader_23 hc (by decide) (by decide) hW ev ?_
  refine c_getI (v := (s.1 21)) dX11_deed_4 f_TallySlate_Reader_45 (by decide) (by decide) rfl hW rfl ?_
  obtain ⟨y1, ey1⟩ : ∃ z : Int32, z = (s.1 21) := ⟨_, rfl⟩
  replace hT := hT y1 ey1
  refine x_istore_n (lo' := [some (.ref x0), some (.int y1), none]) dX11_deed_7 rfl (Nat.le_of_ble_eq_true rfl) (by rw [ey1]; exact rfl) ?_
  refine x_aload_n dX11_deed_8 rfl rfl rfl ?_
  obtain ⟨hc, ev, hT⟩ := hT
  refine c_fgetG dX11_deed_9 f_TallySlate_Reader_23 hc (by decide) (by decide) hW ev ?_
  refine x_ldcS (i := 42) dX11_deed_12 rfl ?_
  obtain ⟨-, -, cc, hcc, -⟩ := hW.ob 2 (by decide)
  refine c_invV (vs := [.ref (eSC E 42)]) dX11_deed_14 oX2_isWord q728 q727 hcc q729 (Or.inl rfl) rfl rfl (Nat.le_of_ble_eq_true rfl) rfl hW hF hT ?_ ?_
  · intro _ s2 f3 hT h hW hF
    obtain ⟨v4, rfl, hT⟩ := hT
    refine x_if_eq (tgt := 28) dX11_deed_17 rfl (fun c => ?_) (fun c => ?_)
    · replace hT := hT.1 c
      refine x_aload_n dX11_deed_28 rfl rfl rfl ?_
      obtain ⟨hc, ev, hT⟩ := hT
      refine c_fgetG dX11_deed_29 f_TallySlate_Reader_23 hc (by decide) (by decide) hW ev ?_
      refine x_ldcS (i := 43) dX11_deed_32 rfl ?_
      obtain ⟨-, -, cc, hcc, -⟩ := hW.ob 2 (by decide)
      refine c_invV (vs := [.ref (eSC E 43)]) dX11_deed_34 oX2_isWord q728 q727 hcc q729 (Or.inl rfl) rfl rfl (Nat.le_of_ble_eq_true rfl) rfl hW hF hT ?_ ?_
      · intro _ s5 f6 hT h hW hF
        obtain ⟨v7, rfl, hT⟩ := hT
        refine x_if_eq (tgt := 48) dX11_deed_37 rfl (fun c => ?_) (fun c => ?_)
        · replace hT := hT.1 c
          refine x_aload_n dX11_deed_48 rfl rfl rfl ?_
          obtain ⟨hc, ev, hT⟩ := hT
          refine c_fgetG dX11_deed_49 f_TallySlate_Reader_23 hc (by decide) (by decide) hW ev ?_
          refine x_ldcS (i := 44) dX11_deed_52 rfl ?_
          obtain ⟨-, -, cc, hcc, -⟩ := hW.ob 2 (by decide)
          refine c_invV (vs := [.ref (eSC E 44)]) dX11_deed_54 oX2_isWord q728 q727 hcc q729 (Or.inl rfl) rfl rfl (Nat.le_of_ble_eq_true rfl) rfl hW hF hT ?_ ?_
          · intro _ s8 f9 hT h hW hF
            obtain ⟨v10, rfl, hT⟩ := hT
            refine x_if_eq (tgt := 68) dX11_deed_57 rfl (fun c => ?_) (fun c => ?_)
            · replace hT := hT.1 c
              refine x_aload_n dX11_deed_68 rfl rfl rfl ?_
              obtain ⟨hc, ev, hT⟩ := hT
              refine c_fgetG dX11_deed_69 f_TallySlate_Reader_23 hc (by decide) (by decide) hW ev ?_
              refine x_ldcS (i := 45) dX11_deed_72 rfl ?_
              obtain ⟨-, -, cc, hcc, -⟩ := hW.ob 2 (by decide)
              refine c_invV (vs := [.ref (eSC E 45)]) dX11_deed_74 oX2_isWord q728 q727 hcc q729 (Or.inl rfl) rfl rfl (Nat.le_of_ble_eq_true rfl) rfl hW hF hT ?_ ?_
              · intro _ s11 f12 hT h hW hF
                obtain ⟨v13, rfl, hT⟩ := hT
                refine x_if_eq (tgt := 89) dX11_deed_77 rfl (fun c => ?_) (fun c => ?_)
                · replace hT := hT.1 c
                  refine x_aload_n dX11_deed_89 rfl rfl rfl ?_
                  obtain ⟨hc, ev, hT⟩ := hT
                  refine c_fgetG dX11_deed_90 f_TallySlate_Reader_23 hc (by decide) (by decide) hW ev ?_
                  refine x_ldcS (i := 46) dX11_deed_93 rfl ?_
                  obtain ⟨-, -, cc, hcc, -⟩ := hW.ob 2 (by decide)
                  refine c_invV (vs := [.ref (eSC E 46)]) dX11_deed_95 oX2_isWord q728 q727 hcc q729 (Or.inl rfl) rfl rfl (Nat.le_of_ble_eq_true rfl) rfl hW hF hT ?_ ?_
                  · intro _ s14 f15 hT h hW hF
                    obtain ⟨v16, rfl, hT⟩ := hT
                    refine x_if_eq (tgt := 110) dX11_deed_98 rfl (fun c => ?_) (fun c => ?_)
                    · replace hT := hT.1 c
                      refine x_aload_n dX11_deed_110 rfl rfl rfl ?_
                      obtain ⟨hc, ev, hT⟩ := hT
                      refine c_fgetG dX11_deed_111 f_TallySlate_Reader_23 hc (by decide) (by decide) hW ev ?_
                      refine x_ldcS (i := 47) dX11_deed_114 rfl ?_
                      obtain ⟨-, -, cc, hcc, -⟩ := hW.ob 2 (by decide)
                      refine c_invV (vs := [.ref (eSC E 47)]) dX11_deed_116 oX2_isWord q728 q727 hcc q729 (Or.inl rfl) rfl rfl (Nat.le_of_ble_eq_true rfl) rfl hW hF hT ?_ ?_
                      · intro _ s17 f18 hT h hW hF
                        obtain ⟨v19, rfl, hT⟩ := hT
                        refine x_if_eq (tgt := 131) dX11_deed_119 rfl (fun c => ?_) (fun c => ?_)
                        · replace hT := hT.1 c
                          refine x_aload_n dX11_deed_131 rfl rfl rfl ?_
                          obtain ⟨hc, ev, hT⟩ := hT
                          refine c_fgetG dX11_deed_132 f_TallySlate_Reader_23 hc (by decide) (by decide) hW ev ?_
                          refine x_ldcS (i := 48) dX11_deed_135 rfl ?_
                          obtain ⟨-, -, cc, hcc, -⟩ := hW.ob 2 (by decide)
                          refine c_invV (vs := [.ref (eSC E 48)]) dX11_deed_137 oX2_isWord q728 q727 hcc q729 (Or.inl rfl) rfl rfl (Nat.le_of_ble_eq_true rfl) rfl hW hF hT ?_ ?_
                          · intro _ s20 f21 hT h hW hF
                            obtain ⟨v22, rfl, hT⟩ := hT
                            refine x_if_eq (tgt := 151) dX11_deed_140 rfl (fun c => ?_) (fun c => ?_)
                            · replace hT := hT.1 c
                              refine x_aload_n dX11_deed_151 rfl rfl rfl ?_
                              obtain ⟨hc, ev, hT⟩ := hT
                              refine c_fgetG dX11_deed_152 f_TallySlate_Reader_23 hc (by decide) (by decide) hW ev ?_
                              refine c_getI (v := (s20.1 20)) dX11_deed_155 f_TallySlate_Reader_41 (by decide) (by decide) rfl hW rfl ?_
                              refine x_iconst (v := 1) dX11_deed_158 rfl ?_
                              refine x_icmp_ne (tgt := 194) dX11_deed_159 rfl (fun c => ?_) (fun c => ?_)
                              · replace hT := hT.1 c
                                refine x_aload_n dX11_deed_194 rfl rfl rfl ?_
                                obtain ⟨hc, hT⟩ := hT
                                obtain ⟨cc, hcc⟩ := hW.ocell hc
                                refine c_invV (vs := []) dX11_deed_195 oX11_assign q1239 q1237 hcc qs33 (Or.inl rfl) rfl rfl (Nat.le_of_ble_eq_true rfl) rfl hW hF hT ?_ ?_
                                · intro _ s23 f24 hT h hW hF
                                  obtain ⟨a25, rfl, hT⟩ := hT
                                  refine x_astore_n (lo' := [some (.ref x0), some (.int y1), some (.ref a25)]) dX11_deed_198 rfl (Nat.le_of_ble_eq_true rfl) rfl rfl ?_
                                  refine x_aload_n dX11_deed_199 rfl rfl rfl ?_
                                  refine x_iload_n dX11_deed_200 rfl rfl ?_
                                  obtain ⟨k27, hc, hj, h30, hz, hT⟩ := hT
                                  refine c_fputG dX11_deed_201 f_TallySlate_Reader_193 hc hj h30 hz (Or.inl rfl) rfl rfl hW hF ?_
                                  intro f26 ef26 h hW hF
                                  replace hT := hT f26 ef26
                                  refine x_aload_n dX11_deed_204 rfl rfl rfl ?_
                                  exact x_aret dX11_deed_205 rfl (by first | exact Or.inl ⟨_, rfl⟩ | exact Or.inr ⟨_, rfl⟩) rfl ⟨_, _, hW, hF, Or.inl ⟨_, rfl, hT⟩⟩
                                · intro k s23 f24 hT h a hW hx hF
                                  exact c_out (rfl) hW hx hF hT
                              · replace hT := hT.2 c
                                refine x_aload_n dX11_deed_162 rfl rfl rfl ?_
                                obtain ⟨hc, hT⟩ := hT
                                obtain ⟨cc, hcc⟩ := hW.ocell hc
                                refine c_invV (vs := []) dX11_deed_163 oX11_builtIn q768 q766 hcc qs9 (Or.inl rfl) rfl rfl (Nat.le_of_ble_eq_true rfl) rfl hW hF hT ?_ ?_
                                · intro _ s29 f30 hT h hW hF
                                  obtain ⟨v31, rfl, hT⟩ := hT
                                  refine x_if_ge (tgt := 186) dX11_deed_166 rfl (fun c => ?_) (fun c => ?_)
                                  · replace hT := hT.1 c
                                    refine x_aload_n dX11_deed_186 rfl rfl rfl ?_
                                    obtain ⟨hc, hT⟩ := hT
                                    obtain ⟨cc, hcc⟩ := hW.ocell hc
                                    refine c_invV (vs := []) dX11_deed_187 oX11_alone q1235 q1233 hcc qs32 (Or.inl rfl) rfl rfl (Nat.le_of_ble_eq_true rfl) rfl hW hF hT ?_ ?_
                                    · intro _ s32 f33 hT h hW hF
                                      obtain ⟨a34, rfl, hT⟩ := hT
                                      refine x_astore_n (lo' := [some (.ref x0), some (.int y1), some (.ref a34)]) dX11_deed_190 rfl (Nat.le_of_ble_eq_true rfl) rfl rfl ?_
                                      refine x_goto (tgt := 199) dX11_deed_191 rfl ?_
                                      refine x_aload_n dX11_deed_199 rfl rfl rfl ?_
                                      refine x_iload_n dX11_deed_200 rfl rfl ?_
                                      obtain ⟨k36, hc, hj, h30, hz, hT⟩ := hT
                                      refine c_fputG dX11_deed_201 f_TallySlate_Reader_193 hc hj h30 hz (Or.inl rfl) rfl rfl hW hF ?_
                                      intro f35 ef35 h hW hF
                                      replace hT := hT f35 ef35
                                      refine x_aload_n dX11_deed_204 rfl rfl rfl ?_
                                      exact x_aret dX11_deed_205 rfl (by first | exact Or.inl ⟨_, rfl⟩ | exact Or.inr ⟨_, rfl⟩) rfl ⟨_, _, hW, hF, Or.inl ⟨_, rfl, hT⟩⟩
                                    · intro k s32 f33 hT h a hW hx hF
                                      exact c_out (rfl) hW hx hF hT
                                  · replace hT := hT.2 c
                                    refine x_aload_n dX11_deed_169 rfl rfl rfl ?_
                                    obtain ⟨hc, hT⟩ := hT
                                    obtain ⟨cc, hcc⟩ := hW.ocell hc
                                    refine c_invV (vs := []) dX11_deed_170 oX11_isReserved q762 q760 hcc qs8 (Or.inl rfl) rfl rfl (Nat.le_of_ble_eq_true rfl) rfl hW hF hT ?_ ?_
                                    · intro _ s38 f39 hT h hW hF
                                      obtain ⟨v40, rfl, hT⟩ := hT
                                      refine x_if_ne (tgt := 194) dX11_deed_173 rfl (fun c => ?_) (fun c => ?_)
                                      · replace hT := hT.1 c
                                        refine x_aload_n dX11_deed_194 rfl rfl rfl ?_
                                        obtain ⟨hc, hT⟩ := hT
                                        obtain ⟨cc, hcc⟩ := hW.ocell hc
                                        refine c_invV (vs := []) dX11_deed_195 oX11_assign q1239 q1237 hcc qs33 (Or.inl rfl) rfl rfl (Nat.le_of_ble_eq_true rfl) rfl hW hF hT ?_ ?_
                                        · intro _ s41 f42 hT h hW hF
                                          obtain ⟨a43, rfl, hT⟩ := hT
                                          refine x_astore_n (lo' := [some (.ref x0), some (.int y1), some (.ref a43)]) dX11_deed_198 rfl (Nat.le_of_ble_eq_true rfl) rfl rfl ?_
                                          refine x_aload_n dX11_deed_199 rfl rfl rfl ?_
                                          refine x_iload_n dX11_deed_200 rfl rfl ?_
                                          obtain ⟨k45, hc, hj, h30, hz, hT⟩ := hT
                                          refine c_fputG dX11_deed_201 f_TallySlate_Reader_193 hc hj h30 hz (Or.inl rfl) rfl rfl hW hF ?_
                                          intro f44 ef44 h hW hF
                                          replace hT := hT f44 ef44
                                          refine x_aload_n dX11_deed_204 rfl rfl rfl ?_
                                          exact x_aret dX11_deed_205 rfl (by first | exact Or.inl ⟨_, rfl⟩ | exact Or.inr ⟨_, rfl⟩) rfl ⟨_, _, hW, hF, Or.inl ⟨_, rfl, hT⟩⟩
                                        · intro k s41 f42 hT h a hW hx hF
                                          exact c_out (rfl) hW hx hF hT
                                      · replace hT := hT.2 c
                                        refine x_aload_n dX11_deed_176 rfl rfl rfl ?_
                                        obtain ⟨hc, ev, hT⟩ := hT
                                        refine c_fgetG dX11_deed_177 f_TallySlate_Reader_23 hc (by decide) (by decide) hW ev ?_
                                        obtain ⟨-, -, cc, hcc, -⟩ := hW.ob 2 (by decide)
                                        refine c_invV (vs := []) dX11_deed_180 oX2_isCalled q1000 q999 hcc q1001 (Or.inl rfl) rfl rfl (Nat.le_of_ble_eq_true rfl) rfl hW hF hT ?_ ?_
                                        · intro _ s47 f48 hT h hW hF
                                          obtain ⟨v49, rfl, hT⟩ := hT
                                          refine x_if_eq (tgt := 194) dX11_deed_183 rfl (fun c => ?_) (fun c => ?_)
                                          · replace hT := hT.1 c
                                            refine x_aload_n dX11_deed_194 rfl rfl rfl ?_
                                            obtain ⟨hc, hT⟩ := hT
                                            obtain ⟨cc, hcc⟩ := hW.ocell hc
                                            refine c_invV (vs := []) dX11_deed_195 oX11_assign q1239 q1237 hcc qs33 (Or.inl rfl) rfl rfl (Nat.le_of_ble_eq_true rfl) rfl hW hF hT ?_ ?_
                                            · intro _ s50 f51 hT h hW hF
                                              obtain ⟨a52, rfl, hT⟩ := hT
                                              refine x_astore_n (lo' := [some (.ref x0), some (.int y1), some (.ref a52)]) dX11_deed_198 rfl (Nat.le_of_ble_eq_true rfl) rfl rfl ?_
                                              refine x_aload_n dX11_deed_199 rfl rfl rfl ?_
                                              refine x_iload_n dX11_deed_200 rfl rfl ?_
                                              obtain ⟨k54, hc, hj, h30, hz, hT⟩ := hT
                                              refine c_fputG dX11_deed_201 f_TallySlate_Reader_193 hc hj h30 hz (Or.inl rfl) rfl rfl hW hF ?_
                                              intro f53 ef53 h hW hF
                                              replace hT := hT f53 ef53
                                              refine x_aload_n dX11_deed_204 rfl rfl rfl ?_
                                              exact x_aret dX11_deed_205 rfl (by first | exact Or.inl ⟨_, rfl⟩ | exact Or.inr ⟨_, rfl⟩) rfl ⟨_, _, hW, hF, Or.inl ⟨_, rfl, hT⟩⟩
                                            · intro k s50 f51 hT h a hW hx hF
                                              exact c_out (rfl) hW hx hF hT
                                          · replace hT := hT.2 c
                                            refine x_aload_n dX11_deed_186 rfl rfl rfl ?_
                                            obtain ⟨hc, hT⟩ := hT
                                            obtain ⟨cc, hcc⟩ := hW.ocell hc
                                            refine c_invV (vs := []) dX11_deed_187 oX11_alone q1235 q1233 hcc qs32 (Or.inl rfl) rfl rfl (Nat.le_of_ble_eq_true rfl) rfl hW hF hT ?_ ?_
                                            · intro _ s56 f57 hT h hW hF
                                              obtain ⟨a58, rfl, hT⟩ := hT
                                              refine x_astore_n (lo' := [some (.ref x0), some (.int y1), some (.ref a58)]) dX11_deed_190 rfl (Nat.le_of_ble_eq_true rfl) rfl rfl ?_
                                              refine x_goto (tgt := 199) dX11_deed_191 rfl ?_
                                              refine x_aload_n dX11_deed_199 rfl rfl rfl ?_
                                              refine x_iload_n dX11_deed_200 rfl rfl ?_
                                              obtain ⟨k60, hc, hj, h30, hz, hT⟩ := hT
                                              refine c_fputG dX11_deed_201 f_TallySlate_Reader_193 hc hj h30 hz (Or.inl rfl) rfl rfl hW hF ?_
                                              intro f59 ef59 h hW hF
                                              replace hT := hT f59 ef59
                                              refine x_aload_n dX11_deed_204 rfl rfl rfl ?_
                                              exact x_aret dX11_deed_205 rfl (by first | exact Or.inl ⟨_, rfl⟩ | exact Or.inr ⟨_, rfl⟩) rfl ⟨_, _, hW, hF, Or.inl ⟨_, rfl, hT⟩⟩
                                            · intro k s56 f57 hT h a hW hx hF
                                              exact c_out (rfl) hW hx hF hT
                                        · intro k s47 f48 hT h a hW hx hF
                                          exact c_out (rfl) hW hx hF hT
                                    · intro k s38 f39 hT h a hW hx hF
                                      exact c_out (rfl) hW hx hF hT
                                · intro k s29 f30 hT h a hW hx hF
                                  exact c_out (rfl) hW hx hF hT
                            · replace hT := hT.2 c
                              refine x_aload_n dX11_deed_143 rfl rfl rfl ?_
                              obtain ⟨hc, hT⟩ := hT
                              obtain ⟨cc, hcc⟩ := hW.ocell hc
                              refine c_invV (vs := []) dX11_deed_144 oX11_attempt q1206 q1204 hcc qs31 (Or.inl rfl) rfl rfl (Nat.le_of_ble_eq_true rfl) rfl hW hF hT ?_ ?_
                              · intro _ s64 f65 hT h hW hF
                                obtain ⟨a66, rfl, hT⟩ := hT
                                refine x_astore_n (lo' := [some (.ref x0), some (.int y1), some (.ref a66)]) dX11_deed_147 rfl (Nat.le_of_ble_eq_true rfl) rfl rfl ?_
                                refine x_goto (tgt := 199) dX11_deed_148 rfl ?_
                                refine x_aload_n dX11_deed_199 rfl rfl rfl ?_
                                refine x_iload_n dX11_deed_200 rfl rfl ?_
                                obtain ⟨k68, hc, hj, h30, hz, hT⟩ := hT
                                refine c_fputG dX11_deed_201 f_TallySlate_Reader_193 hc hj h30 hz (Or.inl rfl) rfl rfl hW hF ?_
                                intro f67 ef67 h hW hF
                                replace hT := hT f67 ef67
                                refine x_aload_n dX11_deed_204 rfl rfl rfl ?_
                                exact x_aret dX11_deed_205 rfl (by first | exact Or.inl ⟨_, rfl⟩ | exact Or.inr ⟨_, rfl⟩) rfl ⟨_, _, hW, hF, Or.inl ⟨_, rfl, hT⟩⟩
                              · intro k s64 f65 hT h a hW hx hF
                                exact c_out (rfl) hW hx hF hT
                          · intro k s20 f21 hT h a hW hx hF
                            exact c_out (rfl) hW hx hF hT
                        · replace hT := hT.2 c
                          refine x_aload_n dX11_deed_122 rfl rfl rfl ?_
                          refine x_iconst (v := 3) dX11_deed_123 rfl ?_
                          obtain ⟨hc, hT⟩ := hT
                          obtain ⟨cc, hcc⟩ := hW.ocell hc
                          refine c_invV (vs := [.int 3]) dX11_deed_124 oX11_plain q1184 q1182 hcc qs30 (Or.inl rfl) rfl rfl (Nat.le_of_ble_eq_true rfl) rfl hW hF hT ?_ ?_
                          · intro _ s70 f71 hT h hW hF
                            obtain ⟨a72, rfl, hT⟩ := hT
                            refine x_astore_n (lo' := [some (.ref x0), some (.int y1), some (.ref a72)]) dX11_deed_127 rfl (Nat.le_of_ble_eq_true rfl) rfl rfl ?_
                            refine x_goto (tgt := 199) dX11_deed_128 rfl ?_
                            refine x_aload_n dX11_deed_199 rfl rfl rfl ?_
                            refine x_iload_n dX11_deed_200 rfl rfl ?_
                            obtain ⟨k74, hc, hj, h30, hz, hT⟩ := hT
                            refine c_fputG dX11_deed_201 f_TallySlate_Reader_193 hc hj h30 hz (Or.inl rfl) rfl rfl hW hF ?_
                            intro f73 ef73 h hW hF
                            replace hT := hT f73 ef73
                            refine x_aload_n dX11_deed_204 rfl rfl rfl ?_
                            exact x_aret dX11_deed_205 rfl (by first | exact Or.inl ⟨_, rfl⟩ | exact Or.inr ⟨_, rfl⟩) rfl ⟨_, _, hW, hF, Or.inl ⟨_, rfl, hT⟩⟩
                          · intro k s70 f71 hT h a hW hx hF
                            exact c_out (rfl) hW hx hF hT
                      · intro k s17 f18 hT h a hW hx hF
                        exact c_out (rfl) hW hx hF hT
                    · replace hT := hT.2 c
                      refine x_aload_n dX11_deed_101 rfl rfl rfl ?_
                      refine x_iconst (v := 2) dX11_deed_102 rfl ?_
                      obtain ⟨hc, hT⟩ := hT
                      obtain ⟨cc, hcc⟩ := hW.ocell hc
                      refine c_invV (vs := [.int 2]) dX11_deed_103 oX11_plain q1184 q1182 hcc qs30 (Or.inl rfl) rfl rfl (Nat.le_of_ble_eq_true rfl) rfl hW hF hT ?_ ?_
                      · intro _ s76 f77 hT h hW hF
                        obtain ⟨a78, rfl, hT⟩ := hT
                        refine x_astore_n (lo' := [some (.ref x0), some (.int y1), some (.ref a78)]) dX11_deed_106 rfl (Nat.le_of_ble_eq_true rfl) rfl rfl ?_
                        refine x_goto (tgt := 199) dX11_deed_107 rfl ?_
                        refine x_aload_n dX11_deed_199 rfl rfl rfl ?_
                        refine x_iload_n dX11_deed_200 rfl rfl ?_
                        obtain ⟨k80, hc, hj, h30, hz, hT⟩ := hT
                        refine c_fputG dX11_deed_201 f_TallySlate_Reader_193 hc hj h30 hz (Or.inl rfl) rfl rfl hW hF ?_
                        intro f79 ef79 h hW hF
                        replace hT := hT f79 ef79
                        refine x_aload_n dX11_deed_204 rfl rfl rfl ?_
                        exact x_aret dX11_deed_205 rfl (by first | exact Or.inl ⟨_, rfl⟩ | exact Or.inr ⟨_, rfl⟩) rfl ⟨_, _, hW, hF, Or.inl ⟨_, rfl, hT⟩⟩
                      · intro k s76 f77 hT h a hW hx hF
                        exact c_out (rfl) hW hx hF hT
                  · intro k s14 f15 hT h a hW hx hF
                    exact c_out (rfl) hW hx hF hT
                · replace hT := hT.2 c
                  refine x_aload_n dX11_deed_80 rfl rfl rfl ?_
                  refine x_iconst (v := 1) dX11_deed_81 rfl ?_
                  obtain ⟨hc, hT⟩ := hT
                  obtain ⟨cc, hcc⟩ := hW.ocell hc
                  refine c_invV (vs := [.int 1]) dX11_deed_82 oX11_plain q1184 q1182 hcc qs30 (Or.inl rfl) rfl rfl (Nat.le_of_ble_eq_true rfl) rfl hW hF hT ?_ ?_
                  · intro _ s82 f83 hT h hW hF
                    obtain ⟨a84, rfl, hT⟩ := hT
                    refine x_astore_n (lo' := [some (.ref x0), some (.int y1), some (.ref a84)]) dX11_deed_85 rfl (Nat.le_of_ble_eq_true rfl) rfl rfl ?_
                    refine x_goto (tgt := 199) dX11_deed_86 rfl ?_
                    refine x_aload_n dX11_deed_199 rfl rfl rfl ?_
                    refine x_iload_n dX11_deed_200 rfl rfl ?_
                    obtain ⟨k86, hc, hj, h30, hz, hT⟩ := hT
                    refine c_fputG dX11_deed_201 f_TallySlate_Reader_193 hc hj h30 hz (Or.inl rfl) rfl rfl hW hF ?_
                    intro f85 ef85 h hW hF
                    replace hT := hT f85 ef85
                    refine x_aload_n dX11_deed_204 rfl rfl rfl ?_
                    exact x_aret dX11_deed_205 rfl (by first | exact Or.inl ⟨_, rfl⟩ | exact Or.inr ⟨_, rfl⟩) rfl ⟨_, _, hW, hF, Or.inl ⟨_, rfl, hT⟩⟩
                  · intro k s82 f83 hT h a hW hx hF
                    exact c_out (rfl) hW hx hF hT
              · intro k s11 f12 hT h a hW hx hF
                exact c_out (rfl) hW hx hF hT
            · replace hT := hT.2 c
              refine x_aload_n dX11_deed_60 rfl rfl rfl ?_
              obtain ⟨hc, hT⟩ := hT
              obtain ⟨cc, hcc⟩ := hW.ocell hc
              refine c_invV (vs := []) dX11_deed_61 oX11_walk q1154 q1152 hcc qs28 (Or.inl rfl) rfl rfl (Nat.le_of_ble_eq_true rfl) rfl hW hF hT ?_ ?_
              · intro _ s88 f89 hT h hW hF
                obtain ⟨a90, rfl, hT⟩ := hT
                refine x_astore_n (lo' := [some (.ref x0), some (.int y1), some (.ref a90)]) dX11_deed_64 rfl (Nat.le_of_ble_eq_true rfl) rfl rfl ?_
                refine x_goto (tgt := 199) dX11_deed_65 rfl ?_
                refine x_aload_n dX11_deed_199 rfl rfl rfl ?_
                refine x_iload_n dX11_deed_200 rfl rfl ?_
                obtain ⟨k92, hc, hj, h30, hz, hT⟩ := hT
                refine c_fputG dX11_deed_201 f_TallySlate_Reader_193 hc hj h30 hz (Or.inl rfl) rfl rfl hW hF ?_
                intro f91 ef91 h hW hF
                replace hT := hT f91 ef91
                refine x_aload_n dX11_deed_204 rfl rfl rfl ?_
                exact x_aret dX11_deed_205 rfl (by first | exact Or.inl ⟨_, rfl⟩ | exact Or.inr ⟨_, rfl⟩) rfl ⟨_, _, hW, hF, Or.inl ⟨_, rfl, hT⟩⟩
              · intro k s88 f89 hT h a hW hx hF
                exact c_out (rfl) hW hx hF hT
          · intro k s8 f9 hT h a hW hx hF
            exact c_out (rfl) hW hx hF hT
        · replace hT := hT.2 c
          refine x_aload_n dX11_deed_40 rfl rfl rfl ?_
          obtain ⟨hc, hT⟩ := hT
          obtain ⟨cc, hcc⟩ := hW.ocell hc
          refine c_invV (vs := []) dX11_deed_41 oX11_loop q1133 q1131 hcc qs27 (Or.inl rfl) rfl rfl (Nat.le_of_ble_eq_true rfl) rfl hW hF hT ?_ ?_
          · intro _ s94 f95 hT h hW hF
            obtain ⟨a96, rfl, hT⟩ := hT
            refine x_astore_n (lo' := [some (.ref x0), some (.int y1), some (.ref a96)]) dX11_deed_44 rfl (Nat.le_of_ble_eq_true rfl) rfl rfl ?_
            refine x_goto (tgt := 199) dX11_deed_45 rfl ?_
            refine x_aload_n dX11_deed_199 rfl rfl rfl ?_
            refine x_iload_n dX11_deed_200 rfl rfl ?_
            obtain ⟨k98, hc, hj, h30, hz, hT⟩ := hT
            refine c_fputG dX11_deed_201 f_TallySlate_Reader_193 hc hj h30 hz (Or.inl rfl) rfl rfl hW hF ?_
            intro f97 ef97 h hW hF
            replace hT := hT f97 ef97
            refine x_aload_n dX11_deed_204 rfl rfl rfl ?_
            exact x_aret dX11_deed_205 rfl (by first | exact Or.inl ⟨_, rfl⟩ | exact Or.inr ⟨_, rfl⟩) rfl ⟨_, _, hW, hF, Or.inl ⟨_, rfl, hT⟩⟩
          · intro k s94 f95 hT h a hW hx hF
            exact c_out (rfl) hW hx hF hT
      · intro k s5 f6 hT h a hW hx hF
        exact c_out (rfl) hW hx hF hT
    · replace hT := hT.2 c
      refine x_aload_n dX11_deed_20 rfl rfl rfl ?_
      obtain ⟨hc, hT⟩ := hT
      obtain ⟨cc, hcc⟩ := hW.ocell hc
      refine c_invV (vs := []) dX11_deed_21 oX11_choice q855 q853 hcc qs13 (Or.inl rfl) rfl rfl (Nat.le_of_ble_eq_true rfl) rfl hW hF hT ?_ ?_
      · intro _ s100 f101 hT h hW hF
        obtain ⟨a102, rfl, hT⟩ := hT
        refine x_astore_n (lo' := [some (.ref x0), some (.int y1), some (.ref a102)]) dX11_deed_24 rfl (Nat.le_of_ble_eq_true rfl) rfl rfl ?_
        refine x_goto (tgt := 199) dX11_deed_25 rfl ?_
        refine x_aload_n dX11_deed_199 rfl rfl rfl ?_
        refine x_iload_n dX11_deed_200 rfl rfl ?_
        obtain ⟨k104, hc, hj, h30, hz, hT⟩ := hT
        refine c_fputG dX11_deed_201 f_TallySlate_Reader_193 hc hj h30 hz (Or.inl rfl) rfl rfl hW hF ?_
        intro f103 ef103 h hW hF
        replace hT := hT f103 ef103
        refine x_aload_n dX11_deed_204 rfl rfl rfl ?_
        exact x_aret dX11_deed_205 rfl (by first | exact Or.inl ⟨_, rfl⟩ | exact Or.inr ⟨_, rfl⟩) rfl ⟨_, _, hW, hF, Or.inl ⟨_, rfl, hT⟩⟩
      · intro k s100 f101 hT h a hW hx hF
        exact c_out (rfl) hW hx hF hT
  · intro k s2 f3 hT h a hW hx hF
    exact c_out (rfl) hW hx hF hT
theorem eR11_deed {l : Launch} {E : EN} {w : CO} {d : Nat} {s : CS} {f : RH} {Q : KO → CS → RH → Prop} {x0 : Nat}  (hst : l.stackTraces = false) (hT : (oc f x0 11 ∧ vl f x0 147 = .ref (w.1 2) ∧ (∀ y1 : Int32, y1 = (s.1 21) → (oc f x0 11 ∧ vl f x0 147 = .ref (w.1 2) ∧ (EvC l E w d MX2_isWord [.ref (w.1 2), .ref (eSC E 42)] s f (fun o s2 f3 => KP o (fun r => ∃ v4 : Int32, r = some (.int v4) ∧ ((v4 = 0 → (oc f3 x0 11 ∧ vl f3 x0 147 = .ref (w.1 2) ∧ (EvC l E w d MX2_isWord [.ref (w.1 2), .ref (eSC E 43)] s2 f3 (fun o s5 f6 => KP o (fun r => ∃ v7 : Int32, r = some (.int v7) ∧ ((v7 = 0 → (oc f6 x0 11 ∧ vl f6 x0 147 = .ref (w.1 2) ∧ (EvC l E w d MX2_isWord [.ref (w.1 2), .ref (eSC E 44)] s5 f6 (fun o s8 f9 => KP o (fun r => ∃ v10 : Int32, r = some (.int v10) ∧ ((v10 = 0 → (oc f9 x0 11 ∧ vl f9 x0 147 = .ref (w.1 2) ∧ (EvC l E w d MX2_isWord [.ref (w.1 2), .ref (eSC E 45)] s8 f9 (fun o s11 f12 => KP o (fun r => ∃ v13 : Int32, r = some (.int v13) ∧ ((v13 = 0 → (oc f12 x0 11 ∧ vl f12 x0 147 = .ref (w.1 2) ∧ (EvC l E w d MX2_isWord [.ref (w.1 2), .ref (eSC E 46)] s11 f12 (fun o s14 f15 => KP o (fun r => ∃ v16 : Int32, r = some (.int v16) ∧ ((v16 = 0 → (oc f15 x0 11 ∧ vl f15 x0 147 = .ref (w.1 2) ∧ (EvC l E w d MX2_isWord [.ref (w.1 2), .ref (eSC E 47)] s14 f15 (fun o s17 f18 => KP o (fun r => ∃ v19 : Int32, r = some (.int v19) ∧ ((v19 = 0 → (oc f18 x0 11 ∧ vl f18 x0 147 = .ref (w.1 2) ∧ (EvC l E w d MX2_isWord [.ref (w.1 2), .ref (eSC E 48)] s17 f18 (fun o s20 f21 => KP o (fun r => ∃ v22 : Int32, r = some (.int v22) ∧ ((v22 = 0 → (oc f21 x0 11 ∧ vl f21 x0 147 = .ref (w.1 2) ∧ ((¬ (s20.1 20) = 1 → (oc f21 x0 11 ∧ EvC l E w d MX11_assign [.ref x0] s20 f21 (fun o s23 f24 => KP o (fun r => ∃ a25 : Nat, r = some (.ref a25) ∧ (∃ k27 : Nat, oc f24 a25 k27 ∧ 161 ∈ CF k27 ∧ ¬ k27 = 30 ∧ f24.2.2.2 ≤ a25 ∧ ∀ f26 : RH, f26 = fset f24 a25 161 (.int y1) → Q (.inl (some (.ref a25))) s23 f26)) (fun k => Q (.inr k) s23 f24)))) ∧ ((s20.1 20) = 1 → (oc f21 x0 11 ∧ EvC l E w d MX11_builtIn [.ref x0] s20 f21 (fun o s29 f30 => KP o (fun r => ∃ v31 : Int32, r = some (.int v31) ∧ ((0 ≤ v31 → (oc f30 x0 11 ∧ EvC l E w d MX11_alone [.ref x0] s29 f30 (fun o s32 f33 => KP o (fun r => ∃ a34 : Nat, r = some (.ref a34) ∧ (∃ k36 : Nat, oc f33 a34 k36 ∧ 161 ∈ CF k36 ∧ ¬ k36 = 30 ∧ f33.2.2.2 ≤ a34 ∧ ∀ f35 : RH, f35 = fset f33 a34 161 (.int y1) → Q (.inl (some (.ref a34))) s32 f35)) (fun k => Q (.inr k) s32 f33)))) ∧ (¬ 0 ≤ v31 → (oc f30 x0 11 ∧ EvC l E w d MX11_isReserved [.ref x0] s29 f30 (fun o s38 f39 => KP o (fun r => ∃ v40 : Int32, r = some (.int v40) ∧ ((¬ v40 = 0 → (oc f39 x0 11 ∧ EvC l E w d MX11_assign [.ref x0] s38 f39 (fun o s41 f42 => KP o (fun r => ∃ a43 : Nat, r = some (.ref a43) ∧ (∃ k45 : Nat, oc f42 a43 k45 ∧ 161 ∈ CF k45 ∧ ¬ k45 = 30 ∧ f42.2.2.2 ≤ a43 ∧ ∀ f44 : RH, f44 = fset f42 a43 161 (.int y1) → Q (.inl (some (.ref a43))) s41 f44)) (fun k => Q (.inr k) s41 f42)))) ∧ (v40 = 0 → (oc f39 x0 11 ∧ vl f39 x0 147 = .ref (w.1 2) ∧ (EvC l E w d MX2_isCalled [.ref (w.1 2)] s38 f39 (fun o s47 f48 => KP o (fun r => ∃ v49 : Int32, r = some (.int v49) ∧ ((v49 = 0 → (oc f48 x0 11 ∧ EvC l E w d MX11_assign [.ref x0] s47 f48 (fun o s50 f51 => KP o (fun r => ∃ a52 : Nat, r = some (.ref a52) ∧ (∃ k54 : Nat, oc f51 a52 k54 ∧ 161 ∈ CF k54 ∧ ¬ k54 = 30 ∧ f51.2.2.2 ≤ a52 ∧ ∀ f53 : RH, f53 = fset f51 a52 161 (.int y1) → Q (.inl (some (.ref a52))) s50 f53)) (fun k => Q (.inr k) s50 f51)))) ∧ (¬ v49 = 0 → (oc f48 x0 11 ∧ EvC l E w d MX11_alone [.ref x0] s47 f48 (fun o s56 f57 => KP o (fun r => ∃ a58 : Nat, r = some (.ref a58) ∧ (∃ k60 : Nat, oc f57 a58 k60 ∧ 161 ∈ CF k60 ∧ ¬ k60 = 30 ∧ f57.2.2.2 ≤ a58 ∧ ∀ f59 : RH, f59 = fset f57 a58 161 (.int y1) → Q (.inl (some (.ref a58))) s56 f59)) (fun k => Q (.inr k) s56 f57)))))) (fun k => Q (.inr k) s47 f48))))))) (fun k => Q (.inr k) s38 f39)))))) (fun k => Q (.inr k) s29 f30))))))) ∧ (¬ v22 = 0 → (oc f21 x0 11 ∧ EvC l E w d MX11_attempt [.ref x0] s20 f21 (fun o s64 f65 => KP o (fun r => ∃ a66 : Nat, r = some (.ref a66) ∧ (∃ k68 : Nat, oc f65 a66 k68 ∧ 161 ∈ CF k68 ∧ ¬ k68 = 30 ∧ f65.2.2.2 ≤ a66 ∧ ∀ f67 : RH, f67 = fset f65 a66 161 (.int y1) → Q (.inl (some (.ref a66))) s64 f67)) (fun k => Q (.inr k) s64 f65)))))) (fun k => Q (.inr k) s20 f21))))) ∧ (¬ v19 = 0 → (oc f18 x0 11 ∧ EvC l E w d MX11_plain [.ref x0, .int 3] s17 f18 (fun o s70 f71 => KP o (fun r => ∃ a72 : Nat, r = some (.ref a72) ∧ (∃ k74 : Nat, oc f71 a72 k74 ∧ 161 ∈ CF k74 ∧ ¬ k74 = 30 ∧ f71.2.2.2 ≤ a72 ∧ ∀ f73 : RH, f73 = fset f71 a72 161 (.int y1) → Q (.inl (some (.ref a72))) s70 f73)) (fun k => Q (.inr k) s70 f71)))))) (fun k => Q (.inr k) s17 f18))))) ∧ (¬ v16 = 0 → (oc f15 x0 11 ∧ EvC l E w d MX11_plain [.ref x0, .int 2] s14 f15 (fun o s76 f77 => KP o (fun r => ∃ a78 : Nat, r = some (.ref a78) ∧ (∃ k80 : Nat, oc f77 a78 k80 ∧ 161 ∈ CF k80 ∧ ¬ k80 = 30 ∧ f77.2.2.2 ≤ a78 ∧ ∀ f79 : RH, f79 = fset f77 a78 161 (.int y1) → Q (.inl (some (.ref a78))) s76 f79)) (fun k => Q (.inr k) s76 f77)))))) (fun k => Q (.inr k) s14 f15))))) ∧ (¬ v13 = 0 → (oc f12 x0 11 ∧ EvC l E w d MX11_plain [.ref x0, .int 1] s11 f12 (fun o s82 f83 => KP o (fun r => ∃ a84 : Nat, r = some (.ref a84) ∧ (∃ k86 : Nat, oc f83 a84 k86 ∧ 161 ∈ CF k86 ∧ ¬ k86 = 30 ∧ f83.2.2.2 ≤ a84 ∧ ∀ f85 : RH, f85 = fset f83 a84 161 (.int y1) → Q (.inl (some (.ref a84))) s82 f85)) (fun k => Q (.inr k) s82 f83)))))) (fun k => Q (.inr k) s11 f12))))) ∧ (¬ v10 = 0 → (oc f9 x0 11 ∧ EvC l E w d MX11_walk [.ref x0] s8 f9 (fun o s88 f89 => KP o (fun r => ∃ a90 : Nat, r = some (.ref a90) ∧ (∃ k92 : Nat, oc f89 a90 k92 ∧ 161 ∈ CF k92 ∧ ¬ k92 = 30 ∧ f89.2.2.2 ≤ a90 ∧ ∀ f91 : RH, f91 = fset f89 a90 161 (.int y1) → Q (.inl (some (.ref a90))) s88 f91)) (fun k => Q (.inr k) s88 f89)))))) (fun k => Q (.inr k) s8 f9))))) ∧ (¬ v7 = 0 → (oc f6 x0 11 ∧ EvC l E w d MX11_loop [.ref x0] s5 f6 (fun o s94 f95 => KP o (fun r => ∃ a96 : Nat, r = some (.ref a96) ∧ (∃ k98 : Nat, oc f95 a96 k98 ∧ 161 ∈ CF k98 ∧ ¬ k98 = 30 ∧ f95.2.2.2 ≤ a96 ∧ ∀ f97 : RH, f97 = fset f95 a96 161 (.int y1) → Q (.inl (some (.ref a96))) s94 f97)) (fun k => Q (.inr k) s94 f95)))))) (fun k => Q (.inr k) s5 f6))))) ∧ (¬ v4 = 0 → (oc f3 x0 11 ∧ EvC l E w d MX11_choice [.ref x0] s2 f3 (fun o s100 f101 => KP o (fun r => ∃ a102 : Nat, r = some (.ref a102) ∧ (∃ k104 : Nat, oc f101 a102 k104 ∧ 161 ∈ CF k104 ∧ ¬ k104 = 30 ∧ f101.2.2.2 ≤ a102 ∧ ∀ f103 : RH, f103 = fset f101 a102 161 (.int y1) → Q (.inl (some (.ref a102))) s100 f103)) (fun k => Q (.inr k) s100 f101)))))) (fun k => Q (.inr k) s2 f3))))))) : EvC l E w (d + 1) MX11_deed [.ref x0] s f Q :=
  EvC.of hst (by decide) (Nat.le_of_ble_eq_true rfl) (vR11_deed_0  hT)
set_option maxHeartbeats 16000000 in
theorem vR11_choice_0 {l : Launch} {E : EN} {w : CO} {d : Nat} {s : CS} {f : RH} {Q : KO → CS → RH → Prop} {x0 : Nat}  (hT : (rmF E f 1 4 ∧ ∀ (a1 : Nat) (f2 : RH), a1 = f.1 → f2 = fnew f 14 → (EvC l E w d MX15_init [.ref a1] s f2 (fun o s3 f4 => KP o (fun r => r = none ∧ (oc f4 x0 11 ∧ vl f4 x0 147 = .ref (w.1 2) ∧ (EvC l E w d MX2_next [.ref (w.1 2)] s3 f4 (fun o s5 f6 => KP o (fun r => r = none ∧ (oc f6 x0 11 ∧ vl f6 x0 147 = .ref (w.1 2) ∧ (EvC l E w d MX2_take [.ref (w.1 2), .int 40] s5 f6 (fun o s7 f8 => KP o (fun r => r = none ∧ (oc f8 x0 11 ∧ EvC l E w d MX11_expression [.ref x0] s7 f8 (fun o s9 f10 => KP o (fun r => ∃ a11 : Nat, r = some (.ref a11) ∧ (oc f10 a1 14 ∧ f10.2.2.2 ≤ a1 ∧ ∀ f12 : RH, f12 = fset f10 a1 162 (.ref a11) → (oc f12 x0 11 ∧ vl f12 x0 147 = .ref (w.1 2) ∧ (EvC l E w d MX2_take [.ref (w.1 2), .int 41] s9 f12 (fun o s13 f14 => KP o (fun r => r = none ∧ (oc f14 x0 11 ∧ EvC l E w d MX11_block [.ref x0] s13 f14 (fun o s15 f16 => KP o (fun r => ∃ a17 : Nat, r = some (.ref a17) ∧ (oc f16 a1 14 ∧ f16.2.2.2 ≤ a1 ∧ ∀ f18 : RH, f18 = fset f16 a1 163 (.ref a17) → (oc f18 x0 11 ∧ vl f18 x0 147 = .ref (w.1 2) ∧ (EvC l E w d MX2_isWord [.ref (w.1 2), .ref (eSC E 49)] s15 f18 (fun o s19 f20 => KP o (fun r => ∃ v21 : Int32, r = some (.int v21) ∧ ((¬ v21 = 0 → (oc f20 x0 11 ∧ vl f20 x0 147 = .ref (w.1 2) ∧ (EvC l E w d MX2_next [.ref (w.1 2)] s19 f20 (fun o s22 f23 => KP o (fun r => r = none ∧ (oc f23 x0 11 ∧ EvC l E w d MX11_block [.ref x0] s22 f23 (fun o s24 f25 => KP o (fun r => ∃ a26 : Nat, r = some (.ref a26) ∧ (oc f25 a1 14 ∧ f25.2.2.2 ≤ a1 ∧ ∀ f27 : RH, f27 = fset f25 a1 164 (.ref a26) → Q (.inl (some (.ref a1))) s24 f27)) (fun k => Q (.inr k) s24 f25)))) (fun k => Q (.inr k) s22 f23))))) ∧ (v21 = 0 → Q (.inl (some (.ref a1))) s19 f20))) (fun k => Q (.inr k) s19 f20)))))) (fun k => Q (.inr k) s15 f16)))) (fun k => Q (.inr k) s13 f14)))))) (fun k => Q (.inr k) s9 f10)))) (fun k => Q (.inr k) s7 f8))))) (fun k => Q (.inr k) s5 f6))))) (fun k => Q (.inr k) s3 f4))))) : ExC l E w (d + 1) MX11_choice 0 [some (.ref x0), none] [] s f Q := by
  intro f0 h hW hF
  obtain ⟨hr, hT⟩ := hT
  refine c_newG (k := 14) dX11_choice_0 (by decide) q857 q188 hr hW hF ?_
  intro a1 f2 ea1 ef2 h hW hF
  replace hT := hT a1 f2 ea1 ef2
  refine x_dup dX11_choice_3 rfl ?_
  refine c_invI (b := a1) (vs := []) dX11_choice_4 oX15_init rfl rfl rfl q860 (Or.inr ⟨_, q859⟩) rfl rfl (Nat.le_of_ble_eq_true rfl) rfl hW hF hT ?_ ?_
  · intro _ s3 f4 hT h hW hF
    obtain ⟨rfl, hT⟩ := hT
    refine x_astore_n (lo' := [some (.ref x0), some (.ref a1)]) dX11_choice_7 rfl (Nat.le_of_ble_eq_true rfl) rfl rfl ?_
    refine x_aload_n dX11_choice_8 rfl rfl rfl ?_
    obtain ⟨hc, ev, hT⟩ := hT
    refine c_fgetG dX11_choice_9 f_TallySlate_Reader_23 hc (by decide) (by decide) hW ev ?_
    obtain ⟨-, -, cc, hcc, -⟩ := hW.ob 2 (by decide)
    refine c_invV (vs := []) dX11_choice_12 oX2_next q610 q609 hcc q611 (Or.inl rfl) rfl rfl (Nat.le_of_ble_eq_true rfl) rfl hW hF hT ?_ ?_
    · intro _ s5 f6 hT h hW hF
      obtain ⟨rfl, hT⟩ := hT
      refine x_aload_n dX11_choice_15 rfl rfl rfl ?_
      obtain ⟨hc, ev, hT⟩ := hT
      refine c_fgetG dX11_choice_16 f_TallySlate_Reader_23 hc (by decide) (by decide) hW ev ?_
      refine x_bipush (v := 40) dX11_choice_19 rfl ?_
      obtain ⟨-, -, cc, hcc, -⟩ := hW.ob 2 (by decide)
      refine c_invV (vs := [.int 40]) dX11_choice_21 oX2_take q816 q815 hcc q817 (Or.inl rfl) rfl rfl (Nat.le_of_ble_eq_true rfl) rfl hW hF hT ?_ ?_
      · intro _ s7 f8 hT h hW hF
        obtain ⟨rfl, hT⟩ := hT
        refine x_aload_n dX11_choice_24 rfl rfl rfl ?_
        refine x_aload_n dX11_choice_25 rfl rfl rfl ?_
        obtain ⟨hc, hT⟩ := hT
        obtain ⟨cc, hcc⟩ := hW.ocell hc
        refine c_invV (vs := []) dX11_choice_26 oX11_expression q893 q891 hcc qs14 (Or.inl rfl) rfl rfl (Nat.le_of_ble_eq_true rfl) rfl hW hF hT ?_ ?_
        · intro _ s9 f10 hT h hW hF
          obtain ⟨a11, rfl, hT⟩ := hT
          obtain ⟨hc, hz, hT⟩ := hT
          refine c_fputG dX11_choice_29 f_TallySlate_Reader_214 hc (by decide) (by decide) hz (Or.inl rfl) rfl rfl hW hF ?_
          intro f12 ef12 h hW hF
          replace hT := hT f12 ef12
          refine x_aload_n dX11_choice_32 rfl rfl rfl ?_
          obtain ⟨hc, ev, hT⟩ := hT
          refine c_fgetG dX11_choice_33 f_TallySlate_Reader_23 hc (by decide) (by decide) hW ev ?_
          refine x_bipush (v := 41) dX11_choice_36 rfl ?_
          obtain ⟨-, -, cc, hcc, -⟩ := hW.ob 2 (by decide)
          refine c_invV (vs := [.int 41]) dX11_choice_38 oX2_take q816 q815 hcc q817 (Or.inl rfl) rfl rfl (Nat.le_of_ble_eq_true rfl) rfl hW hF hT ?_ ?_
          · intro _ s13 f14 hT h hW hF
            obtain ⟨rfl, hT⟩ := hT
            refine x_aload_n dX11_choice_41 rfl rfl rfl ?_
            refine x_aload_n dX11_choice_42 rfl rfl rfl ?_
            obtain ⟨hc, hT⟩ := hT
            obtain ⟨cc, hcc⟩ := hW.ocell hc
            refine c_invV (vs := []) dX11_choice_43 oX11_block q831 q829 hcc qs11 (Or.inl rfl) rfl rfl (Nat.le_of_ble_eq_true rfl) rfl hW hF hT ?_ ?_
            · intro _ s15 f16 hT h hW hF
              obtain ⟨a17, rfl, hT⟩ := hT
              obtain ⟨hc, hz, hT⟩ := hT
              refine c_fputG dX11_choice_46 f_TallySlate_Reader_217 hc (by decide) (by decide) hz (Or.inl rfl) rfl rfl hW hF ?_
              intro f18 ef18 h hW hF
              replace hT := hT f18 ef18
              refine x_aload_n dX11_choice_49 rfl rfl rfl ?_
              obtain ⟨hc, ev, hT⟩ := hT
              refine c_fgetG dX11_choice_50 f_TallySlate_Reader_23 hc (by decide) (by decide) hW ev ?_
              refine x_ldcS (i := 49) dX11_choice_53 rfl ?_
              obtain ⟨-, -, cc, hcc, -⟩ := hW.ob 2 (by decide)
              refine c_invV (vs := [.ref (eSC E 49)]) dX11_choice_55 oX2_isWord q728 q727 hcc q729 (Or.inl rfl) rfl rfl (Nat.le_of_ble_eq_true rfl) rfl hW hF hT ?_ ?_
              · intro _ s19 f20 hT h hW hF
                obtain ⟨v21, rfl, hT⟩ := hT
                refine x_if_ne (tgt := 63) dX11_choice_58 rfl (fun c => ?_) (fun c => ?_)
                · replace hT := hT.1 c
                  refine x_aload_n dX11_choice_63 rfl rfl rfl ?_
                  obtain ⟨hc, ev, hT⟩ := hT
                  refine c_fgetG dX11_choice_64 f_TallySlate_Reader_23 hc (by decide) (by decide) hW ev ?_
                  obtain ⟨-, -, cc, hcc, -⟩ := hW.ob 2 (by decide)
                  refine c_invV (vs := []) dX11_choice_67 oX2_next q610 q609 hcc q611 (Or.inl rfl) rfl rfl (Nat.le_of_ble_eq_true rfl) rfl hW hF hT ?_ ?_
                  · intro _ s22 f23 hT h hW hF
                    obtain ⟨rfl, hT⟩ := hT
                    refine x_aload_n dX11_choice_70 rfl rfl rfl ?_
                    refine x_aload_n dX11_choice_71 rfl rfl rfl ?_
                    obtain ⟨hc, hT⟩ := hT
                    obtain ⟨cc, hcc⟩ := hW.ocell hc
                    refine c_invV (vs := []) dX11_choice_72 oX11_block q831 q829 hcc qs11 (Or.inl rfl) rfl rfl (Nat.le_of_ble_eq_true rfl) rfl hW hF hT ?_ ?_
                    · intro _ s24 f25 hT h hW hF
                      obtain ⟨a26, rfl, hT⟩ := hT
                      obtain ⟨hc, hz, hT⟩ := hT
                      refine c_fputG dX11_choice_75 f_TallySlate_Reader_222 hc (by decide) (by decide) hz (Or.inl rfl) rfl rfl hW hF ?_
                      intro f27 ef27 h hW hF
                      replace hT := hT f27 ef27
                      refine x_aload_n dX11_choice_78 rfl rfl rfl ?_
                      exact x_aret dX11_choice_79 rfl (by first | exact Or.inl ⟨_, rfl⟩ | exact Or.inr ⟨_, rfl⟩) rfl ⟨_, _, hW, hF, Or.inl ⟨_, rfl, hT⟩⟩
                    · intro k s24 f25 hT h a hW hx hF
                      exact c_out (rfl) hW hx hF hT
                  · intro k s22 f23 hT h a hW hx hF
                    exact c_out (rfl) hW hx hF hT
                · replace hT := hT.2 c
                  refine x_aload_n dX11_choice_61 rfl rfl rfl ?_
                  exact x_aret dX11_choice_62 rfl (by first | exact Or.inl ⟨_, rfl⟩ | exact Or.inr ⟨_, rfl⟩) rfl ⟨_, _, hW, hF, Or.inl ⟨_, rfl, hT⟩⟩
              · intro k s19 f20 hT h a hW hx hF
                exact c_out (rfl) hW hx hF hT
            · intro k s15 f16 hT h a hW hx hF
              exact c_out (rfl) hW hx hF hT
          · intro k s13 f14 hT h a hW hx hF
            exact c_out (rfl) hW hx hF hT
        · intro k s9 f10 hT h a hW hx hF
          exact c_out (rfl) hW hx hF hT
      · intro k s7 f8 hT h a hW hx hF
        exact c_out (rfl) hW hx hF hT
    · intro k s5 f6 hT h a hW hx hF
      exact c_out (rfl) hW hx hF hT
  · intro k s3 f4 hT h a hW hx hF
    exact c_out (rfl) hW hx hF hT
theorem eR11_choice {l : Launch} {E : EN} {w : CO} {d : Nat} {s : CS} {f : RH} {Q : KO → CS → RH → Prop} {x0 : Nat}  (hst : l.stackTraces = false) (hT : (rmF E f 1 4 ∧ ∀ (a1 : Nat) (f2 : RH), a1 = f.1 → f2 = fnew f 14 → (EvC l E w d MX15_init [.ref a1] s f2 (fun o s3 f4 => KP o (fun r => r = none ∧ (oc f4 x0 11 ∧ vl f4 x0 147 = .ref (w.1 2) ∧ (EvC l E w d MX2_next [.ref (w.1 2)] s3 f4 (fun o s5 f6 => KP o (fun r => r = none ∧ (oc f6 x0 11 ∧ vl f6 x0 147 = .ref (w.1 2) ∧ (EvC l E w d MX2_take [.ref (w.1 2), .int 40] s5 f6 (fun o s7 f8 => KP o (fun r => r = none ∧ (oc f8 x0 11 ∧ EvC l E w d MX11_expression [.ref x0] s7 f8 (fun o s9 f10 => KP o (fun r => ∃ a11 : Nat, r = some (.ref a11) ∧ (oc f10 a1 14 ∧ f10.2.2.2 ≤ a1 ∧ ∀ f12 : RH, f12 = fset f10 a1 162 (.ref a11) → (oc f12 x0 11 ∧ vl f12 x0 147 = .ref (w.1 2) ∧ (EvC l E w d MX2_take [.ref (w.1 2), .int 41] s9 f12 (fun o s13 f14 => KP o (fun r => r = none ∧ (oc f14 x0 11 ∧ EvC l E w d MX11_block [.ref x0] s13 f14 (fun o s15 f16 => KP o (fun r => ∃ a17 : Nat, r = some (.ref a17) ∧ (oc f16 a1 14 ∧ f16.2.2.2 ≤ a1 ∧ ∀ f18 : RH, f18 = fset f16 a1 163 (.ref a17) → (oc f18 x0 11 ∧ vl f18 x0 147 = .ref (w.1 2) ∧ (EvC l E w d MX2_isWord [.ref (w.1 2), .ref (eSC E 49)] s15 f18 (fun o s19 f20 => KP o (fun r => ∃ v21 : Int32, r = some (.int v21) ∧ ((¬ v21 = 0 → (oc f20 x0 11 ∧ vl f20 x0 147 = .ref (w.1 2) ∧ (EvC l E w d MX2_next [.ref (w.1 2)] s19 f20 (fun o s22 f23 => KP o (fun r => r = none ∧ (oc f23 x0 11 ∧ EvC l E w d MX11_block [.ref x0] s22 f23 (fun o s24 f25 => KP o (fun r => ∃ a26 : Nat, r = some (.ref a26) ∧ (oc f25 a1 14 ∧ f25.2.2.2 ≤ a1 ∧ ∀ f27 : RH, f27 = fset f25 a1 164 (.ref a26) → Q (.inl (some (.ref a1))) s24 f27)) (fun k => Q (.inr k) s24 f25)))) (fun k => Q (.inr k) s22 f23))))) ∧ (v21 = 0 → Q (.inl (some (.ref a1))) s19 f20))) (fun k => Q (.inr k) s19 f20)))))) (fun k => Q (.inr k) s15 f16)))) (fun k => Q (.inr k) s13 f14)))))) (fun k => Q (.inr k) s9 f10)))) (fun k => Q (.inr k) s7 f8))))) (fun k => Q (.inr k) s5 f6))))) (fun k => Q (.inr k) s3 f4))))) : EvC l E w (d + 1) MX11_choice [.ref x0] s f Q :=
  EvC.of hst (by decide) (Nat.le_of_ble_eq_true rfl) (vR11_choice_0  hT)
theorem vR11_expression_0 {l : Launch} {E : EN} {w : CO} {d : Nat} {s : CS} {f : RH} {Q : KO → CS → RH → Prop} {x0 : Nat}  (hT : (oc f x0 11 ∧ EvC l E w d MX11_level [.ref x0, .int 0] s f (fun o s1 f2 => KP o (fun r => ∃ a3 : Nat, r = some (.ref a3) ∧ Q (.inl (some (.ref a3))) s1 f2) (fun k => Q (.inr k) s1 f2)))) : ExC l E w (d + 1) MX11_expression 0 [some (.ref x0)] [] s f Q := by
  intro f0 h hW hF
  refine x_aload_n dX11_expression_0 rfl rfl rfl ?_
  refine x_iconst (v := 0) dX11_expression_1 rfl ?_
  obtain ⟨hc, hT⟩ := hT
  obtain ⟨cc, hcc⟩ := hW.ocell hc
  refine c_invV (vs := [.int 0]) dX11_expression_2 oX11_level q897 q895 hcc qs15 (Or.inl rfl) rfl rfl (Nat.le_of_ble_eq_true rfl) rfl hW hF hT ?_ ?_
  · intro _ s1 f2 hT h hW hF
    obtain ⟨a3, rfl, hT⟩ := hT
    exact x_aret dX11_expression_5 rfl (by first | exact Or.inl ⟨_, rfl⟩ | exact Or.inr ⟨_, rfl⟩) rfl ⟨_, _, hW, hF, Or.inl ⟨_, rfl, hT⟩⟩
  · intro k s1 f2 hT h a hW hx hF
    exact c_out (rfl) hW hx hF hT
theorem eR11_expression {l : Launch} {E : EN} {w : CO} {d : Nat} {s : CS} {f : RH} {Q : KO → CS → RH → Prop} {x0 : Nat}  (hst : l.stackTraces = false) (hT : (oc f x0 11 ∧ EvC l E w d MX11_level [.ref x0, .int 0] s f (fun o s1 f2 => KP o (fun r => ∃ a3 : Nat, r = some (.ref a3) ∧ Q (.inl (some (.ref a3))) s1 f2) (fun k => Q (.inr k) s1 f2)))) : EvC l E w (d + 1) MX11_expression [.ref x0] s f Q :=
  EvC.of hst (by decide) (Nat.le_of_ble_eq_true rfl) (vR11_expression_0  hT)
set_option maxHeartbeats 16000000 in
theorem vR11_level_0 {l : Launch} {E : EN} {w : CO} {d : Nat} {s : CS} {f : RH} {Q : KO → CS → RH → Prop} {x0 : Nat} {x1 : Int32}  (hT : ((¬ x1 = 4 → (oc f x0 11 ∧ EvC l E w d MX11_level [.ref x0, .int (x1 + 1)] s f (fun o s1 f2 => KP o (fun r => ∃ a3 : Nat, r = some (.ref a3) ∧ (oc f2 x0 11 ∧ EvC l E w d MX11_isOf [.ref x0, .int x1] s1 f2 (fun o s4 f5 => KP o (fun r => ∃ v6 : Int32, r = some (.int v6) ∧ ((¬ v6 = 0 → (rmF E f5 1 2 ∧ ∀ (a7 : Nat) (f8 : RH), a7 = f5.1 → f8 = fnew f5 23 → (EvC l E w d MX25_init [.ref a7] s4 f8 (fun o s9 f10 => KP o (fun r => r = none ∧ (oc f10 a7 23 ∧ (∃ a11 : Nat, vl f10 a7 184 = .ref a11 ∧ (oc f10 a11 17 ∧ EvC l E w d MX19_add [.ref a11, .ref a3, .int 0, .int 0] s9 f10 (fun o s12 f13 => KP o (fun r => r = none ∧ ExC l E w (d + 1) MX11_level 49 [some (.ref x0), some (.int x1), none, some (.ref a7), some (.int 1), none, none] [] s12 f13 Q) (fun k => Q (.inr k) s12 f13)))))) (fun k => Q (.inr k) s9 f10))))) ∧ (v6 = 0 → Q (.inl (some (.ref a3))) s4 f5))) (fun k => Q (.inr k) s4 f5)))) (fun k => Q (.inr k) s1 f2)))) ∧ (x1 = 4 → (oc f x0 11 ∧ EvC l E w d MX11_prefix [.ref x0] s f (fun o s17 f18 => KP o (fun r => ∃ a19 : Nat, r = some (.ref a19) ∧ Q (.inl (some (.ref a19))) s17 f18) (fun k => Q (.inr k) s17 f18)))))) : ExC l E w (d + 1) MX11_level 0 [some (.ref x0), some (.int x1), none, none, none, none, none] [] s f Q := by
  intro f0 h hW hF
  refine x_iload_n dX11_level_0 rfl rfl ?_
  refine x_iconst (v := 4) dX11_level_1 rfl ?_
  refine x_icmp_ne (tgt := 10) dX11_level_2 rfl (fun c => ?_) (fun c => ?_)
  · replace hT := hT.1 c
    refine x_aload_n dX11_level_10 rfl rfl rfl ?_
    refine x_iload_n dX11_level_11 rfl rfl ?_
    refine x_iconst (v := 1) dX11_level_12 rfl ?_
    refine x_iadd dX11_level_13 ?_
    obtain ⟨hc, hT⟩ := hT
    obtain ⟨cc, hcc⟩ := hW.ocell hc
    refine c_invV (vs := [.int (x1 + 1)]) dX11_level_14 oX11_level q897 q895 hcc qs15 (Or.inl rfl) rfl rfl (Nat.le_of_ble_eq_true rfl) rfl hW hF hT ?_ ?_
    · intro _ s1 f2 hT h hW hF
      obtain ⟨a3, rfl, hT⟩ := hT
      refine x_astore_n (lo' := [some (.ref x0), some (.int x1), some (.ref a3), none, none, none, none]) dX11_level_17 rfl (Nat.le_of_ble_eq_true rfl) rfl rfl ?_
      refine x_aload_n dX11_level_18 rfl rfl rfl ?_
      refine x_iload_n dX11_level_19 rfl rfl ?_
      obtain ⟨hc, hT⟩ := hT
      obtain ⟨cc, hcc⟩ := hW.ocell hc
      refine c_invV (vs := [.int x1]) dX11_level_20 oX11_isOf q1113 q1111 hcc qs26 (Or.inl rfl) rfl rfl (Nat.le_of_ble_eq_true rfl) rfl hW hF hT ?_ ?_
      · intro _ s4 f5 hT h hW hF
        obtain ⟨v6, rfl, hT⟩ := hT
        refine x_if_ne (tgt := 28) dX11_level_23 rfl (fun c => ?_) (fun c => ?_)
        · replace hT := hT.1 c
          obtain ⟨hr, hT⟩ := hT
          refine c_newG (k := 23) dX11_level_28 (by decide) q1115 q198 hr hW hF ?_
          intro a7 f8 ea7 ef8 h hW hF
          replace hT := hT a7 f8 ea7 ef8
          refine x_dup dX11_level_31 rfl ?_
          refine c_invI (b := a7) (vs := []) dX11_level_32 oX25_init rfl rfl rfl q1118 (Or.inr ⟨_, q1117⟩) rfl rfl (Nat.le_of_ble_eq_true rfl) rfl hW hF hT ?_ ?_
          · intro _ s9 f10 hT h hW hF
            obtain ⟨rfl, hT⟩ := hT
            refine x_astore_n (lo' := [some (.ref x0), some (.int x1), some (.ref a3), some (.ref a7), none, none, none]) dX11_level_35 rfl (Nat.le_of_ble_eq_true rfl) rfl rfl ?_
            refine x_aload_n dX11_level_36 rfl rfl rfl ?_
            obtain ⟨hc, hT⟩ := hT
            obtain ⟨a11, ev, hT⟩ := hT
            refine c_fgetG dX11_level_37 f_TallySlate_Reader_292 hc (by decide) (by decide) hW ev ?_
            refine x_aload_n dX11_level_40 rfl rfl rfl ?_
            refine x_iconst (v := 0) dX11_level_41 rfl ?_
            refine x_iconst (v := 0) dX11_level_42 rfl ?_
            obtain ⟨hc, hT⟩ := hT
            obtain ⟨cc, hcc⟩ := hW.ocell hc
            refine c_invV (vs := [.ref a3, .int 0, .int 0]) dX11_level_43 oX19_add q992 q991 hcc q993 (Or.inl rfl) rfl rfl (Nat.le_of_ble_eq_true rfl) rfl hW hF hT ?_ ?_
            · intro _ s12 f13 hT h hW hF
              obtain ⟨rfl, hT⟩ := hT
              refine x_iconst (v := 1) dX11_level_46 rfl ?_
              refine x_istore (lo' := [some (.ref x0), some (.int x1), some (.ref a3), some (.ref a7), some (.int 1), none, none]) dX11_level_47 (Nat.le_of_ble_eq_true rfl) rfl ?_
              refine Ex.wkl (lo' := [some (.ref x0), some (.int x1), none, some (.ref a7), some (.int 1), none, none]) ⟨rfl, rfl, rfl, rfl, trivial⟩ ?_
              exact hT f0 h hW hF
            · intro k s12 f13 hT h a hW hx hF
              exact c_out (rfl) hW hx hF hT
          · intro k s9 f10 hT h a hW hx hF
            exact c_out (rfl) hW hx hF hT
        · replace hT := hT.2 c
          refine x_aload_n dX11_level_26 rfl rfl rfl ?_
          exact x_aret dX11_level_27 rfl (by first | exact Or.inl ⟨_, rfl⟩ | exact Or.inr ⟨_, rfl⟩) rfl ⟨_, _, hW, hF, Or.inl ⟨_, rfl, hT⟩⟩
      · intro k s4 f5 hT h a hW hx hF
        exact c_out (rfl) hW hx hF hT
    · intro k s1 f2 hT h a hW hx hF
      exact c_out (rfl) hW hx hF hT
  · replace hT := hT.2 c
    refine x_aload_n dX11_level_5 rfl rfl rfl ?_
    obtain ⟨hc, hT⟩ := hT
    obtain ⟨cc, hcc⟩ := hW.ocell hc
    refine c_invV (vs := []) dX11_level_6 oX11_prefix q901 q899 hcc qs16 (Or.inl rfl) rfl rfl (Nat.le_of_ble_eq_true rfl) rfl hW hF hT ?_ ?_
    · intro _ s17 f18 hT h hW hF
      obtain ⟨a19, rfl, hT⟩ := hT
      exact x_aret dX11_level_9 rfl (by first | exact Or.inl ⟨_, rfl⟩ | exact Or.inr ⟨_, rfl⟩) rfl ⟨_, _, hW, hF, Or.inl ⟨_, rfl, hT⟩⟩
    · intro k s17 f18 hT h a hW hx hF
      exact c_out (rfl) hW hx hF hT
theorem eR11_level {l : Launch} {E : EN} {w : CO} {d : Nat} {s : CS} {f : RH} {Q : KO → CS → RH → Prop} {x0 : Nat} {x1 : Int32}  (hst : l.stackTraces = false) (hT : ((¬ x1 = 4 → (oc f x0 11 ∧ EvC l E w d MX11_level [.ref x0, .int (x1 + 1)] s f (fun o s1 f2 => KP o (fun r => ∃ a3 : Nat, r = some (.ref a3) ∧ (oc f2 x0 11 ∧ EvC l E w d MX11_isOf [.ref x0, .int x1] s1 f2 (fun o s4 f5 => KP o (fun r => ∃ v6 : Int32, r = some (.int v6) ∧ ((¬ v6 = 0 → (rmF E f5 1 2 ∧ ∀ (a7 : Nat) (f8 : RH), a7 = f5.1 → f8 = fnew f5 23 → (EvC l E w d MX25_init [.ref a7] s4 f8 (fun o s9 f10 => KP o (fun r => r = none ∧ (oc f10 a7 23 ∧ (∃ a11 : Nat, vl f10 a7 184 = .ref a11 ∧ (oc f10 a11 17 ∧ EvC l E w d MX19_add [.ref a11, .ref a3, .int 0, .int 0] s9 f10 (fun o s12 f13 => KP o (fun r => r = none ∧ ExC l E w (d + 1) MX11_level 49 [some (.ref x0), some (.int x1), none, some (.ref a7), some (.int 1), none, none] [] s12 f13 Q) (fun k => Q (.inr k) s12 f13)))))) (fun k => Q (.inr k) s9 f10))))) ∧ (v6 = 0 → Q (.inl (some (.ref a3))) s4 f5))) (fun k => Q (.inr k) s4 f5)))) (fun k => Q (.inr k) s1 f2)))) ∧ (x1 = 4 → (oc f x0 11 ∧ EvC l E w d MX11_prefix [.ref x0] s f (fun o s17 f18 => KP o (fun r => ∃ a19 : Nat, r = some (.ref a19) ∧ Q (.inl (some (.ref a19))) s17 f18) (fun k => Q (.inr k) s17 f18)))))) : EvC l E w (d + 1) MX11_level [.ref x0, .int x1] s f Q :=
  EvC.of hst (by decide) (Nat.le_of_ble_eq_true rfl) (vR11_level_0  hT)
set_option maxHeartbeats 16000000 in
theorem vR11_level_49 {l : Launch} {E : EN} {w : CO} {d : Nat} {s : CS} {f : RH} {Q : KO → CS → RH → Prop} {b0 : Nat} {b1 : Int32} {b3 : Nat} {b4 : Int32}  (hT : ((b4 = 0 → Q (.inl (some (.ref b3))) s f) ∧ (¬ b4 = 0 → (oc f b0 11 ∧ vl f b0 147 = .ref (w.1 2) ∧ (∀ y21 : Int32, y21 = (s.1 22) → (oc f b0 11 ∧ vl f b0 147 = .ref (w.1 2) ∧ (∀ y22 : Int32, y22 = (s.1 21) → (oc f b0 11 ∧ vl f b0 147 = .ref (w.1 2) ∧ (EvC l E w d MX2_next [.ref (w.1 2)] s f (fun o s23 f24 => KP o (fun r => r = none ∧ (oc f24 b3 23 ∧ (∃ a25 : Nat, vl f24 b3 184 = .ref a25 ∧ (oc f24 b0 11 ∧ EvC l E w d MX11_level [.ref b0, .int (b1 + 1)] s23 f24 (fun o s26 f27 => KP o (fun r => ∃ a28 : Nat, r = some (.ref a28) ∧ (oc f27 a25 17 ∧ EvC l E w d MX19_add [.ref a25, .ref a28, .int y21, .int y22] s26 f27 (fun o s29 f30 => KP o (fun r => r = none ∧ ((b1 = 1 → ExC l E w (d + 1) MX11_level 49 [some (.ref b0), some (.int b1), none, some (.ref b3), some (.int 0), none, none] [] s29 f30 Q) ∧ (¬ b1 = 1 → (oc f30 b0 11 ∧ EvC l E w d MX11_isOf [.ref b0, .int b1] s29 f30 (fun o s31 f32 => KP o (fun r => ∃ v33 : Int32, r = some (.int v33) ∧ ((v33 = 0 → ExC l E w (d + 1) MX11_level 49 [some (.ref b0), some (.int b1), none, some (.ref b3), some (.int 0), none, none] [] s31 f32 Q) ∧ (¬ v33 = 0 → ExC l E w (d + 1) MX11_level 49 [some (.ref b0), some (.int b1), none, some (.ref b3), some (.int 1), none, none] [] s31 f32 Q))) (fun k => Q (.inr k) s31 f32)))))) (fun k => Q (.inr k) s29 f30)))) (fun k => Q (.inr k) s26 f27)))))) (fun k => Q (.inr k) s23 f24))))))))))) : ExC l E w (d + 1) MX11_level 49 [some (.ref b0), some (.int b1), none, some (.ref b3), some (.int b4), none, none] [] s f Q := by
  intro f0 h hW hF
  refine x_iload dX11_level_49 rfl ?_
  refine x_if_eq (tgt := 120) dX11_level_51 rfl (fun c => ?_) (fun c => ?_)
  · replace hT := hT.1 c
    refine x_aload_n dX11_level_120 rfl rfl rfl ?_
    exact x_aret dX11_level_121 rfl (by first | exact Or.inl ⟨_, rfl⟩ | exact Or.inr ⟨_, rfl⟩) rfl ⟨_, _, hW, hF, Or.inl ⟨_, rfl, hT⟩⟩
  · replace hT := hT.2 c
    refine x_aload_n dX11_level_54 rfl rfl rfl ?_
    obtain ⟨hc, ev, hT⟩ := hT
    refine c_fgetG dX11_level_55 f_TallySlate_Reader_23 hc (by decide) (by decide) hW ev ?_
    refine c_getI (v := (s.1 22)) dX11_level_58 f_TallySlate_Reader_276 (by decide) (by decide) rfl hW rfl ?_
    obtain ⟨y21, ey21⟩ : ∃ z : Int32, z = (s.1 22) := ⟨_, rfl⟩
    replace hT := hT y21 ey21
    refine x_istore (lo' := [some (.ref b0), some (.int b1), none, some (.ref b3), some (.int b4), some (.int y21), none]) dX11_level_61 (Nat.le_of_ble_eq_true rfl) (by rw [ey21]; exact rfl) ?_
    refine x_aload_n dX11_level_63 rfl rfl rfl ?_
    obtain ⟨hc, ev, hT⟩ := hT
    refine c_fgetG dX11_level_64 f_TallySlate_Reader_23 hc (by decide) (by decide) hW ev ?_
    refine c_getI (v := (s.1 21)) dX11_level_67 f_TallySlate_Reader_45 (by decide) (by decide) rfl hW rfl ?_
    obtain ⟨y22, ey22⟩ : ∃ z : Int32, z = (s.1 21) := ⟨_, rfl⟩
    replace hT := hT y22 ey22
    refine x_istore (lo' := [some (.ref b0), some (.int b1), none, some (.ref b3), some (.int b4), some (.int y21), some (.int y22)]) dX11_level_70 (Nat.le_of_ble_eq_true rfl) (by rw [ey22]; exact rfl) ?_
    refine x_aload_n dX11_level_72 rfl rfl rfl ?_
    obtain ⟨hc, ev, hT⟩ := hT
    refine c_fgetG dX11_level_73 f_TallySlate_Reader_23 hc (by decide) (by decide) hW ev ?_
    obtain ⟨-, -, cc, hcc, -⟩ := hW.ob 2 (by decide)
    refine c_invV (vs := []) dX11_level_76 oX2_next q610 q609 hcc q611 (Or.inl rfl) rfl rfl (Nat.le_of_ble_eq_true rfl) rfl hW hF hT ?_ ?_
    · intro _ s23 f24 hT h hW hF
      obtain ⟨rfl, hT⟩ := hT
      refine x_aload_n dX11_level_79 rfl rfl rfl ?_
      obtain ⟨hc, hT⟩ := hT
      obtain ⟨a25, ev, hT⟩ := hT
      refine c_fgetG dX11_level_80 f_TallySlate_Reader_292 hc (by decide) (by decide) hW ev ?_
      refine x_aload_n dX11_level_83 rfl rfl rfl ?_
      refine x_iload_n dX11_level_84 rfl rfl ?_
      refine x_iconst (v := 1) dX11_level_85 rfl ?_
      refine x_iadd dX11_level_86 ?_
      obtain ⟨hc, hT⟩ := hT
      obtain ⟨cc, hcc⟩ := hW.ocell hc
      refine c_invV (vs := [.int (b1 + 1)]) dX11_level_87 oX11_level q897 q895 hcc qs15 (Or.inl rfl) rfl rfl (Nat.le_of_ble_eq_true rfl) rfl hW hF hT ?_ ?_
      · intro _ s26 f27 hT h hW hF
        obtain ⟨a28, rfl, hT⟩ := hT
        refine x_iload dX11_level_90 rfl ?_
        refine x_iload dX11_level_92 rfl ?_
        obtain ⟨hc, hT⟩ := hT
        obtain ⟨cc, hcc⟩ := hW.ocell hc
        refine c_invV (vs := [.ref a28, .int y21, .int y22]) dX11_level_94 oX19_add q992 q991 hcc q993 (Or.inl rfl) rfl rfl (Nat.le_of_ble_eq_true rfl) rfl hW hF hT ?_ ?_
        · intro _ s29 f30 hT h hW hF
          obtain ⟨rfl, hT⟩ := hT
          refine x_iload_n dX11_level_97 rfl rfl ?_
          refine x_iconst (v := 1) dX11_level_98 rfl ?_
          refine x_icmp_eq (tgt := 114) dX11_level_99 rfl (fun c => ?_) (fun c => ?_)
          · replace hT := hT.1 c
            refine x_iconst (v := 0) dX11_level_114 rfl ?_
            refine x_istore (lo' := [some (.ref b0), some (.int b1), none, some (.ref b3), some (.int 0), some (.int y21), some (.int y22)]) dX11_level_115 (Nat.le_of_ble_eq_true rfl) rfl ?_
            refine x_goto (tgt := 49) dX11_level_117 rfl ?_
            refine Ex.wkl (lo' := [some (.ref b0), some (.int b1), none, some (.ref b3), some (.int 0), none, none]) ⟨rfl, rfl, rfl, rfl, trivial⟩ ?_
            exact hT f0 h hW hF
          · replace hT := hT.2 c
            refine x_aload_n dX11_level_102 rfl rfl rfl ?_
            refine x_iload_n dX11_level_103 rfl rfl ?_
            obtain ⟨hc, hT⟩ := hT
            obtain ⟨cc, hcc⟩ := hW.ocell hc
            refine c_invV (vs := [.int b1]) dX11_level_104 oX11_isOf q1113 q1111 hcc qs26 (Or.inl rfl) rfl rfl (Nat.le_of_ble_eq_true rfl) rfl hW hF hT ?_ ?_
            · intro _ s31 f32 hT h hW hF
              obtain ⟨v33, rfl, hT⟩ := hT
              refine x_if_eq (tgt := 114) dX11_level_107 rfl (fun c => ?_) (fun c => ?_)
              · replace hT := hT.1 c
                refine x_iconst (v := 0) dX11_level_114 rfl ?_
                refine x_istore (lo' := [some (.ref b0), some (.int b1), none, some (.ref b3), some (.int 0), some (.int y21), some (.int y22)]) dX11_level_115 (Nat.le_of_ble_eq_true rfl) rfl ?_
                refine x_goto (tgt := 49) dX11_level_117 rfl ?_
                refine Ex.wkl (lo' := [some (.ref b0), some (.int b1), none, some (.ref b3), some (.int 0), none, none]) ⟨rfl, rfl, rfl, rfl, trivial⟩ ?_
                exact hT f0 h hW hF
              · replace hT := hT.2 c
                refine x_iconst (v := 1) dX11_level_110 rfl ?_
                refine x_goto (tgt := 115) dX11_level_111 rfl ?_
                refine x_istore (lo' := [some (.ref b0), some (.int b1), none, some (.ref b3), some (.int 1), some (.int y21), some (.int y22)]) dX11_level_115 (Nat.le_of_ble_eq_true rfl) rfl ?_
                refine x_goto (tgt := 49) dX11_level_117 rfl ?_
                refine Ex.wkl (lo' := [some (.ref b0), some (.int b1), none, some (.ref b3), some (.int 1), none, none]) ⟨rfl, rfl, rfl, rfl, trivial⟩ ?_
                exact hT f0 h hW hF
            · intro k s31 f32 hT h a hW hx hF
              exact c_out (rfl) hW hx hF hT
        · intro k s29 f30 hT h a hW hx hF
          exact c_out (rfl) hW hx hF hT
      · intro k s26 f27 hT h a hW hx hF
        exact c_out (rfl) hW hx hF hT
    · intro k s23 f24 hT h a hW hx hF
      exact c_out (rfl) hW hx hF hT
set_option maxHeartbeats 16000000 in
theorem vR11_prefix_0 {l : Launch} {E : EN} {w : CO} {d : Nat} {s : CS} {f : RH} {Q : KO → CS → RH → Prop} {x0 : Nat}  (hT : (oc f x0 11 ∧ vl f x0 147 = .ref (w.1 2) ∧ (EvC l E w d MX2_is [.ref (w.1 2), .int 45] s f (fun o s1 f2 => KP o (fun r => ∃ v3 : Int32, r = some (.int v3) ∧ ((¬ v3 = 0 → (oc f2 x0 11 ∧ vl f2 x0 147 = .ref (w.1 2) ∧ (∀ y4 : Int32, y4 = (s1.1 21) → (oc f2 x0 11 ∧ vl f2 x0 147 = .ref (w.1 2) ∧ (EvC l E w d MX2_is [.ref (w.1 2), .int 33] s1 f2 (fun o s5 f6 => KP o (fun r => ∃ v7 : Int32, r = some (.int v7) ∧ (oc f6 x0 11 ∧ vl f6 x0 147 = .ref (w.1 2) ∧ (EvC l E w d MX2_next [.ref (w.1 2)] s5 f6 (fun o s8 f9 => KP o (fun r => r = none ∧ (rmF E f9 1 3 ∧ ∀ (a10 : Nat) (f11 : RH), a10 = f9.1 → f11 = fnew f9 22 → (oc f11 x0 11 ∧ EvC l E w d MX11_places [.ref x0] s8 f11 (fun o s12 f13 => KP o (fun r => ∃ a14 : Nat, r = some (.ref a14) ∧ (EvC l E w d MX24_init [.ref a10, .ref a14, .int v7] s12 f13 (fun o s15 f16 => KP o (fun r => r = none ∧ (∃ k18 : Nat, oc f16 a10 k18 ∧ 165 ∈ CF k18 ∧ ¬ k18 = 30 ∧ f16.2.2.2 ≤ a10 ∧ ∀ f17 : RH, f17 = fset f16 a10 165 (.int y4) → Q (.inl (some (.ref a10))) s15 f17)) (fun k => Q (.inr k) s15 f16)))) (fun k => Q (.inr k) s12 f13))))) (fun k => Q (.inr k) s8 f9))))) (fun k => Q (.inr k) s5 f6))))))) ∧ (v3 = 0 → (oc f2 x0 11 ∧ vl f2 x0 147 = .ref (w.1 2) ∧ (EvC l E w d MX2_is [.ref (w.1 2), .int 33] s1 f2 (fun o s20 f21 => KP o (fun r => ∃ v22 : Int32, r = some (.int v22) ∧ ((¬ v22 = 0 → (oc f21 x0 11 ∧ vl f21 x0 147 = .ref (w.1 2) ∧ (∀ y23 : Int32, y23 = (s20.1 21) → (oc f21 x0 11 ∧ vl f21 x0 147 = .ref (w.1 2) ∧ (EvC l E w d MX2_is [.ref (w.1 2), .int 33] s20 f21 (fun o s24 f25 => KP o (fun r => ∃ v26 : Int32, r = some (.int v26) ∧ (oc f25 x0 11 ∧ vl f25 x0 147 = .ref (w.1 2) ∧ (EvC l E w d MX2_next [.ref (w.1 2)] s24 f25 (fun o s27 f28 => KP o (fun r => r = none ∧ (rmF E f28 1 3 ∧ ∀ (a29 : Nat) (f30 : RH), a29 = f28.1 → f30 = fnew f28 22 → (oc f30 x0 11 ∧ EvC l E w d MX11_places [.ref x0] s27 f30 (fun o s31 f32 => KP o (fun r => ∃ a33 : Nat, r = some (.ref a33) ∧ (EvC l E w d MX24_init [.ref a29, .ref a33, .int v26] s31 f32 (fun o s34 f35 => KP o (fun r => r = none ∧ (∃ k37 : Nat, oc f35 a29 k37 ∧ 165 ∈ CF k37 ∧ ¬ k37 = 30 ∧ f35.2.2.2 ≤ a29 ∧ ∀ f36 : RH, f36 = fset f35 a29 165 (.int y23) → Q (.inl (some (.ref a29))) s34 f36)) (fun k => Q (.inr k) s34 f35)))) (fun k => Q (.inr k) s31 f32))))) (fun k => Q (.inr k) s27 f28))))) (fun k => Q (.inr k) s24 f25))))))) ∧ (v22 = 0 → (oc f21 x0 11 ∧ EvC l E w d MX11_places [.ref x0] s20 f21 (fun o s39 f40 => KP o (fun r => ∃ a41 : Nat, r = some (.ref a41) ∧ Q (.inl (some (.ref a41))) s39 f40) (fun k => Q (.inr k) s39 f40)))))) (fun k => Q (.inr k) s20 f21))))))) (fun k => Q (.inr k) s1 f2))))) : ExC l E w (d + 1) MX11_prefix 0 [some (.ref x0), none, none, none] [] s f Q := by
  intro f0 h hW hF
  refine x_aload_n dX11_prefix_0 rfl rfl rfl ?_
  obtain ⟨hc, ev, hT⟩ := hT
  refine c_fgetG dX11_prefix_1 f_TallySlate_Reader_23 hc (by decide) (by decide) hW ev ?_
  refine x_bipush (v := 45) dX11_prefix_4 rfl ?_
  obtain ⟨-, -, cc, hcc, -⟩ := hW.ob 2 (by decide)
  refine c_invV (vs := [.int 45]) dX11_prefix_6 oX2_is q820 q824 hcc q821 (Or.inl rfl) rfl rfl (Nat.le_of_ble_eq_true rfl) rfl hW hF hT ?_ ?_
  · intro _ s1 f2 hT h hW hF
    obtain ⟨v3, rfl, hT⟩ := hT
    refine x_if_ne (tgt := 29) dX11_prefix_9 rfl (fun c => ?_) (fun c => ?_)
    · replace hT := hT.1 c
      refine x_aload_n dX11_prefix_29 rfl rfl rfl ?_
      obtain ⟨hc, ev, hT⟩ := hT
      refine c_fgetG dX11_prefix_30 f_TallySlate_Reader_23 hc (by decide) (by decide) hW ev ?_
      refine c_getI (v := (s1.1 21)) dX11_prefix_33 f_TallySlate_Reader_45 (by decide) (by decide) rfl hW rfl ?_
      obtain ⟨y4, ey4⟩ : ∃ z : Int32, z = (s1.1 21) := ⟨_, rfl⟩
      replace hT := hT y4 ey4
      refine x_istore_n (lo' := [some (.ref x0), some (.int y4), none, none]) dX11_prefix_36 rfl (Nat.le_of_ble_eq_true rfl) (by rw [ey4]; exact rfl) ?_
      refine x_aload_n dX11_prefix_37 rfl rfl rfl ?_
      obtain ⟨hc, ev, hT⟩ := hT
      refine c_fgetG dX11_prefix_38 f_TallySlate_Reader_23 hc (by decide) (by decide) hW ev ?_
      refine x_bipush (v := 33) dX11_prefix_41 rfl ?_
      obtain ⟨-, -, cc, hcc, -⟩ := hW.ob 2 (by decide)
      refine c_invV (vs := [.int 33]) dX11_prefix_43 oX2_is q820 q824 hcc q821 (Or.inl rfl) rfl rfl (Nat.le_of_ble_eq_true rfl) rfl hW hF hT ?_ ?_
      · intro _ s5 f6 hT h hW hF
        obtain ⟨v7, rfl, hT⟩ := hT
        refine x_istore_n (lo' := [some (.ref x0), some (.int y4), some (.int v7), none]) dX11_prefix_46 rfl (Nat.le_of_ble_eq_true rfl) rfl ?_
        refine x_aload_n dX11_prefix_47 rfl rfl rfl ?_
        obtain ⟨hc, ev, hT⟩ := hT
        refine c_fgetG dX11_prefix_48 f_TallySlate_Reader_23 hc (by decide) (by decide) hW ev ?_
        obtain ⟨-, -, cc, hcc, -⟩ := hW.ob 2 (by decide)
        refine c_invV (vs := []) dX11_prefix_51 oX2_next q610 q609 hcc q611 (Or.inl rfl) rfl rfl (Nat.le_of_ble_eq_true rfl) rfl hW hF hT ?_ ?_
        · intro _ s8 f9 hT h hW hF
          obtain ⟨rfl, hT⟩ := hT
          obtain ⟨hr, hT⟩ := hT
          refine c_newG (k := 22) dX11_prefix_54 (by decide) q1097 q197 hr hW hF ?_
          intro a10 f11 ea10 ef11 h hW hF
          replace hT := hT a10 f11 ea10 ef11
          refine x_dup dX11_prefix_57 rfl ?_
          refine x_aload_n dX11_prefix_58 rfl rfl rfl ?_
          obtain ⟨hc, hT⟩ := hT
          obtain ⟨cc, hcc⟩ := hW.ocell hc
          refine c_invV (vs := []) dX11_prefix_59 oX11_places q905 q903 hcc qs17 (Or.inl rfl) rfl rfl (Nat.le_of_ble_eq_true rfl) rfl hW hF hT ?_ ?_
          · intro _ s12 f13 hT h hW hF
            obtain ⟨a14, rfl, hT⟩ := hT
            refine x_iload_n dX11_prefix_62 rfl rfl ?_
            refine c_invI (b := a10) (vs := [.ref a14, .int v7]) dX11_prefix_63 oX24_init rfl rfl rfl q1100 (Or.inl q1099) rfl rfl (Nat.le_of_ble_eq_true rfl) rfl hW hF hT ?_ ?_
            · intro _ s15 f16 hT h hW hF
              obtain ⟨rfl, hT⟩ := hT
              refine x_astore_n (lo' := [some (.ref x0), some (.int y4), some (.int v7), some (.ref a10)]) dX11_prefix_66 rfl (Nat.le_of_ble_eq_true rfl) rfl rfl ?_
              refine x_aload_n dX11_prefix_67 rfl rfl rfl ?_
              refine x_iload_n dX11_prefix_68 rfl rfl ?_
              obtain ⟨k18, hc, hj, h30, hz, hT⟩ := hT
              refine c_fputG dX11_prefix_69 f_TallySlate_Reader_309 hc hj h30 hz (Or.inl rfl) rfl rfl hW hF ?_
              intro f17 ef17 h hW hF
              replace hT := hT f17 ef17
              refine x_aload_n dX11_prefix_72 rfl rfl rfl ?_
              exact x_aret dX11_prefix_73 rfl (by first | exact Or.inl ⟨_, rfl⟩ | exact Or.inr ⟨_, rfl⟩) rfl ⟨_, _, hW, hF, Or.inl ⟨_, rfl, hT⟩⟩
            · intro k s15 f16 hT h a hW hx hF
              exact c_out (rfl) hW hx hF hT
          · intro k s12 f13 hT h a hW hx hF
            exact c_out (rfl) hW hx hF hT
        · intro k s8 f9 hT h a hW hx hF
          exact c_out (rfl) hW hx hF hT
      · intro k s5 f6 hT h a hW hx hF
        exact c_out (rfl) hW hx hF hT
    · replace hT := hT.2 c
      refine x_aload_n dX11_prefix_12 rfl rfl rfl ?_
      obtain ⟨hc, ev, hT⟩ := hT
      refine c_fgetG dX11_prefix_13 f_TallySlate_Reader_23 hc (by decide) (by decide) hW ev ?_
      refine x_bipush (v := 33) dX11_prefix_16 rfl ?_
      obtain ⟨-, -, cc, hcc, -⟩ := hW.ob 2 (by decide)
      refine c_invV (vs := [.int 33]) dX11_prefix_18 oX2_is q820 q824 hcc q821 (Or.inl rfl) rfl rfl (Nat.le_of_ble_eq_true rfl) rfl hW hF hT ?_ ?_
      · intro _ s20 f21 hT h hW hF
        obtain ⟨v22, rfl, hT⟩ := hT
        refine x_if_ne (tgt := 29) dX11_prefix_21 rfl (fun c => ?_) (fun c => ?_)
        · replace hT := hT.1 c
          refine x_aload_n dX11_prefix_29 rfl rfl rfl ?_
          obtain ⟨hc, ev, hT⟩ := hT
          refine c_fgetG dX11_prefix_30 f_TallySlate_Reader_23 hc (by decide) (by decide) hW ev ?_
          refine c_getI (v := (s20.1 21)) dX11_prefix_33 f_TallySlate_Reader_45 (by decide) (by decide) rfl hW rfl ?_
          obtain ⟨y23, ey23⟩ : ∃ z : Int32, z = (s20.1 21) := ⟨_, rfl⟩
          replace hT := hT y23 ey23
          refine x_istore_n (lo' := [some (.ref x0), some (.int y23), none, none]) dX11_prefix_36 rfl (Nat.le_of_ble_eq_true rfl) (by rw [ey23]; exact rfl) ?_
          refine x_aload_n dX11_prefix_37 rfl rfl rfl ?_
          obtain ⟨hc, ev, hT⟩ := hT
          refine c_fgetG dX11_prefix_38 f_TallySlate_Reader_23 hc (by decide) (by decide) hW ev ?_
          refine x_bipush (v := 33) dX11_prefix_41 rfl ?_
          obtain ⟨-, -, cc, hcc, -⟩ := hW.ob 2 (by decide)
          refine c_invV (vs := [.int 33]) dX11_prefix_43 oX2_is q820 q824 hcc q821 (Or.inl rfl) rfl rfl (Nat.le_of_ble_eq_true rfl) rfl hW hF hT ?_ ?_
          · intro _ s24 f25 hT h hW hF
            obtain ⟨v26, rfl, hT⟩ := hT
            refine x_istore_n (lo' := [some (.ref x0), some (.int y23), some (.int v26), none]) dX11_prefix_46 rfl (Nat.le_of_ble_eq_true rfl) rfl ?_
            refine x_aload_n dX11_prefix_47 rfl rfl rfl ?_
            obtain ⟨hc, ev, hT⟩ := hT
            refine c_fgetG dX11_prefix_48 f_TallySlate_Reader_23 hc (by decide) (by decide) hW ev ?_
            obtain ⟨-, -, cc, hcc, -⟩ := hW.ob 2 (by decide)
            refine c_invV (vs := []) dX11_prefix_51 oX2_next q610 q609 hcc q611 (Or.inl rfl) rfl rfl (Nat.le_of_ble_eq_true rfl) rfl hW hF hT ?_ ?_
            · intro _ s27 f28 hT h hW hF
              obtain ⟨rfl, hT⟩ := hT
              obtain ⟨hr, hT⟩ := hT
              refine c_newG (k := 22) dX11_prefix_54 (by decide) q1097 q197 hr hW hF ?_
              intro a29 f30 ea29 ef30 h hW hF
              replace hT := hT a29 f30 ea29 ef30
              refine x_dup dX11_prefix_57 rfl ?_
              refine x_aload_n dX11_prefix_58 rfl rfl rfl ?_
              obtain ⟨hc, hT⟩ := hT
              obtain ⟨cc, hcc⟩ := hW.ocell hc
              refine c_invV (vs := []) dX11_prefix_59 oX11_places q905 q903 hcc qs17 (Or.inl rfl) rfl rfl (Nat.le_of_ble_eq_true rfl) rfl hW hF hT ?_ ?_
              · intro _ s31 f32 hT h hW hF
                obtain ⟨a33, rfl, hT⟩ := hT
                refine x_iload_n dX11_prefix_62 rfl rfl ?_
                refine c_invI (b := a29) (vs := [.ref a33, .int v26]) dX11_prefix_63 oX24_init rfl rfl rfl q1100 (Or.inl q1099) rfl rfl (Nat.le_of_ble_eq_true rfl) rfl hW hF hT ?_ ?_
                · intro _ s34 f35 hT h hW hF
                  obtain ⟨rfl, hT⟩ := hT
                  refine x_astore_n (lo' := [some (.ref x0), some (.int y23), some (.int v26), some (.ref a29)]) dX11_prefix_66 rfl (Nat.le_of_ble_eq_true rfl) rfl rfl ?_
                  refine x_aload_n dX11_prefix_67 rfl rfl rfl ?_
                  refine x_iload_n dX11_prefix_68 rfl rfl ?_
                  obtain ⟨k37, hc, hj, h30, hz, hT⟩ := hT
                  refine c_fputG dX11_prefix_69 f_TallySlate_Reader_309 hc hj h30 hz (Or.inl rfl) rfl rfl hW hF ?_
                  intro f36 ef36 h hW hF
                  replace hT := hT f36 ef36
                  refine x_aload_n dX11_prefix_72 rfl rfl rfl ?_
                  exact x_aret dX11_prefix_73 rfl (by first | exact Or.inl ⟨_, rfl⟩ | exact Or.inr ⟨_, rfl⟩) rfl ⟨_, _, hW, hF, Or.inl ⟨_, rfl, hT⟩⟩
                · intro k s34 f35 hT h a hW hx hF
                  exact c_out (rfl) hW hx hF hT
              · intro k s31 f32 hT h a hW hx hF
                exact c_out (rfl) hW hx hF hT
            · intro k s27 f28 hT h a hW hx hF
              exact c_out (rfl) hW hx hF hT
          · intro k s24 f25 hT h a hW hx hF
            exact c_out (rfl) hW hx hF hT
        · replace hT := hT.2 c
          refine x_aload_n dX11_prefix_24 rfl rfl rfl ?_
          obtain ⟨hc, hT⟩ := hT
          obtain ⟨cc, hcc⟩ := hW.ocell hc
          refine c_invV (vs := []) dX11_prefix_25 oX11_places q905 q903 hcc qs17 (Or.inl rfl) rfl rfl (Nat.le_of_ble_eq_true rfl) rfl hW hF hT ?_ ?_
          · intro _ s39 f40 hT h hW hF
            obtain ⟨a41, rfl, hT⟩ := hT
            exact x_aret dX11_prefix_28 rfl (by first | exact Or.inl ⟨_, rfl⟩ | exact Or.inr ⟨_, rfl⟩) rfl ⟨_, _, hW, hF, Or.inl ⟨_, rfl, hT⟩⟩
          · intro k s39 f40 hT h a hW hx hF
            exact c_out (rfl) hW hx hF hT
      · intro k s20 f21 hT h a hW hx hF
        exact c_out (rfl) hW hx hF hT
  · intro k s1 f2 hT h a hW hx hF
    exact c_out (rfl) hW hx hF hT
theorem eR11_prefix {l : Launch} {E : EN} {w : CO} {d : Nat} {s : CS} {f : RH} {Q : KO → CS → RH → Prop} {x0 : Nat}  (hst : l.stackTraces = false) (hT : (oc f x0 11 ∧ vl f x0 147 = .ref (w.1 2) ∧ (EvC l E w d MX2_is [.ref (w.1 2), .int 45] s f (fun o s1 f2 => KP o (fun r => ∃ v3 : Int32, r = some (.int v3) ∧ ((¬ v3 = 0 → (oc f2 x0 11 ∧ vl f2 x0 147 = .ref (w.1 2) ∧ (∀ y4 : Int32, y4 = (s1.1 21) → (oc f2 x0 11 ∧ vl f2 x0 147 = .ref (w.1 2) ∧ (EvC l E w d MX2_is [.ref (w.1 2), .int 33] s1 f2 (fun o s5 f6 => KP o (fun r => ∃ v7 : Int32, r = some (.int v7) ∧ (oc f6 x0 11 ∧ vl f6 x0 147 = .ref (w.1 2) ∧ (EvC l E w d MX2_next [.ref (w.1 2)] s5 f6 (fun o s8 f9 => KP o (fun r => r = none ∧ (rmF E f9 1 3 ∧ ∀ (a10 : Nat) (f11 : RH), a10 = f9.1 → f11 = fnew f9 22 → (oc f11 x0 11 ∧ EvC l E w d MX11_places [.ref x0] s8 f11 (fun o s12 f13 => KP o (fun r => ∃ a14 : Nat, r = some (.ref a14) ∧ (EvC l E w d MX24_init [.ref a10, .ref a14, .int v7] s12 f13 (fun o s15 f16 => KP o (fun r => r = none ∧ (∃ k18 : Nat, oc f16 a10 k18 ∧ 165 ∈ CF k18 ∧ ¬ k18 = 30 ∧ f16.2.2.2 ≤ a10 ∧ ∀ f17 : RH, f17 = fset f16 a10 165 (.int y4) → Q (.inl (some (.ref a10))) s15 f17)) (fun k => Q (.inr k) s15 f16)))) (fun k => Q (.inr k) s12 f13))))) (fun k => Q (.inr k) s8 f9))))) (fun k => Q (.inr k) s5 f6))))))) ∧ (v3 = 0 → (oc f2 x0 11 ∧ vl f2 x0 147 = .ref (w.1 2) ∧ (EvC l E w d MX2_is [.ref (w.1 2), .int 33] s1 f2 (fun o s20 f21 => KP o (fun r => ∃ v22 : Int32, r = some (.int v22) ∧ ((¬ v22 = 0 → (oc f21 x0 11 ∧ vl f21 x0 147 = .ref (w.1 2) ∧ (∀ y23 : Int32, y23 = (s20.1 21) → (oc f21 x0 11 ∧ vl f21 x0 147 = .ref (w.1 2) ∧ (EvC l E w d MX2_is [.ref (w.1 2), .int 33] s20 f21 (fun o s24 f25 => KP o (fun r => ∃ v26 : Int32, r = some (.int v26) ∧ (oc f25 x0 11 ∧ vl f25 x0 147 = .ref (w.1 2) ∧ (EvC l E w d MX2_next [.ref (w.1 2)] s24 f25 (fun o s27 f28 => KP o (fun r => r = none ∧ (rmF E f28 1 3 ∧ ∀ (a29 : Nat) (f30 : RH), a29 = f28.1 → f30 = fnew f28 22 → (oc f30 x0 11 ∧ EvC l E w d MX11_places [.ref x0] s27 f30 (fun o s31 f32 => KP o (fun r => ∃ a33 : Nat, r = some (.ref a33) ∧ (EvC l E w d MX24_init [.ref a29, .ref a33, .int v26] s31 f32 (fun o s34 f35 => KP o (fun r => r = none ∧ (∃ k37 : Nat, oc f35 a29 k37 ∧ 165 ∈ CF k37 ∧ ¬ k37 = 30 ∧ f35.2.2.2 ≤ a29 ∧ ∀ f36 : RH, f36 = fset f35 a29 165 (.int y23) → Q (.inl (some (.ref a29))) s34 f36)) (fun k => Q (.inr k) s34 f35)))) (fun k => Q (.inr k) s31 f32))))) (fun k => Q (.inr k) s27 f28))))) (fun k => Q (.inr k) s24 f25))))))) ∧ (v22 = 0 → (oc f21 x0 11 ∧ EvC l E w d MX11_places [.ref x0] s20 f21 (fun o s39 f40 => KP o (fun r => ∃ a41 : Nat, r = some (.ref a41) ∧ Q (.inl (some (.ref a41))) s39 f40) (fun k => Q (.inr k) s39 f40)))))) (fun k => Q (.inr k) s20 f21))))))) (fun k => Q (.inr k) s1 f2))))) : EvC l E w (d + 1) MX11_prefix [.ref x0] s f Q :=
  EvC.of hst (by decide) (Nat.le_of_ble_eq_true rfl) (vR11_prefix_0  hT)
theorem vR11_places_0 {l : Launch} {E : EN} {w : CO} {d : Nat} {s : CS} {f : RH} {Q : KO → CS → RH → Prop} {x0 : Nat}  (hT : (oc f x0 11 ∧ EvC l E w d MX11_atom [.ref x0] s f (fun o s1 f2 => KP o (fun r => ∃ a3 : Nat, r = some (.ref a3) ∧ (oc f2 x0 11 ∧ vl f2 x0 147 = .ref (w.1 2) ∧ (EvC l E w d MX2_is [.ref (w.1 2), .int 91] s1 f2 (fun o s4 f5 => KP o (fun r => ∃ v6 : Int32, r = some (.int v6) ∧ ((¬ v6 = 0 → (rmF E f5 1 2 ∧ ∀ (a7 : Nat) (f8 : RH), a7 = f5.1 → f8 = fnew f5 21 → (EvC l E w d MX23_init [.ref a7] s4 f8 (fun o s9 f10 => KP o (fun r => r = none ∧ (oc f10 a7 21 ∧ (∃ a11 : Nat, vl f10 a7 181 = .ref a11 ∧ (oc f10 a11 17 ∧ EvC l E w d MX19_add [.ref a11, .ref a3, .int 0, .int 0] s9 f10 (fun o s12 f13 => KP o (fun r => r = none ∧ ExC l E w (d + 1) MX11_places 37 [some (.ref x0), none, some (.ref a7), none] [] s12 f13 Q) (fun k => Q (.inr k) s12 f13)))))) (fun k => Q (.inr k) s9 f10))))) ∧ (v6 = 0 → Q (.inl (some (.ref a3))) s4 f5))) (fun k => Q (.inr k) s4 f5))))) (fun k => Q (.inr k) s1 f2)))) : ExC l E w (d + 1) MX11_places 0 [some (.ref x0), none, none, none] [] s f Q := by
  intro f0 h hW hF
  refine x_aload_n dX11_places_0 rfl rfl rfl ?_
  obtain ⟨hc, hT⟩ := hT
  obtain ⟨cc, hcc⟩ := hW.ocell hc
  refine c_invV (vs := []) dX11_places_1 oX11_atom q909 q907 hcc qs18 (Or.inl rfl) rfl rfl (Nat.le_of_ble_eq_true rfl) rfl hW hF hT ?_ ?_
  · intro _ s1 f2 hT h hW hF
    obtain ⟨a3, rfl, hT⟩ := hT
    refine x_astore_n (lo' := [some (.ref x0), some (.ref a3), none, none]) dX11_places_4 rfl (Nat.le_of_ble_eq_true rfl) rfl rfl ?_
    refine x_aload_n dX11_places_5 rfl rfl rfl ?_
    obtain ⟨hc, ev, hT⟩ := hT
    refine c_fgetG dX11_places_6 f_TallySlate_Reader_23 hc (by decide) (by decide) hW ev ?_
    refine x_bipush (v := 91) dX11_places_9 rfl ?_
    obtain ⟨-, -, cc, hcc, -⟩ := hW.ob 2 (by decide)
    refine c_invV (vs := [.int 91]) dX11_places_11 oX2_is q820 q824 hcc q821 (Or.inl rfl) rfl rfl (Nat.le_of_ble_eq_true rfl) rfl hW hF hT ?_ ?_
    · intro _ s4 f5 hT h hW hF
      obtain ⟨v6, rfl, hT⟩ := hT
      refine x_if_ne (tgt := 19) dX11_places_14 rfl (fun c => ?_) (fun c => ?_)
      · replace hT := hT.1 c
        obtain ⟨hr, hT⟩ := hT
        refine c_newG (k := 21) dX11_places_19 (by decide) q1083 q196 hr hW hF ?_
        intro a7 f8 ea7 ef8 h hW hF
        replace hT := hT a7 f8 ea7 ef8
        refine x_dup dX11_places_22 rfl ?_
        refine c_invI (b := a7) (vs := []) dX11_places_23 oX23_init rfl rfl rfl q1086 (Or.inr ⟨_, q1085⟩) rfl rfl (Nat.le_of_ble_eq_true rfl) rfl hW hF hT ?_ ?_
        · intro _ s9 f10 hT h hW hF
          obtain ⟨rfl, hT⟩ := hT
          refine x_astore_n (lo' := [some (.ref x0), some (.ref a3), some (.ref a7), none]) dX11_places_26 rfl (Nat.le_of_ble_eq_true rfl) rfl rfl ?_
          refine x_aload_n dX11_places_27 rfl rfl rfl ?_
          obtain ⟨hc, hT⟩ := hT
          obtain ⟨a11, ev, hT⟩ := hT
          refine c_fgetG dX11_places_28 f_TallySlate_Reader_316 hc (by decide) (by decide) hW ev ?_
          refine x_aload_n dX11_places_31 rfl rfl rfl ?_
          refine x_iconst (v := 0) dX11_places_32 rfl ?_
          refine x_iconst (v := 0) dX11_places_33 rfl ?_
          obtain ⟨hc, hT⟩ := hT
          obtain ⟨cc, hcc⟩ := hW.ocell hc
          refine c_invV (vs := [.ref a3, .int 0, .int 0]) dX11_places_34 oX19_add q992 q991 hcc q993 (Or.inl rfl) rfl rfl (Nat.le_of_ble_eq_true rfl) rfl hW hF hT ?_ ?_
          · intro _ s12 f13 hT h hW hF
            obtain ⟨rfl, hT⟩ := hT
            refine Ex.wkl (lo' := [some (.ref x0), none, some (.ref a7), none]) ⟨rfl, rfl, trivial⟩ ?_
            exact hT f0 h hW hF
          · intro k s12 f13 hT h a hW hx hF
            exact c_out (rfl) hW hx hF hT
        · intro k s9 f10 hT h a hW hx hF
          exact c_out (rfl) hW hx hF hT
      · replace hT := hT.2 c
        refine x_aload_n dX11_places_17 rfl rfl rfl ?_
        exact x_aret dX11_places_18 rfl (by first | exact Or.inl ⟨_, rfl⟩ | exact Or.inr ⟨_, rfl⟩) rfl ⟨_, _, hW, hF, Or.inl ⟨_, rfl, hT⟩⟩
    · intro k s4 f5 hT h a hW hx hF
      exact c_out (rfl) hW hx hF hT
  · intro k s1 f2 hT h a hW hx hF
    exact c_out (rfl) hW hx hF hT
theorem eR11_places {l : Launch} {E : EN} {w : CO} {d : Nat} {s : CS} {f : RH} {Q : KO → CS → RH → Prop} {x0 : Nat}  (hst : l.stackTraces = false) (hT : (oc f x0 11 ∧ EvC l E w d MX11_atom [.ref x0] s f (fun o s1 f2 => KP o (fun r => ∃ a3 : Nat, r = some (.ref a3) ∧ (oc f2 x0 11 ∧ vl f2 x0 147 = .ref (w.1 2) ∧ (EvC l E w d MX2_is [.ref (w.1 2), .int 91] s1 f2 (fun o s4 f5 => KP o (fun r => ∃ v6 : Int32, r = some (.int v6) ∧ ((¬ v6 = 0 → (rmF E f5 1 2 ∧ ∀ (a7 : Nat) (f8 : RH), a7 = f5.1 → f8 = fnew f5 21 → (EvC l E w d MX23_init [.ref a7] s4 f8 (fun o s9 f10 => KP o (fun r => r = none ∧ (oc f10 a7 21 ∧ (∃ a11 : Nat, vl f10 a7 181 = .ref a11 ∧ (oc f10 a11 17 ∧ EvC l E w d MX19_add [.ref a11, .ref a3, .int 0, .int 0] s9 f10 (fun o s12 f13 => KP o (fun r => r = none ∧ ExC l E w (d + 1) MX11_places 37 [some (.ref x0), none, some (.ref a7), none] [] s12 f13 Q) (fun k => Q (.inr k) s12 f13)))))) (fun k => Q (.inr k) s9 f10))))) ∧ (v6 = 0 → Q (.inl (some (.ref a3))) s4 f5))) (fun k => Q (.inr k) s4 f5))))) (fun k => Q (.inr k) s1 f2)))) : EvC l E w (d + 1) MX11_places [.ref x0] s f Q :=
  EvC.of hst (by decide) (Nat.le_of_ble_eq_true rfl) (vR11_places_0  hT)
set_option maxHeartbeats 16000000 in
theorem vR11_places_37 {l : Launch} {E : EN} {w : CO} {d : Nat} {s : CS} {f : RH} {Q : KO → CS → RH → Prop} {b0 : Nat} {b2 : Nat}  (hT : (oc f b0 11 ∧ vl f b0 147 = .ref (w.1 2) ∧ (EvC l E w d MX2_is [.ref (w.1 2), .int 91] s f (fun o s16 f17 => KP o (fun r => ∃ v18 : Int32, r = some (.int v18) ∧ ((v18 = 0 → Q (.inl (some (.ref b2))) s16 f17) ∧ (¬ v18 = 0 → (oc f17 b0 11 ∧ vl f17 b0 147 = .ref (w.1 2) ∧ (∀ y19 : Int32, y19 = (s16.1 21) → (oc f17 b0 11 ∧ vl f17 b0 147 = .ref (w.1 2) ∧ (EvC l E w d MX2_take [.ref (w.1 2), .int 91] s16 f17 (fun o s20 f21 => KP o (fun r => r = none ∧ (oc f21 b2 21 ∧ (∃ a22 : Nat, vl f21 b2 181 = .ref a22 ∧ (oc f21 b0 11 ∧ EvC l E w d MX11_expression [.ref b0] s20 f21 (fun o s23 f24 => KP o (fun r => ∃ a25 : Nat, r = some (.ref a25) ∧ (oc f24 a22 17 ∧ EvC l E w d MX19_add [.ref a22, .ref a25, .int 0, .int y19] s23 f24 (fun o s26 f27 => KP o (fun r => r = none ∧ (oc f27 b0 11 ∧ vl f27 b0 147 = .ref (w.1 2) ∧ (EvC l E w d MX2_take [.ref (w.1 2), .int 93] s26 f27 (fun o s28 f29 => KP o (fun r => r = none ∧ ExC l E w (d + 1) MX11_places 37 [some (.ref b0), none, some (.ref b2), none] [] s28 f29 Q) (fun k => Q (.inr k) s28 f29))))) (fun k => Q (.inr k) s26 f27)))) (fun k => Q (.inr k) s23 f24)))))) (fun k => Q (.inr k) s20 f21))))))))) (fun k => Q (.inr k) s16 f17))))) : ExC l E w (d + 1) MX11_places 37 [some (.ref b0), none, some (.ref b2), none] [] s f Q := by
  intro f0 h hW hF
  refine x_aload_n dX11_places_37 rfl rfl rfl ?_
  obtain ⟨hc, ev, hT⟩ := hT
  refine c_fgetG dX11_places_38 f_TallySlate_Reader_23 hc (by decide) (by decide) hW ev ?_
  refine x_bipush (v := 91) dX11_places_41 rfl ?_
  obtain ⟨-, -, cc, hcc, -⟩ := hW.ob 2 (by decide)
  refine c_invV (vs := [.int 91]) dX11_places_43 oX2_is q820 q824 hcc q821 (Or.inl rfl) rfl rfl (Nat.le_of_ble_eq_true rfl) rfl hW hF hT ?_ ?_
  · intro _ s16 f17 hT h hW hF
    obtain ⟨v18, rfl, hT⟩ := hT
    refine x_if_eq (tgt := 91) dX11_places_46 rfl (fun c => ?_) (fun c => ?_)
    · replace hT := hT.1 c
      refine x_aload_n dX11_places_91 rfl rfl rfl ?_
      exact x_aret dX11_places_92 rfl (by first | exact Or.inl ⟨_, rfl⟩ | exact Or.inr ⟨_, rfl⟩) rfl ⟨_, _, hW, hF, Or.inl ⟨_, rfl, hT⟩⟩
    · replace hT := hT.2 c
      refine x_aload_n dX11_places_49 rfl rfl rfl ?_
      obtain ⟨hc, ev, hT⟩ := hT
      refine c_fgetG dX11_places_50 f_TallySlate_Reader_23 hc (by decide) (by decide) hW ev ?_
      refine c_getI (v := (s16.1 21)) dX11_places_53 f_TallySlate_Reader_45 (by decide) (by decide) rfl hW rfl ?_
      obtain ⟨y19, ey19⟩ : ∃ z : Int32, z = (s16.1 21) := ⟨_, rfl⟩
      replace hT := hT y19 ey19
      refine x_istore_n (lo' := [some (.ref b0), none, some (.ref b2), some (.int y19)]) dX11_places_56 rfl (Nat.le_of_ble_eq_true rfl) (by rw [ey19]; exact rfl) ?_
      refine x_aload_n dX11_places_57 rfl rfl rfl ?_
      obtain ⟨hc, ev, hT⟩ := hT
      refine c_fgetG dX11_places_58 f_TallySlate_Reader_23 hc (by decide) (by decide) hW ev ?_
      refine x_bipush (v := 91) dX11_places_61 rfl ?_
      obtain ⟨-, -, cc, hcc, -⟩ := hW.ob 2 (by decide)
      refine c_invV (vs := [.int 91]) dX11_places_63 oX2_take q816 q815 hcc q817 (Or.inl rfl) rfl rfl (Nat.le_of_ble_eq_true rfl) rfl hW hF hT ?_ ?_
      · intro _ s20 f21 hT h hW hF
        obtain ⟨rfl, hT⟩ := hT
        refine x_aload_n dX11_places_66 rfl rfl rfl ?_
        obtain ⟨hc, hT⟩ := hT
        obtain ⟨a22, ev, hT⟩ := hT
        refine c_fgetG dX11_places_67 f_TallySlate_Reader_316 hc (by decide) (by decide) hW ev ?_
        refine x_aload_n dX11_places_70 rfl rfl rfl ?_
        obtain ⟨hc, hT⟩ := hT
        obtain ⟨cc, hcc⟩ := hW.ocell hc
        refine c_invV (vs := []) dX11_places_71 oX11_expression q893 q891 hcc qs14 (Or.inl rfl) rfl rfl (Nat.le_of_ble_eq_true rfl) rfl hW hF hT ?_ ?_
        · intro _ s23 f24 hT h hW hF
          obtain ⟨a25, rfl, hT⟩ := hT
          refine x_iconst (v := 0) dX11_places_74 rfl ?_
          refine x_iload_n dX11_places_75 rfl rfl ?_
          obtain ⟨hc, hT⟩ := hT
          obtain ⟨cc, hcc⟩ := hW.ocell hc
          refine c_invV (vs := [.ref a25, .int 0, .int y19]) dX11_places_76 oX19_add q992 q991 hcc q993 (Or.inl rfl) rfl rfl (Nat.le_of_ble_eq_true rfl) rfl hW hF hT ?_ ?_
          · intro _ s26 f27 hT h hW hF
            obtain ⟨rfl, hT⟩ := hT
            refine x_aload_n dX11_places_79 rfl rfl rfl ?_
            obtain ⟨hc, ev, hT⟩ := hT
            refine c_fgetG dX11_places_80 f_TallySlate_Reader_23 hc (by decide) (by decide) hW ev ?_
            refine x_bipush (v := 93) dX11_places_83 rfl ?_
            obtain ⟨-, -, cc, hcc, -⟩ := hW.ob 2 (by decide)
            refine c_invV (vs := [.int 93]) dX11_places_85 oX2_take q816 q815 hcc q817 (Or.inl rfl) rfl rfl (Nat.le_of_ble_eq_true rfl) rfl hW hF hT ?_ ?_
            · intro _ s28 f29 hT h hW hF
              obtain ⟨rfl, hT⟩ := hT
              refine x_goto (tgt := 37) dX11_places_88 rfl ?_
              refine Ex.wkl (lo' := [some (.ref b0), none, some (.ref b2), none]) ⟨rfl, rfl, trivial⟩ ?_
              exact hT f0 h hW hF
            · intro k s28 f29 hT h a hW hx hF
              exact c_out (rfl) hW hx hF hT
          · intro k s26 f27 hT h a hW hx hF
            exact c_out (rfl) hW hx hF hT
        · intro k s23 f24 hT h a hW hx hF
          exact c_out (rfl) hW hx hF hT
      · intro k s20 f21 hT h a hW hx hF
        exact c_out (rfl) hW hx hF hT
  · intro k s16 f17 hT h a hW hx hF
    exact c_out (rfl) hW hx hF hT
set_option maxHeartbeats 16000000 in
theorem vR11_atom_0 {l : Launch} {E : EN} {w : CO} {d : Nat} {s : CS} {f : RH} {Q : KO → CS → RH → Prop} {x0 : Nat}  (hT : (oc f x0 11 ∧ vl f x0 147 = .ref (w.1 2) ∧ (∀ y1 : Int32, y1 = (s.1 21) → (oc f x0 11 ∧ vl f x0 147 = .ref (w.1 2) ∧ ((¬ (s.1 20) = 2 → (oc f x0 11 ∧ vl f x0 147 = .ref (w.1 2) ∧ (EvC l E w d MX2_is [.ref (w.1 2), .int 40] s f (fun o s2 f3 => KP o (fun r => ∃ v4 : Int32, r = some (.int v4) ∧ ((v4 = 0 → (oc f3 x0 11 ∧ vl f3 x0 147 = .ref (w.1 2) ∧ (EvC l E w d MX2_is [.ref (w.1 2), .int 91] s2 f3 (fun o s5 f6 => KP o (fun r => ∃ v7 : Int32, r = some (.int v7) ∧ ((v7 = 0 → (oc f6 x0 11 ∧ vl f6 x0 147 = .ref (w.1 2) ∧ ((¬ (s5.1 20) = 1 → (rmF E f6 1 2 ∧ ∀ (a8 : Nat) (f9 : RH), a8 = f6.1 → f9 = fnew f6 20 → (oc f9 x0 11 ∧ EvC l E w d MX11_name [.ref x0] s5 f9 (fun o s10 f11 => KP o (fun r => ∃ v12 : Int32, r = some (.int v12) ∧ (EvC l E w d MX22_init [.ref a8, .int v12] s10 f11 (fun o s13 f14 => KP o (fun r => r = none ∧ (∃ k16 : Nat, oc f14 a8 k16 ∧ 165 ∈ CF k16 ∧ ¬ k16 = 30 ∧ f14.2.2.2 ≤ a8 ∧ ∀ f15 : RH, f15 = fset f14 a8 165 (.int y1) → Q (.inl (some (.ref a8))) s13 f15)) (fun k => Q (.inr k) s13 f14)))) (fun k => Q (.inr k) s10 f11))))) ∧ ((s5.1 20) = 1 → (oc f6 x0 11 ∧ EvC l E w d MX11_builtIn [.ref x0] s5 f6 (fun o s18 f19 => KP o (fun r => ∃ v20 : Int32, r = some (.int v20) ∧ ((0 ≤ v20 → (oc f19 x0 11 ∧ EvC l E w d MX11_call [.ref x0] s18 f19 (fun o s21 f22 => KP o (fun r => ∃ a23 : Nat, r = some (.ref a23) ∧ Q (.inl (some (.ref a23))) s21 f22) (fun k => Q (.inr k) s21 f22)))) ∧ (¬ 0 ≤ v20 → (oc f19 x0 11 ∧ EvC l E w d MX11_isReserved [.ref x0] s18 f19 (fun o s25 f26 => KP o (fun r => ∃ v27 : Int32, r = some (.int v27) ∧ ((¬ v27 = 0 → (rmF E f26 1 2 ∧ ∀ (a28 : Nat) (f29 : RH), a28 = f26.1 → f29 = fnew f26 20 → (oc f29 x0 11 ∧ EvC l E w d MX11_name [.ref x0] s25 f29 (fun o s30 f31 => KP o (fun r => ∃ v32 : Int32, r = some (.int v32) ∧ (EvC l E w d MX22_init [.ref a28, .int v32] s30 f31 (fun o s33 f34 => KP o (fun r => r = none ∧ (∃ k36 : Nat, oc f34 a28 k36 ∧ 165 ∈ CF k36 ∧ ¬ k36 = 30 ∧ f34.2.2.2 ≤ a28 ∧ ∀ f35 : RH, f35 = fset f34 a28 165 (.int y1) → Q (.inl (some (.ref a28))) s33 f35)) (fun k => Q (.inr k) s33 f34)))) (fun k => Q (.inr k) s30 f31))))) ∧ (v27 = 0 → (oc f26 x0 11 ∧ vl f26 x0 147 = .ref (w.1 2) ∧ (EvC l E w d MX2_isCalled [.ref (w.1 2)] s25 f26 (fun o s38 f39 => KP o (fun r => ∃ v40 : Int32, r = some (.int v40) ∧ ((v40 = 0 → (rmF E f39 1 2 ∧ ∀ (a41 : Nat) (f42 : RH), a41 = f39.1 → f42 = fnew f39 20 → (oc f42 x0 11 ∧ EvC l E w d MX11_name [.ref x0] s38 f42 (fun o s43 f44 => KP o (fun r => ∃ v45 : Int32, r = some (.int v45) ∧ (EvC l E w d MX22_init [.ref a41, .int v45] s43 f44 (fun o s46 f47 => KP o (fun r => r = none ∧ (∃ k49 : Nat, oc f47 a41 k49 ∧ 165 ∈ CF k49 ∧ ¬ k49 = 30 ∧ f47.2.2.2 ≤ a41 ∧ ∀ f48 : RH, f48 = fset f47 a41 165 (.int y1) → Q (.inl (some (.ref a41))) s46 f48)) (fun k => Q (.inr k) s46 f47)))) (fun k => Q (.inr k) s43 f44))))) ∧ (¬ v40 = 0 → (oc f39 x0 11 ∧ EvC l E w d MX11_call [.ref x0] s38 f39 (fun o s51 f52 => KP o (fun r => ∃ a53 : Nat, r = some (.ref a53) ∧ Q (.inl (some (.ref a53))) s51 f52) (fun k => Q (.inr k) s51 f52)))))) (fun k => Q (.inr k) s38 f39))))))) (fun k => Q (.inr k) s25 f26)))))) (fun k => Q (.inr k) s18 f19))))))) ∧ (¬ v7 = 0 → (oc f6 x0 11 ∧ EvC l E w d MX11_literal [.ref x0] s5 f6 (fun o s57 f58 => KP o (fun r => ∃ a59 : Nat, r = some (.ref a59) ∧ (∃ k61 : Nat, oc f58 a59 k61 ∧ 165 ∈ CF k61 ∧ ¬ k61 = 30 ∧ f58.2.2.2 ≤ a59 ∧ ∀ f60 : RH, f60 = fset f58 a59 165 (.int y1) → Q (.inl (some (.ref a59))) s57 f60)) (fun k => Q (.inr k) s57 f58)))))) (fun k => Q (.inr k) s5 f6))))) ∧ (¬ v4 = 0 → (oc f3 x0 11 ∧ vl f3 x0 147 = .ref (w.1 2) ∧ (EvC l E w d MX2_take [.ref (w.1 2), .int 40] s2 f3 (fun o s63 f64 => KP o (fun r => r = none ∧ (oc f64 x0 11 ∧ EvC l E w d MX11_expression [.ref x0] s63 f64 (fun o s65 f66 => KP o (fun r => ∃ a67 : Nat, r = some (.ref a67) ∧ (oc f66 x0 11 ∧ vl f66 x0 147 = .ref (w.1 2) ∧ (EvC l E w d MX2_take [.ref (w.1 2), .int 41] s65 f66 (fun o s68 f69 => KP o (fun r => r = none ∧ Q (.inl (some (.ref a67))) s68 f69) (fun k => Q (.inr k) s68 f69))))) (fun k => Q (.inr k) s65 f66)))) (fun k => Q (.inr k) s63 f64))))))) (fun k => Q (.inr k) s2 f3))))) ∧ ((s.1 20) = 2 → (rmF E f 1 2 ∧ ∀ (a71 : Nat) (f72 : RH), a71 = f.1 → f72 = fnew f 15 → (oc f72 x0 11 ∧ vl f72 x0 147 = .ref (w.1 2) ∧ (EvC l E w d MX17_init [.ref a71, .int (s.1 22)] s f72 (fun o s73 f74 => KP o (fun r => r = none ∧ (oc f74 x0 11 ∧ vl f74 x0 147 = .ref (w.1 2) ∧ (EvC l E w d MX2_next [.ref (w.1 2)] s73 f74 (fun o s75 f76 => KP o (fun r => r = none ∧ (∃ k78 : Nat, oc f76 a71 k78 ∧ 165 ∈ CF k78 ∧ ¬ k78 = 30 ∧ f76.2.2.2 ≤ a71 ∧ ∀ f77 : RH, f77 = fset f76 a71 165 (.int y1) → Q (.inl (some (.ref a71))) s75 f77)) (fun k => Q (.inr k) s75 f76))))) (fun k => Q (.inr k) s73 f74))))))))))) : ExC l E w (d + 1) MX11_atom 0 [some (.ref x0), none, none] [] s f Q := by
  intro f0 h hW hF
  refine x_aload_n dX11_atom_0 rfl rfl rfl ?_
  obtain ⟨hc, ev, hT⟩ := hT
  refine c_fgetG dX11_atom_1 f_TallySlate_Reader_23 hc (by decide) (by decide) hW ev ?_
  refine c_getI (v := (s.1 21)) dX11_atom_4 f_TallySlate_Reader_45 (by decide) (by decide) rfl hW rfl ?_
  obtain ⟨y1, ey1⟩ : ∃ z : Int32, z = (s.1 21) := ⟨_, rfl⟩
  replace hT := hT y1 ey1
  refine x_istore_n (lo' := [some (.ref x0), some (.int y1), none]) dX11_atom_7 rfl (Nat.le_of_ble_eq_true rfl) (by rw [ey1]; exact rfl) ?_
  refine x_aload_n dX11_atom_8 rfl rfl rfl ?_
  obtain ⟨hc, ev, hT⟩ := hT
  refine c_fgetG dX11_atom_9 f_TallySlate_Reader_23 hc (by decide) (by decide) hW ev ?_
  refine c_getI (v := (s.1 20)) dX11_atom_12 f_TallySlate_Reader_41 (by decide) (by decide) rfl hW rfl ?_
  refine x_iconst (v := 2) dX11_atom_15 rfl ?_
  refine x_icmp_ne (tgt := 44) dX11_atom_16 rfl (fun c => ?_) (fun c => ?_)
  · replace hT := hT.1 c
    refine x_aload_n dX11_atom_44 rfl rfl rfl ?_
    obtain ⟨hc, ev, hT⟩ := hT
    refine c_fgetG dX11_atom_45 f_TallySlate_Reader_23 hc (by decide) (by decide) hW ev ?_
    refine x_bipush (v := 40) dX11_atom_48 rfl ?_
    obtain ⟨-, -, cc, hcc, -⟩ := hW.ob 2 (by decide)
    refine c_invV (vs := [.int 40]) dX11_atom_50 oX2_is q820 q824 hcc q821 (Or.inl rfl) rfl rfl (Nat.le_of_ble_eq_true rfl) rfl hW hF hT ?_ ?_
    · intro _ s2 f3 hT h hW hF
      obtain ⟨v4, rfl, hT⟩ := hT
      refine x_if_eq (tgt := 81) dX11_atom_53 rfl (fun c => ?_) (fun c => ?_)
      · replace hT := hT.1 c
        refine x_aload_n dX11_atom_81 rfl rfl rfl ?_
        obtain ⟨hc, ev, hT⟩ := hT
        refine c_fgetG dX11_atom_82 f_TallySlate_Reader_23 hc (by decide) (by decide) hW ev ?_
        refine x_bipush (v := 91) dX11_atom_85 rfl ?_
        obtain ⟨-, -, cc, hcc, -⟩ := hW.ob 2 (by decide)
        refine c_invV (vs := [.int 91]) dX11_atom_87 oX2_is q820 q824 hcc q821 (Or.inl rfl) rfl rfl (Nat.le_of_ble_eq_true rfl) rfl hW hF hT ?_ ?_
        · intro _ s5 f6 hT h hW hF
          obtain ⟨v7, rfl, hT⟩ := hT
          refine x_if_eq (tgt := 101) dX11_atom_90 rfl (fun c => ?_) (fun c => ?_)
          · replace hT := hT.1 c
            refine x_aload_n dX11_atom_101 rfl rfl rfl ?_
            obtain ⟨hc, ev, hT⟩ := hT
            refine c_fgetG dX11_atom_102 f_TallySlate_Reader_23 hc (by decide) (by decide) hW ev ?_
            refine c_getI (v := (s5.1 20)) dX11_atom_105 f_TallySlate_Reader_41 (by decide) (by decide) rfl hW rfl ?_
            refine x_iconst (v := 1) dX11_atom_108 rfl ?_
            refine x_icmp_ne (tgt := 141) dX11_atom_109 rfl (fun c => ?_) (fun c => ?_)
            · replace hT := hT.1 c
              obtain ⟨hr, hT⟩ := hT
              refine c_newG (k := 20) dX11_atom_141 (by decide) q1067 q195 hr hW hF ?_
              intro a8 f9 ea8 ef9 h hW hF
              replace hT := hT a8 f9 ea8 ef9
              refine x_dup dX11_atom_144 rfl ?_
              refine x_aload_n dX11_atom_145 rfl rfl rfl ?_
              obtain ⟨hc, hT⟩ := hT
              obtain ⟨cc, hcc⟩ := hW.ocell hc
              refine c_invV (vs := []) dX11_atom_146 oX11_name q1071 q1069 hcc qs25 (Or.inl rfl) rfl rfl (Nat.le_of_ble_eq_true rfl) rfl hW hF hT ?_ ?_
              · intro _ s10 f11 hT h hW hF
                obtain ⟨v12, rfl, hT⟩ := hT
                refine c_invI (b := a8) (vs := [.int v12]) dX11_atom_149 oX22_init rfl rfl rfl q1075 (Or.inl q1074) rfl rfl (Nat.le_of_ble_eq_true rfl) rfl hW hF hT ?_ ?_
                · intro _ s13 f14 hT h hW hF
                  obtain ⟨rfl, hT⟩ := hT
                  refine x_astore_n (lo' := [some (.ref x0), some (.int y1), some (.ref a8)]) dX11_atom_152 rfl (Nat.le_of_ble_eq_true rfl) rfl rfl ?_
                  refine x_aload_n dX11_atom_153 rfl rfl rfl ?_
                  refine x_iload_n dX11_atom_154 rfl rfl ?_
                  obtain ⟨k16, hc, hj, h30, hz, hT⟩ := hT
                  refine c_fputG dX11_atom_155 f_TallySlate_Reader_326 hc hj h30 hz (Or.inl rfl) rfl rfl hW hF ?_
                  intro f15 ef15 h hW hF
                  replace hT := hT f15 ef15
                  refine x_aload_n dX11_atom_158 rfl rfl rfl ?_
                  exact x_aret dX11_atom_159 rfl (by first | exact Or.inl ⟨_, rfl⟩ | exact Or.inr ⟨_, rfl⟩) rfl ⟨_, _, hW, hF, Or.inl ⟨_, rfl, hT⟩⟩
                · intro k s13 f14 hT h a hW hx hF
                  exact c_out (rfl) hW hx hF hT
              · intro k s10 f11 hT h a hW hx hF
                exact c_out (rfl) hW hx hF hT
            · replace hT := hT.2 c
              refine x_aload_n dX11_atom_112 rfl rfl rfl ?_
              obtain ⟨hc, hT⟩ := hT
              obtain ⟨cc, hcc⟩ := hW.ocell hc
              refine c_invV (vs := []) dX11_atom_113 oX11_builtIn q768 q766 hcc qs9 (Or.inl rfl) rfl rfl (Nat.le_of_ble_eq_true rfl) rfl hW hF hT ?_ ?_
              · intro _ s18 f19 hT h hW hF
                obtain ⟨v20, rfl, hT⟩ := hT
                refine x_if_ge (tgt := 136) dX11_atom_116 rfl (fun c => ?_) (fun c => ?_)
                · replace hT := hT.1 c
                  refine x_aload_n dX11_atom_136 rfl rfl rfl ?_
                  obtain ⟨hc, hT⟩ := hT
                  obtain ⟨cc, hcc⟩ := hW.ocell hc
                  refine c_invV (vs := []) dX11_atom_137 oX11_call q1005 q1003 hcc qs21 (Or.inl rfl) rfl rfl (Nat.le_of_ble_eq_true rfl) rfl hW hF hT ?_ ?_
                  · intro _ s21 f22 hT h hW hF
                    obtain ⟨a23, rfl, hT⟩ := hT
                    exact x_aret dX11_atom_140 rfl (by first | exact Or.inl ⟨_, rfl⟩ | exact Or.inr ⟨_, rfl⟩) rfl ⟨_, _, hW, hF, Or.inl ⟨_, rfl, hT⟩⟩
                  · intro k s21 f22 hT h a hW hx hF
                    exact c_out (rfl) hW hx hF hT
                · replace hT := hT.2 c
                  refine x_aload_n dX11_atom_119 rfl rfl rfl ?_
                  obtain ⟨hc, hT⟩ := hT
                  obtain ⟨cc, hcc⟩ := hW.ocell hc
                  refine c_invV (vs := []) dX11_atom_120 oX11_isReserved q762 q760 hcc qs8 (Or.inl rfl) rfl rfl (Nat.le_of_ble_eq_true rfl) rfl hW hF hT ?_ ?_
                  · intro _ s25 f26 hT h hW hF
                    obtain ⟨v27, rfl, hT⟩ := hT
                    refine x_if_ne (tgt := 141) dX11_atom_123 rfl (fun c => ?_) (fun c => ?_)
                    · replace hT := hT.1 c
                      obtain ⟨hr, hT⟩ := hT
                      refine c_newG (k := 20) dX11_atom_141 (by decide) q1067 q195 hr hW hF ?_
                      intro a28 f29 ea28 ef29 h hW hF
                      replace hT := hT a28 f29 ea28 ef29
                      refine x_dup dX11_atom_144 rfl ?_
                      refine x_aload_n dX11_atom_145 rfl rfl rfl ?_
                      obtain ⟨hc, hT⟩ := hT
                      obtain ⟨cc, hcc⟩ := hW.ocell hc
                      refine c_invV (vs := []) dX11_atom_146 oX11_name q1071 q1069 hcc qs25 (Or.inl rfl) rfl rfl (Nat.le_of_ble_eq_true rfl) rfl hW hF hT ?_ ?_
                      · intro _ s30 f31 hT h hW hF
                        obtain ⟨v32, rfl, hT⟩ := hT
                        refine c_invI (b := a28) (vs := [.int v32]) dX11_atom_149 oX22_init rfl rfl rfl q1075 (Or.inl q1074) rfl rfl (Nat.le_of_ble_eq_true rfl) rfl hW hF hT ?_ ?_
                        · intro _ s33 f34 hT h hW hF
                          obtain ⟨rfl, hT⟩ := hT
                          refine x_astore_n (lo' := [some (.ref x0), some (.int y1), some (.ref a28)]) dX11_atom_152 rfl (Nat.le_of_ble_eq_true rfl) rfl rfl ?_
                          refine x_aload_n dX11_atom_153 rfl rfl rfl ?_
                          refine x_iload_n dX11_atom_154 rfl rfl ?_
                          obtain ⟨k36, hc, hj, h30, hz, hT⟩ := hT
                          refine c_fputG dX11_atom_155 f_TallySlate_Reader_326 hc hj h30 hz (Or.inl rfl) rfl rfl hW hF ?_
                          intro f35 ef35 h hW hF
                          replace hT := hT f35 ef35
                          refine x_aload_n dX11_atom_158 rfl rfl rfl ?_
                          exact x_aret dX11_atom_159 rfl (by first | exact Or.inl ⟨_, rfl⟩ | exact Or.inr ⟨_, rfl⟩) rfl ⟨_, _, hW, hF, Or.inl ⟨_, rfl, hT⟩⟩
                        · intro k s33 f34 hT h a hW hx hF
                          exact c_out (rfl) hW hx hF hT
                      · intro k s30 f31 hT h a hW hx hF
                        exact c_out (rfl) hW hx hF hT
                    · replace hT := hT.2 c
                      refine x_aload_n dX11_atom_126 rfl rfl rfl ?_
                      obtain ⟨hc, ev, hT⟩ := hT
                      refine c_fgetG dX11_atom_127 f_TallySlate_Reader_23 hc (by decide) (by decide) hW ev ?_
                      obtain ⟨-, -, cc, hcc, -⟩ := hW.ob 2 (by decide)
                      refine c_invV (vs := []) dX11_atom_130 oX2_isCalled q1000 q999 hcc q1001 (Or.inl rfl) rfl rfl (Nat.le_of_ble_eq_true rfl) rfl hW hF hT ?_ ?_
                      · intro _ s38 f39 hT h hW hF
                        obtain ⟨v40, rfl, hT⟩ := hT
                        refine x_if_eq (tgt := 141) dX11_atom_133 rfl (fun c => ?_) (fun c => ?_)
                        · replace hT := hT.1 c
                          obtain ⟨hr, hT⟩ := hT
                          refine c_newG (k := 20) dX11_atom_141 (by decide) q1067 q195 hr hW hF ?_
                          intro a41 f42 ea41 ef42 h hW hF
                          replace hT := hT a41 f42 ea41 ef42
                          refine x_dup dX11_atom_144 rfl ?_
                          refine x_aload_n dX11_atom_145 rfl rfl rfl ?_
                          obtain ⟨hc, hT⟩ := hT
                          obtain ⟨cc, hcc⟩ := hW.ocell hc
                          refine c_invV (vs := []) dX11_atom_146 oX11_name q1071 q1069 hcc qs25 (Or.inl rfl) rfl rfl (Nat.le_of_ble_eq_true rfl) rfl hW hF hT ?_ ?_
                          · intro _ s43 f44 hT h hW hF
                            obtain ⟨v45, rfl, hT⟩ := hT
                            refine c_invI (b := a41) (vs := [.int v45]) dX11_atom_149 oX22_init rfl rfl rfl q1075 (Or.inl q1074) rfl rfl (Nat.le_of_ble_eq_true rfl) rfl hW hF hT ?_ ?_
                            · intro _ s46 f47 hT h hW hF
                              obtain ⟨rfl, hT⟩ := hT
                              refine x_astore_n (lo' := [some (.ref x0), some (.int y1), some (.ref a41)]) dX11_atom_152 rfl (Nat.le_of_ble_eq_true rfl) rfl rfl ?_
                              refine x_aload_n dX11_atom_153 rfl rfl rfl ?_
                              refine x_iload_n dX11_atom_154 rfl rfl ?_
                              obtain ⟨k49, hc, hj, h30, hz, hT⟩ := hT
                              refine c_fputG dX11_atom_155 f_TallySlate_Reader_326 hc hj h30 hz (Or.inl rfl) rfl rfl hW hF ?_
                              intro f48 ef48 h hW hF
                              replace hT := hT f48 ef48
                              refine x_aload_n dX11_atom_158 rfl rfl rfl ?_
                              exact x_aret dX11_atom_159 rfl (by first | exact Or.inl ⟨_, rfl⟩ | exact Or.inr ⟨_, rfl⟩) rfl ⟨_, _, hW, hF, Or.inl ⟨_, rfl, hT⟩⟩
                            · intro k s46 f47 hT h a hW hx hF
                              exact c_out (rfl) hW hx hF hT
                          · intro k s43 f44 hT h a hW hx hF
                            exact c_out (rfl) hW hx hF hT
                        · replace hT := hT.2 c
                          refine x_aload_n dX11_atom_136 rfl rfl rfl ?_
                          obtain ⟨hc, hT⟩ := hT
                          obtain ⟨cc, hcc⟩ := hW.ocell hc
                          refine c_invV (vs := []) dX11_atom_137 oX11_call q1005 q1003 hcc qs21 (Or.inl rfl) rfl rfl (Nat.le_of_ble_eq_true rfl) rfl hW hF hT ?_ ?_
                          · intro _ s51 f52 hT h hW hF
                            obtain ⟨a53, rfl, hT⟩ := hT
                            exact x_aret dX11_atom_140 rfl (by first | exact Or.inl ⟨_, rfl⟩ | exact Or.inr ⟨_, rfl⟩) rfl ⟨_, _, hW, hF, Or.inl ⟨_, rfl, hT⟩⟩
                          · intro k s51 f52 hT h a hW hx hF
                            exact c_out (rfl) hW hx hF hT
                      · intro k s38 f39 hT h a hW hx hF
                        exact c_out (rfl) hW hx hF hT
                  · intro k s25 f26 hT h a hW hx hF
                    exact c_out (rfl) hW hx hF hT
              · intro k s18 f19 hT h a hW hx hF
                exact c_out (rfl) hW hx hF hT
          · replace hT := hT.2 c
            refine x_aload_n dX11_atom_93 rfl rfl rfl ?_
            obtain ⟨hc, hT⟩ := hT
            obtain ⟨cc, hcc⟩ := hW.ocell hc
            refine c_invV (vs := []) dX11_atom_94 oX11_literal q942 q940 hcc qs19 (Or.inl rfl) rfl rfl (Nat.le_of_ble_eq_true rfl) rfl hW hF hT ?_ ?_
            · intro _ s57 f58 hT h hW hF
              obtain ⟨a59, rfl, hT⟩ := hT
              refine x_astore_n (lo' := [some (.ref x0), some (.int y1), some (.ref a59)]) dX11_atom_97 rfl (Nat.le_of_ble_eq_true rfl) rfl rfl ?_
              refine x_goto (tgt := 153) dX11_atom_98 rfl ?_
              refine x_aload_n dX11_atom_153 rfl rfl rfl ?_
              refine x_iload_n dX11_atom_154 rfl rfl ?_
              obtain ⟨k61, hc, hj, h30, hz, hT⟩ := hT
              refine c_fputG dX11_atom_155 f_TallySlate_Reader_326 hc hj h30 hz (Or.inl rfl) rfl rfl hW hF ?_
              intro f60 ef60 h hW hF
              replace hT := hT f60 ef60
              refine x_aload_n dX11_atom_158 rfl rfl rfl ?_
              exact x_aret dX11_atom_159 rfl (by first | exact Or.inl ⟨_, rfl⟩ | exact Or.inr ⟨_, rfl⟩) rfl ⟨_, _, hW, hF, Or.inl ⟨_, rfl, hT⟩⟩
            · intro k s57 f58 hT h a hW hx hF
              exact c_out (rfl) hW hx hF hT
        · intro k s5 f6 hT h a hW hx hF
          exact c_out (rfl) hW hx hF hT
      · replace hT := hT.2 c
        refine x_aload_n dX11_atom_56 rfl rfl rfl ?_
        obtain ⟨hc, ev, hT⟩ := hT
        refine c_fgetG dX11_atom_57 f_TallySlate_Reader_23 hc (by decide) (by decide) hW ev ?_
        refine x_bipush (v := 40) dX11_atom_60 rfl ?_
        obtain ⟨-, -, cc, hcc, -⟩ := hW.ob 2 (by decide)
        refine c_invV (vs := [.int 40]) dX11_atom_62 oX2_take q816 q815 hcc q817 (Or.inl rfl) rfl rfl (Nat.le_of_ble_eq_true rfl) rfl hW hF hT ?_ ?_
        · intro _ s63 f64 hT h hW hF
          obtain ⟨rfl, hT⟩ := hT
          refine x_aload_n dX11_atom_65 rfl rfl rfl ?_
          obtain ⟨hc, hT⟩ := hT
          obtain ⟨cc, hcc⟩ := hW.ocell hc
          refine c_invV (vs := []) dX11_atom_66 oX11_expression q893 q891 hcc qs14 (Or.inl rfl) rfl rfl (Nat.le_of_ble_eq_true rfl) rfl hW hF hT ?_ ?_
          · intro _ s65 f66 hT h hW hF
            obtain ⟨a67, rfl, hT⟩ := hT
            refine x_astore_n (lo' := [some (.ref x0), some (.int y1), some (.ref a67)]) dX11_atom_69 rfl (Nat.le_of_ble_eq_true rfl) rfl rfl ?_
            refine x_aload_n dX11_atom_70 rfl rfl rfl ?_
            obtain ⟨hc, ev, hT⟩ := hT
            refine c_fgetG dX11_atom_71 f_TallySlate_Reader_23 hc (by decide) (by decide) hW ev ?_
            refine x_bipush (v := 41) dX11_atom_74 rfl ?_
            obtain ⟨-, -, cc, hcc, -⟩ := hW.ob 2 (by decide)
            refine c_invV (vs := [.int 41]) dX11_atom_76 oX2_take q816 q815 hcc q817 (Or.inl rfl) rfl rfl (Nat.le_of_ble_eq_true rfl) rfl hW hF hT ?_ ?_
            · intro _ s68 f69 hT h hW hF
              obtain ⟨rfl, hT⟩ := hT
              refine x_aload_n dX11_atom_79 rfl rfl rfl ?_
              exact x_aret dX11_atom_80 rfl (by first | exact Or.inl ⟨_, rfl⟩ | exact Or.inr ⟨_, rfl⟩) rfl ⟨_, _, hW, hF, Or.inl ⟨_, rfl, hT⟩⟩
            · intro k s68 f69 hT h a hW hx hF
              exact c_out (rfl) hW hx hF hT
          · intro k s65 f66 hT h a hW hx hF
            exact c_out (rfl) hW hx hF hT
        · intro k s63 f64 hT h a hW hx hF
          exact c_out (rfl) hW hx hF hT
    · intro k s2 f3 hT h a hW hx hF
      exact c_out (rfl) hW hx hF hT
  · replace hT := hT.2 c
    obtain ⟨hr, hT⟩ := hT
    refine c_newG (k := 15) dX11_atom_19 (by decide) q911 q190 hr hW hF ?_
    intro a71 f72 ea71 ef72 h hW hF
    replace hT := hT a71 f72 ea71 ef72
    refine x_dup dX11_atom_22 rfl ?_
    refine x_aload_n dX11_atom_23 rfl rfl rfl ?_
    obtain ⟨hc, ev, hT⟩ := hT
    refine c_fgetG dX11_atom_24 f_TallySlate_Reader_23 hc (by decide) (by decide) hW ev ?_
    refine c_getI (v := (s.1 22)) dX11_atom_27 f_TallySlate_Reader_276 (by decide) (by decide) rfl hW rfl ?_
    refine c_invI (b := a71) (vs := [.int (s.1 22)]) dX11_atom_30 oX17_init rfl rfl rfl q914 (Or.inl q913) rfl rfl (Nat.le_of_ble_eq_true rfl) rfl hW hF hT ?_ ?_
    · intro _ s73 f74 hT h hW hF
      obtain ⟨rfl, hT⟩ := hT
      refine x_astore_n (lo' := [some (.ref x0), some (.int y1), some (.ref a71)]) dX11_atom_33 rfl (Nat.le_of_ble_eq_true rfl) rfl rfl ?_
      refine x_aload_n dX11_atom_34 rfl rfl rfl ?_
      obtain ⟨hc, ev, hT⟩ := hT
      refine c_fgetG dX11_atom_35 f_TallySlate_Reader_23 hc (by decide) (by decide) hW ev ?_
      obtain ⟨-, -, cc, hcc, -⟩ := hW.ob 2 (by decide)
      refine c_invV (vs := []) dX11_atom_38 oX2_next q610 q609 hcc q611 (Or.inl rfl) rfl rfl (Nat.le_of_ble_eq_true rfl) rfl hW hF hT ?_ ?_
      · intro _ s75 f76 hT h hW hF
        obtain ⟨rfl, hT⟩ := hT
        refine x_goto (tgt := 153) dX11_atom_41 rfl ?_
        refine x_aload_n dX11_atom_153 rfl rfl rfl ?_
        refine x_iload_n dX11_atom_154 rfl rfl ?_
        obtain ⟨k78, hc, hj, h30, hz, hT⟩ := hT
        refine c_fputG dX11_atom_155 f_TallySlate_Reader_326 hc hj h30 hz (Or.inl rfl) rfl rfl hW hF ?_
        intro f77 ef77 h hW hF
        replace hT := hT f77 ef77
        refine x_aload_n dX11_atom_158 rfl rfl rfl ?_
        exact x_aret dX11_atom_159 rfl (by first | exact Or.inl ⟨_, rfl⟩ | exact Or.inr ⟨_, rfl⟩) rfl ⟨_, _, hW, hF, Or.inl ⟨_, rfl, hT⟩⟩
      · intro k s75 f76 hT h a hW hx hF
        exact c_out (rfl) hW hx hF hT
    · intro k s73 f74 hT h a hW hx hF
      exact c_out (rfl) hW hx hF hT
theorem eR11_atom {l : Launch} {E : EN} {w : CO} {d : Nat} {s : CS} {f : RH} {Q : KO → CS → RH → Prop} {x0 : Nat}  (hst : l.stackTraces = false) (hT : (oc f x0 11 ∧ vl f x0 147 = .ref (w.1 2) ∧ (∀ y1 : Int32, y1 = (s.1 21) → (oc f x0 11 ∧ vl f x0 147 = .ref (w.1 2) ∧ ((¬ (s.1 20) = 2 → (oc f x0 11 ∧ vl f x0 147 = .ref (w.1 2) ∧ (EvC l E w d MX2_is [.ref (w.1 2), .int 40] s f (fun o s2 f3 => KP o (fun r => ∃ v4 : Int32, r = some (.int v4) ∧ ((v4 = 0 → (oc f3 x0 11 ∧ vl f3 x0 147 = .ref (w.1 2) ∧ (EvC l E w d MX2_is [.ref (w.1 2), .int 91] s2 f3 (fun o s5 f6 => KP o (fun r => ∃ v7 : Int32, r = some (.int v7) ∧ ((v7 = 0 → (oc f6 x0 11 ∧ vl f6 x0 147 = .ref (w.1 2) ∧ ((¬ (s5.1 20) = 1 → (rmF E f6 1 2 ∧ ∀ (a8 : Nat) (f9 : RH), a8 = f6.1 → f9 = fnew f6 20 → (oc f9 x0 11 ∧ EvC l E w d MX11_name [.ref x0] s5 f9 (fun o s10 f11 => KP o (fun r => ∃ v12 : Int32, r = some (.int v12) ∧ (EvC l E w d MX22_init [.ref a8, .int v12] s10 f11 (fun o s13 f14 => KP o (fun r => r = none ∧ (∃ k16 : Nat, oc f14 a8 k16 ∧ 165 ∈ CF k16 ∧ ¬ k16 = 30 ∧ f14.2.2.2 ≤ a8 ∧ ∀ f15 : RH, f15 = fset f14 a8 165 (.int y1) → Q (.inl (some (.ref a8))) s13 f15)) (fun k => Q (.inr k) s13 f14)))) (fun k => Q (.inr k) s10 f11))))) ∧ ((s5.1 20) = 1 → (oc f6 x0 11 ∧ EvC l E w d MX11_builtIn [.ref x0] s5 f6 (fun o s18 f19 => KP o (fun r => ∃ v20 : Int32, r = some (.int v20) ∧ ((0 ≤ v20 → (oc f19 x0 11 ∧ EvC l E w d MX11_call [.ref x0] s18 f19 (fun o s21 f22 => KP o (fun r => ∃ a23 : Nat, r = some (.ref a23) ∧ Q (.inl (some (.ref a23))) s21 f22) (fun k => Q (.inr k) s21 f22)))) ∧ (¬ 0 ≤ v20 → (oc f19 x0 11 ∧ EvC l E w d MX11_isReserved [.ref x0] s18 f19 (fun o s25 f26 => KP o (fun r => ∃ v27 : Int32, r = some (.int v27) ∧ ((¬ v27 = 0 → (rmF E f26 1 2 ∧ ∀ (a28 : Nat) (f29 : RH), a28 = f26.1 → f29 = fnew f26 20 → (oc f29 x0 11 ∧ EvC l E w d MX11_name [.ref x0] s25 f29 (fun o s30 f31 => KP o (fun r => ∃ v32 : Int32, r = some (.int v32) ∧ (EvC l E w d MX22_init [.ref a28, .int v32] s30 f31 (fun o s33 f34 => KP o (fun r => r = none ∧ (∃ k36 : Nat, oc f34 a28 k36 ∧ 165 ∈ CF k36 ∧ ¬ k36 = 30 ∧ f34.2.2.2 ≤ a28 ∧ ∀ f35 : RH, f35 = fset f34 a28 165 (.int y1) → Q (.inl (some (.ref a28))) s33 f35)) (fun k => Q (.inr k) s33 f34)))) (fun k => Q (.inr k) s30 f31))))) ∧ (v27 = 0 → (oc f26 x0 11 ∧ vl f26 x0 147 = .ref (w.1 2) ∧ (EvC l E w d MX2_isCalled [.ref (w.1 2)] s25 f26 (fun o s38 f39 => KP o (fun r => ∃ v40 : Int32, r = some (.int v40) ∧ ((v40 = 0 → (rmF E f39 1 2 ∧ ∀ (a41 : Nat) (f42 : RH), a41 = f39.1 → f42 = fnew f39 20 → (oc f42 x0 11 ∧ EvC l E w d MX11_name [.ref x0] s38 f42 (fun o s43 f44 => KP o (fun r => ∃ v45 : Int32, r = some (.int v45) ∧ (EvC l E w d MX22_init [.ref a41, .int v45] s43 f44 (fun o s46 f47 => KP o (fun r => r = none ∧ (∃ k49 : Nat, oc f47 a41 k49 ∧ 165 ∈ CF k49 ∧ ¬ k49 = 30 ∧ f47.2.2.2 ≤ a41 ∧ ∀ f48 : RH, f48 = fset f47 a41 165 (.int y1) → Q (.inl (some (.ref a41))) s46 f48)) (fun k => Q (.inr k) s46 f47)))) (fun k => Q (.inr k) s43 f44))))) ∧ (¬ v40 = 0 → (oc f39 x0 11 ∧ EvC l E w d MX11_call [.ref x0] s38 f39 (fun o s51 f52 => KP o (fun r => ∃ a53 : Nat, r = some (.ref a53) ∧ Q (.inl (some (.ref a53))) s51 f52) (fun k => Q (.inr k) s51 f52)))))) (fun k => Q (.inr k) s38 f39))))))) (fun k => Q (.inr k) s25 f26)))))) (fun k => Q (.inr k) s18 f19))))))) ∧ (¬ v7 = 0 → (oc f6 x0 11 ∧ EvC l E w d MX11_literal [.ref x0] s5 f6 (fun o s57 f58 => KP o (fun r => ∃ a59 : Nat, r = some (.ref a59) ∧ (∃ k61 : Nat, oc f58 a59 k61 ∧ 165 ∈ CF k61 ∧ ¬ k61 = 30 ∧ f58.2.2.2 ≤ a59 ∧ ∀ f60 : RH, f60 = fset f58 a59 165 (.int y1) → Q (.inl (some (.ref a59))) s57 f60)) (fun k => Q (.inr k) s57 f58)))))) (fun k => Q (.inr k) s5 f6))))) ∧ (¬ v4 = 0 → (oc f3 x0 11 ∧ vl f3 x0 147 = .ref (w.1 2) ∧ (EvC l E w d MX2_take [.ref (w.1 2), .int 40] s2 f3 (fun o s63 f64 => KP o (fun r => r = none ∧ (oc f64 x0 11 ∧ EvC l E w d MX11_expression [.ref x0] s63 f64 (fun o s65 f66 => KP o (fun r => ∃ a67 : Nat, r = some (.ref a67) ∧ (oc f66 x0 11 ∧ vl f66 x0 147 = .ref (w.1 2) ∧ (EvC l E w d MX2_take [.ref (w.1 2), .int 41] s65 f66 (fun o s68 f69 => KP o (fun r => r = none ∧ Q (.inl (some (.ref a67))) s68 f69) (fun k => Q (.inr k) s68 f69))))) (fun k => Q (.inr k) s65 f66)))) (fun k => Q (.inr k) s63 f64))))))) (fun k => Q (.inr k) s2 f3))))) ∧ ((s.1 20) = 2 → (rmF E f 1 2 ∧ ∀ (a71 : Nat) (f72 : RH), a71 = f.1 → f72 = fnew f 15 → (oc f72 x0 11 ∧ vl f72 x0 147 = .ref (w.1 2) ∧ (EvC l E w d MX17_init [.ref a71, .int (s.1 22)] s f72 (fun o s73 f74 => KP o (fun r => r = none ∧ (oc f74 x0 11 ∧ vl f74 x0 147 = .ref (w.1 2) ∧ (EvC l E w d MX2_next [.ref (w.1 2)] s73 f74 (fun o s75 f76 => KP o (fun r => r = none ∧ (∃ k78 : Nat, oc f76 a71 k78 ∧ 165 ∈ CF k78 ∧ ¬ k78 = 30 ∧ f76.2.2.2 ≤ a71 ∧ ∀ f77 : RH, f77 = fset f76 a71 165 (.int y1) → Q (.inl (some (.ref a71))) s75 f77)) (fun k => Q (.inr k) s75 f76))))) (fun k => Q (.inr k) s73 f74))))))))))) : EvC l E w (d + 1) MX11_atom [.ref x0] s f Q :=
  EvC.of hst (by decide) (Nat.le_of_ble_eq_true rfl) (vR11_atom_0  hT)
theorem vR11_literal_0 {l : Launch} {E : EN} {w : CO} {d : Nat} {s : CS} {f : RH} {Q : KO → CS → RH → Prop} {x0 : Nat}  (hT : (rmF E f 1 2 ∧ ∀ (a1 : Nat) (f2 : RH), a1 = f.1 → f2 = fnew f 16 → (EvC l E w d MX18_init [.ref a1] s f2 (fun o s3 f4 => KP o (fun r => r = none ∧ (oc f4 x0 11 ∧ vl f4 x0 147 = .ref (w.1 2) ∧ (EvC l E w d MX2_take [.ref (w.1 2), .int 91] s3 f4 (fun o s5 f6 => KP o (fun r => r = none ∧ (oc f6 x0 11 ∧ vl f6 x0 147 = .ref (w.1 2) ∧ (EvC l E w d MX2_is [.ref (w.1 2), .int 93] s5 f6 (fun o s7 f8 => KP o (fun r => ∃ v9 : Int32, r = some (.int v9) ∧ ((¬ v9 = 0 → ExC l E w (d + 1) MX11_literal 35 [some (.ref x0), some (.ref a1), some (.int 0)] [] s7 f8 Q) ∧ (v9 = 0 → ExC l E w (d + 1) MX11_literal 35 [some (.ref x0), some (.ref a1), some (.int 1)] [] s7 f8 Q))) (fun k => Q (.inr k) s7 f8))))) (fun k => Q (.inr k) s5 f6))))) (fun k => Q (.inr k) s3 f4))))) : ExC l E w (d + 1) MX11_literal 0 [some (.ref x0), none, none] [] s f Q := by
  intro f0 h hW hF
  obtain ⟨hr, hT⟩ := hT
  refine c_newG (k := 16) dX11_literal_0 (by decide) q944 q191 hr hW hF ?_
  intro a1 f2 ea1 ef2 h hW hF
  replace hT := hT a1 f2 ea1 ef2
  refine x_dup dX11_literal_3 rfl ?_
  refine c_invI (b := a1) (vs := []) dX11_literal_4 oX18_init rfl rfl rfl q947 (Or.inr ⟨_, q946⟩) rfl rfl (Nat.le_of_ble_eq_true rfl) rfl hW hF hT ?_ ?_
  · intro _ s3 f4 hT h hW hF
    obtain ⟨rfl, hT⟩ := hT
    refine x_astore_n (lo' := [some (.ref x0), some (.ref a1), none]) dX11_literal_7 rfl (Nat.le_of_ble_eq_true rfl) rfl rfl ?_
    refine x_aload_n dX11_literal_8 rfl rfl rfl ?_
    obtain ⟨hc, ev, hT⟩ := hT
    refine c_fgetG dX11_literal_9 f_TallySlate_Reader_23 hc (by decide) (by decide) hW ev ?_
    refine x_bipush (v := 91) dX11_literal_12 rfl ?_
    obtain ⟨-, -, cc, hcc, -⟩ := hW.ob 2 (by decide)
    refine c_invV (vs := [.int 91]) dX11_literal_14 oX2_take q816 q815 hcc q817 (Or.inl rfl) rfl rfl (Nat.le_of_ble_eq_true rfl) rfl hW hF hT ?_ ?_
    · intro _ s5 f6 hT h hW hF
      obtain ⟨rfl, hT⟩ := hT
      refine x_aload_n dX11_literal_17 rfl rfl rfl ?_
      obtain ⟨hc, ev, hT⟩ := hT
      refine c_fgetG dX11_literal_18 f_TallySlate_Reader_23 hc (by decide) (by decide) hW ev ?_
      refine x_bipush (v := 93) dX11_literal_21 rfl ?_
      obtain ⟨-, -, cc, hcc, -⟩ := hW.ob 2 (by decide)
      refine c_invV (vs := [.int 93]) dX11_literal_23 oX2_is q820 q824 hcc q821 (Or.inl rfl) rfl rfl (Nat.le_of_ble_eq_true rfl) rfl hW hF hT ?_ ?_
      · intro _ s7 f8 hT h hW hF
        obtain ⟨v9, rfl, hT⟩ := hT
        refine x_if_ne (tgt := 33) dX11_literal_26 rfl (fun c => ?_) (fun c => ?_)
        · replace hT := hT.1 c
          refine x_iconst (v := 0) dX11_literal_33 rfl ?_
          refine x_istore_n (lo' := [some (.ref x0), some (.ref a1), some (.int 0)]) dX11_literal_34 rfl (Nat.le_of_ble_eq_true rfl) rfl ?_
          exact hT f0 h hW hF
        · replace hT := hT.2 c
          refine x_iconst (v := 1) dX11_literal_29 rfl ?_
          refine x_goto (tgt := 34) dX11_literal_30 rfl ?_
          refine x_istore_n (lo' := [some (.ref x0), some (.ref a1), some (.int 1)]) dX11_literal_34 rfl (Nat.le_of_ble_eq_true rfl) rfl ?_
          exact hT f0 h hW hF
      · intro k s7 f8 hT h a hW hx hF
        exact c_out (rfl) hW hx hF hT
    · intro k s5 f6 hT h a hW hx hF
      exact c_out (rfl) hW hx hF hT
  · intro k s3 f4 hT h a hW hx hF
    exact c_out (rfl) hW hx hF hT
theorem eR11_literal {l : Launch} {E : EN} {w : CO} {d : Nat} {s : CS} {f : RH} {Q : KO → CS → RH → Prop} {x0 : Nat}  (hst : l.stackTraces = false) (hT : (rmF E f 1 2 ∧ ∀ (a1 : Nat) (f2 : RH), a1 = f.1 → f2 = fnew f 16 → (EvC l E w d MX18_init [.ref a1] s f2 (fun o s3 f4 => KP o (fun r => r = none ∧ (oc f4 x0 11 ∧ vl f4 x0 147 = .ref (w.1 2) ∧ (EvC l E w d MX2_take [.ref (w.1 2), .int 91] s3 f4 (fun o s5 f6 => KP o (fun r => r = none ∧ (oc f6 x0 11 ∧ vl f6 x0 147 = .ref (w.1 2) ∧ (EvC l E w d MX2_is [.ref (w.1 2), .int 93] s5 f6 (fun o s7 f8 => KP o (fun r => ∃ v9 : Int32, r = some (.int v9) ∧ ((¬ v9 = 0 → ExC l E w (d + 1) MX11_literal 35 [some (.ref x0), some (.ref a1), some (.int 0)] [] s7 f8 Q) ∧ (v9 = 0 → ExC l E w (d + 1) MX11_literal 35 [some (.ref x0), some (.ref a1), some (.int 1)] [] s7 f8 Q))) (fun k => Q (.inr k) s7 f8))))) (fun k => Q (.inr k) s5 f6))))) (fun k => Q (.inr k) s3 f4))))) : EvC l E w (d + 1) MX11_literal [.ref x0] s f Q :=
  EvC.of hst (by decide) (Nat.le_of_ble_eq_true rfl) (vR11_literal_0  hT)
set_option maxHeartbeats 16000000 in
theorem vR11_literal_35 {l : Launch} {E : EN} {w : CO} {d : Nat} {s : CS} {f : RH} {Q : KO → CS → RH → Prop} {b0 : Nat} {b1 : Nat} {b2 : Int32}  (hT : ((b2 = 0 → (oc f b0 11 ∧ vl f b0 147 = .ref (w.1 2) ∧ (EvC l E w d MX2_take [.ref (w.1 2), .int 93] s f (fun o s10 f11 => KP o (fun r => r = none ∧ Q (.inl (some (.ref b1))) s10 f11) (fun k => Q (.inr k) s10 f11))))) ∧ (¬ b2 = 0 → (oc f b1 16 ∧ (∃ a12 : Nat, vl f b1 167 = .ref a12 ∧ (oc f b0 11 ∧ EvC l E w d MX11_expression [.ref b0] s f (fun o s13 f14 => KP o (fun r => ∃ a15 : Nat, r = some (.ref a15) ∧ (oc f14 a12 17 ∧ EvC l E w d MX19_add [.ref a12, .ref a15, .int 0, .int 0] s13 f14 (fun o s16 f17 => KP o (fun r => r = none ∧ (oc f17 b0 11 ∧ vl f17 b0 147 = .ref (w.1 2) ∧ (EvC l E w d MX2_is [.ref (w.1 2), .int 44] s16 f17 (fun o s18 f19 => KP o (fun r => ∃ v20 : Int32, r = some (.int v20) ∧ ((v20 = 0 → ExC l E w (d + 1) MX11_literal 35 [some (.ref b0), some (.ref b1), some (.int v20)] [] s18 f19 Q) ∧ (¬ v20 = 0 → (oc f19 b0 11 ∧ vl f19 b0 147 = .ref (w.1 2) ∧ (EvC l E w d MX2_next [.ref (w.1 2)] s18 f19 (fun o s21 f22 => KP o (fun r => r = none ∧ ExC l E w (d + 1) MX11_literal 35 [some (.ref b0), some (.ref b1), some (.int v20)] [] s21 f22 Q) (fun k => Q (.inr k) s21 f22))))))) (fun k => Q (.inr k) s18 f19))))) (fun k => Q (.inr k) s16 f17)))) (fun k => Q (.inr k) s13 f14)))))))) : ExC l E w (d + 1) MX11_literal 35 [some (.ref b0), some (.ref b1), some (.int b2)] [] s f Q := by
  intro f0 h hW hF
  refine x_iload_n dX11_literal_35 rfl rfl ?_
  refine x_if_eq (tgt := 76) dX11_literal_36 rfl (fun c => ?_) (fun c => ?_)
  · replace hT := hT.1 c
    refine x_aload_n dX11_literal_76 rfl rfl rfl ?_
    obtain ⟨hc, ev, hT⟩ := hT
    refine c_fgetG dX11_literal_77 f_TallySlate_Reader_23 hc (by decide) (by decide) hW ev ?_
    refine x_bipush (v := 93) dX11_literal_80 rfl ?_
    obtain ⟨-, -, cc, hcc, -⟩ := hW.ob 2 (by decide)
    refine c_invV (vs := [.int 93]) dX11_literal_82 oX2_take q816 q815 hcc q817 (Or.inl rfl) rfl rfl (Nat.le_of_ble_eq_true rfl) rfl hW hF hT ?_ ?_
    · intro _ s10 f11 hT h hW hF
      obtain ⟨rfl, hT⟩ := hT
      refine x_aload_n dX11_literal_85 rfl rfl rfl ?_
      exact x_aret dX11_literal_86 rfl (by first | exact Or.inl ⟨_, rfl⟩ | exact Or.inr ⟨_, rfl⟩) rfl ⟨_, _, hW, hF, Or.inl ⟨_, rfl, hT⟩⟩
    · intro k s10 f11 hT h a hW hx hF
      exact c_out (rfl) hW hx hF hT
  · replace hT := hT.2 c
    refine x_aload_n dX11_literal_39 rfl rfl rfl ?_
    obtain ⟨hc, hT⟩ := hT
    obtain ⟨a12, ev, hT⟩ := hT
    refine c_fgetG dX11_literal_40 f_TallySlate_Reader_332 hc (by decide) (by decide) hW ev ?_
    refine x_aload_n dX11_literal_43 rfl rfl rfl ?_
    obtain ⟨hc, hT⟩ := hT
    obtain ⟨cc, hcc⟩ := hW.ocell hc
    refine c_invV (vs := []) dX11_literal_44 oX11_expression q893 q891 hcc qs14 (Or.inl rfl) rfl rfl (Nat.le_of_ble_eq_true rfl) rfl hW hF hT ?_ ?_
    · intro _ s13 f14 hT h hW hF
      obtain ⟨a15, rfl, hT⟩ := hT
      refine x_iconst (v := 0) dX11_literal_47 rfl ?_
      refine x_iconst (v := 0) dX11_literal_48 rfl ?_
      obtain ⟨hc, hT⟩ := hT
      obtain ⟨cc, hcc⟩ := hW.ocell hc
      refine c_invV (vs := [.ref a15, .int 0, .int 0]) dX11_literal_49 oX19_add q992 q991 hcc q993 (Or.inl rfl) rfl rfl (Nat.le_of_ble_eq_true rfl) rfl hW hF hT ?_ ?_
      · intro _ s16 f17 hT h hW hF
        obtain ⟨rfl, hT⟩ := hT
        refine x_aload_n dX11_literal_52 rfl rfl rfl ?_
        obtain ⟨hc, ev, hT⟩ := hT
        refine c_fgetG dX11_literal_53 f_TallySlate_Reader_23 hc (by decide) (by decide) hW ev ?_
        refine x_bipush (v := 44) dX11_literal_56 rfl ?_
        obtain ⟨-, -, cc, hcc, -⟩ := hW.ob 2 (by decide)
        refine c_invV (vs := [.int 44]) dX11_literal_58 oX2_is q820 q824 hcc q821 (Or.inl rfl) rfl rfl (Nat.le_of_ble_eq_true rfl) rfl hW hF hT ?_ ?_
        · intro _ s18 f19 hT h hW hF
          obtain ⟨v20, rfl, hT⟩ := hT
          refine x_istore_n (lo' := [some (.ref b0), some (.ref b1), some (.int v20)]) dX11_literal_61 rfl (Nat.le_of_ble_eq_true rfl) rfl ?_
          refine x_iload_n dX11_literal_62 rfl rfl ?_
          refine x_if_eq (tgt := 35) dX11_literal_63 rfl (fun c => ?_) (fun c => ?_)
          · replace hT := hT.1 c
            exact hT f0 h hW hF
          · replace hT := hT.2 c
            refine x_aload_n dX11_literal_66 rfl rfl rfl ?_
            obtain ⟨hc, ev, hT⟩ := hT
            refine c_fgetG dX11_literal_67 f_TallySlate_Reader_23 hc (by decide) (by decide) hW ev ?_
            obtain ⟨-, -, cc, hcc, -⟩ := hW.ob 2 (by decide)
            refine c_invV (vs := []) dX11_literal_70 oX2_next q610 q609 hcc q611 (Or.inl rfl) rfl rfl (Nat.le_of_ble_eq_true rfl) rfl hW hF hT ?_ ?_
            · intro _ s21 f22 hT h hW hF
              obtain ⟨rfl, hT⟩ := hT
              refine x_goto (tgt := 35) dX11_literal_73 rfl ?_
              exact hT f0 h hW hF
            · intro k s21 f22 hT h a hW hx hF
              exact c_out (rfl) hW hx hF hT
        · intro k s18 f19 hT h a hW hx hF
          exact c_out (rfl) hW hx hF hT
      · intro k s16 f17 hT h a hW hx hF
        exact c_out (rfl) hW hx hF hT
    · intro k s13 f14 hT h a hW hx hF
      exact c_out (rfl) hW hx hF hT
set_option maxHeartbeats 16000000 in
theorem vR11_call_0 {l : Launch} {E : EN} {w : CO} {d : Nat} {s : CS} {f : RH} {Q : KO → CS → RH → Prop} {x0 : Nat}  (hT : (oc f x0 11 ∧ vl f x0 147 = .ref (w.1 2) ∧ (∀ y1 : Int32, y1 = (s.1 21) → (oc f x0 11 ∧ EvC l E w d MX11_builtIn [.ref x0] s f (fun o s2 f3 => KP o (fun r => ∃ v4 : Int32, r = some (.int v4) ∧ ((v4 < 0 → (rmF E f3 1 7 ∧ ∀ (a5 : Nat) (f6 : RH), a5 = f3.1 → f6 = fnew f3 19 → ((0 ≤ v4 → (EvC l E w d MX21_init [.ref a5, .int v4] s2 f6 (fun o s7 f8 => KP o (fun r => r = none ∧ (∃ k10 : Nat, oc f8 a5 k10 ∧ 165 ∈ CF k10 ∧ ¬ k10 = 30 ∧ f8.2.2.2 ≤ a5 ∧ ∀ f9 : RH, f9 = fset f8 a5 165 (.int y1) → ((0 ≤ v4 → ExC l E w (d + 1) MX11_call 61 [some (.ref x0), none, some (.int v4), some (.ref a5), none] [] s7 f9 Q) ∧ (¬ 0 ≤ v4 → (oc f9 x0 11 ∧ EvC l E w d MX11_remember [.ref x0, .ref a5] s7 f9 (fun o s11 f12 => KP o (fun r => r = none ∧ ExC l E w (d + 1) MX11_call 61 [some (.ref x0), none, some (.int v4), some (.ref a5), none] [] s11 f12 Q) (fun k => Q (.inr k) s11 f12))))))) (fun k => Q (.inr k) s7 f8)))) ∧ (¬ 0 ≤ v4 → (EvC l E w d MX21_init [.ref a5, .int 0] s2 f6 (fun o s14 f15 => KP o (fun r => r = none ∧ (∃ k17 : Nat, oc f15 a5 k17 ∧ 165 ∈ CF k17 ∧ ¬ k17 = 30 ∧ f15.2.2.2 ≤ a5 ∧ ∀ f16 : RH, f16 = fset f15 a5 165 (.int y1) → ((0 ≤ v4 → ExC l E w (d + 1) MX11_call 61 [some (.ref x0), none, some (.int v4), some (.ref a5), none] [] s14 f16 Q) ∧ (¬ 0 ≤ v4 → (oc f16 x0 11 ∧ EvC l E w d MX11_remember [.ref x0, .ref a5] s14 f16 (fun o s18 f19 => KP o (fun r => r = none ∧ ExC l E w (d + 1) MX11_call 61 [some (.ref x0), none, some (.int v4), some (.ref a5), none] [] s18 f19 Q) (fun k => Q (.inr k) s18 f19))))))) (fun k => Q (.inr k) s14 f15))))))) ∧ (¬ v4 < 0 → ((28 ≤ v4 → (rmF E f3 1 7 ∧ ∀ (a21 : Nat) (f22 : RH), a21 = f3.1 → f22 = fnew f3 19 → ((0 ≤ v4 → (EvC l E w d MX21_init [.ref a21, .int v4] s2 f22 (fun o s23 f24 => KP o (fun r => r = none ∧ (∃ k26 : Nat, oc f24 a21 k26 ∧ 165 ∈ CF k26 ∧ ¬ k26 = 30 ∧ f24.2.2.2 ≤ a21 ∧ ∀ f25 : RH, f25 = fset f24 a21 165 (.int y1) → ((0 ≤ v4 → ExC l E w (d + 1) MX11_call 61 [some (.ref x0), none, some (.int v4), some (.ref a21), none] [] s23 f25 Q) ∧ (¬ 0 ≤ v4 → (oc f25 x0 11 ∧ EvC l E w d MX11_remember [.ref x0, .ref a21] s23 f25 (fun o s27 f28 => KP o (fun r => r = none ∧ ExC l E w (d + 1) MX11_call 61 [some (.ref x0), none, some (.int v4), some (.ref a21), none] [] s27 f28 Q) (fun k => Q (.inr k) s27 f28))))))) (fun k => Q (.inr k) s23 f24)))) ∧ (¬ 0 ≤ v4 → (EvC l E w d MX21_init [.ref a21, .int 0] s2 f22 (fun o s30 f31 => KP o (fun r => r = none ∧ (∃ k33 : Nat, oc f31 a21 k33 ∧ 165 ∈ CF k33 ∧ ¬ k33 = 30 ∧ f31.2.2.2 ≤ a21 ∧ ∀ f32 : RH, f32 = fset f31 a21 165 (.int y1) → ((0 ≤ v4 → ExC l E w (d + 1) MX11_call 61 [some (.ref x0), none, some (.int v4), some (.ref a21), none] [] s30 f32 Q) ∧ (¬ 0 ≤ v4 → (oc f32 x0 11 ∧ EvC l E w d MX11_remember [.ref x0, .ref a21] s30 f32 (fun o s34 f35 => KP o (fun r => r = none ∧ ExC l E w (d + 1) MX11_call 61 [some (.ref x0), none, some (.int v4), some (.ref a21), none] [] s34 f35 Q) (fun k => Q (.inr k) s34 f35))))))) (fun k => Q (.inr k) s30 f31))))))) ∧ (¬ 28 ≤ v4 → (oc f3 x0 11 ∧ EvC l E w d MX11_builtIn_2 [.ref x0, .int v4, .int y1] s2 f3 (fun o s37 f38 => KP o (fun r => ∃ a39 : Nat, r = some (.ref a39) ∧ Q (.inl (some (.ref a39))) s37 f38) (fun k => Q (.inr k) s37 f38)))))))) (fun k => Q (.inr k) s2 f3)))))) : ExC l E w (d + 1) MX11_call 0 [some (.ref x0), none, none, none, none] [] s f Q := by
  intro f0 h hW hF
  refine x_aload_n dX11_call_0 rfl rfl rfl ?_
  obtain ⟨hc, ev, hT⟩ := hT
  refine c_fgetG dX11_call_1 f_TallySlate_Reader_23 hc (by decide) (by decide) hW ev ?_
  refine c_getI (v := (s.1 21)) dX11_call_4 f_TallySlate_Reader_45 (by decide) (by decide) rfl hW rfl ?_
  obtain ⟨y1, ey1⟩ : ∃ z : Int32, z = (s.1 21) := ⟨_, rfl⟩
  replace hT := hT y1 ey1
  refine x_istore_n (lo' := [some (.ref x0), some (.int y1), none, none, none]) dX11_call_7 rfl (Nat.le_of_ble_eq_true rfl) (by rw [ey1]; exact rfl) ?_
  refine x_aload_n dX11_call_8 rfl rfl rfl ?_
  obtain ⟨hc, hT⟩ := hT
  obtain ⟨cc, hcc⟩ := hW.ocell hc
  refine c_invV (vs := []) dX11_call_9 oX11_builtIn q768 q766 hcc qs9 (Or.inl rfl) rfl rfl (Nat.le_of_ble_eq_true rfl) rfl hW hF hT ?_ ?_
  · intro _ s2 f3 hT h hW hF
    obtain ⟨v4, rfl, hT⟩ := hT
    refine x_istore_n (lo' := [some (.ref x0), some (.int y1), some (.int v4), none, none]) dX11_call_12 rfl (Nat.le_of_ble_eq_true rfl) rfl ?_
    refine x_iload_n dX11_call_13 rfl rfl ?_
    refine x_if_lt (tgt := 30) dX11_call_14 rfl (fun c => ?_) (fun c => ?_)
    · replace hT := hT.1 c
      obtain ⟨hr, hT⟩ := hT
      refine c_newG (k := 19) dX11_call_30 (by decide) q582 q194 hr hW hF ?_
      intro a5 f6 ea5 ef6 h hW hF
      replace hT := hT a5 f6 ea5 ef6
      refine x_dup dX11_call_33 rfl ?_
      refine x_iload_n dX11_call_34 rfl rfl ?_
      refine x_if_ge (tgt := 42) dX11_call_35 rfl (fun c => ?_) (fun c => ?_)
      · replace hT := hT.1 c
        refine x_iload_n dX11_call_42 rfl rfl ?_
        refine c_invI (b := a5) (vs := [.int v4]) dX11_call_43 oX21_init rfl rfl rfl q1036 (Or.inl q1035) rfl rfl (Nat.le_of_ble_eq_true rfl) rfl hW hF hT ?_ ?_
        · intro _ s7 f8 hT h hW hF
          obtain ⟨rfl, hT⟩ := hT
          refine x_astore_n (lo' := [some (.ref x0), some (.int y1), some (.int v4), some (.ref a5), none]) dX11_call_46 rfl (Nat.le_of_ble_eq_true rfl) rfl rfl ?_
          refine x_aload_n dX11_call_47 rfl rfl rfl ?_
          refine x_iload_n dX11_call_48 rfl rfl ?_
          obtain ⟨k10, hc, hj, h30, hz, hT⟩ := hT
          refine c_fputG dX11_call_49 f_TallySlate_Reader_337 hc hj h30 hz (Or.inl rfl) rfl rfl hW hF ?_
          intro f9 ef9 h hW hF
          replace hT := hT f9 ef9
          refine x_iload_n dX11_call_52 rfl rfl ?_
          refine x_if_ge (tgt := 61) dX11_call_53 rfl (fun c => ?_) (fun c => ?_)
          · replace hT := hT.1 c
            refine Ex.wkl (lo' := [some (.ref x0), none, some (.int v4), some (.ref a5), none]) ⟨rfl, rfl, rfl, trivial⟩ ?_
            exact hT f0 h hW hF
          · replace hT := hT.2 c
            refine x_aload_n dX11_call_56 rfl rfl rfl ?_
            refine x_aload_n dX11_call_57 rfl rfl rfl ?_
            obtain ⟨hc, hT⟩ := hT
            obtain ⟨cc, hcc⟩ := hW.ocell hc
            refine c_invV (vs := [.ref a5]) dX11_call_58 oX11_remember q1065 q1063 hcc qs24 (Or.inl rfl) rfl rfl (Nat.le_of_ble_eq_true rfl) rfl hW hF hT ?_ ?_
            · intro _ s11 f12 hT h hW hF
              obtain ⟨rfl, hT⟩ := hT
              refine Ex.wkl (lo' := [some (.ref x0), none, some (.int v4), some (.ref a5), none]) ⟨rfl, rfl, rfl, trivial⟩ ?_
              exact hT f0 h hW hF
            · intro k s11 f12 hT h a hW hx hF
              exact c_out (rfl) hW hx hF hT
        · intro k s7 f8 hT h a hW hx hF
          exact c_out (rfl) hW hx hF hT
      · replace hT := hT.2 c
        refine x_iconst (v := 0) dX11_call_38 rfl ?_
        refine x_goto (tgt := 43) dX11_call_39 rfl ?_
        refine c_invI (b := a5) (vs := [.int 0]) dX11_call_43 oX21_init rfl rfl rfl q1036 (Or.inl q1035) rfl rfl (Nat.le_of_ble_eq_true rfl) rfl hW hF hT ?_ ?_
        · intro _ s14 f15 hT h hW hF
          obtain ⟨rfl, hT⟩ := hT
          refine x_astore_n (lo' := [some (.ref x0), some (.int y1), some (.int v4), some (.ref a5), none]) dX11_call_46 rfl (Nat.le_of_ble_eq_true rfl) rfl rfl ?_
          refine x_aload_n dX11_call_47 rfl rfl rfl ?_
          refine x_iload_n dX11_call_48 rfl rfl ?_
          obtain ⟨k17, hc, hj, h30, hz, hT⟩ := hT
          refine c_fputG dX11_call_49 f_TallySlate_Reader_337 hc hj h30 hz (Or.inl rfl) rfl rfl hW hF ?_
          intro f16 ef16 h hW hF
          replace hT := hT f16 ef16
          refine x_iload_n dX11_call_52 rfl rfl ?_
          refine x_if_ge (tgt := 61) dX11_call_53 rfl (fun c => ?_) (fun c => ?_)
          · replace hT := hT.1 c
            refine Ex.wkl (lo' := [some (.ref x0), none, some (.int v4), some (.ref a5), none]) ⟨rfl, rfl, rfl, trivial⟩ ?_
            exact hT f0 h hW hF
          · replace hT := hT.2 c
            refine x_aload_n dX11_call_56 rfl rfl rfl ?_
            refine x_aload_n dX11_call_57 rfl rfl rfl ?_
            obtain ⟨hc, hT⟩ := hT
            obtain ⟨cc, hcc⟩ := hW.ocell hc
            refine c_invV (vs := [.ref a5]) dX11_call_58 oX11_remember q1065 q1063 hcc qs24 (Or.inl rfl) rfl rfl (Nat.le_of_ble_eq_true rfl) rfl hW hF hT ?_ ?_
            · intro _ s18 f19 hT h hW hF
              obtain ⟨rfl, hT⟩ := hT
              refine Ex.wkl (lo' := [some (.ref x0), none, some (.int v4), some (.ref a5), none]) ⟨rfl, rfl, rfl, trivial⟩ ?_
              exact hT f0 h hW hF
            · intro k s18 f19 hT h a hW hx hF
              exact c_out (rfl) hW hx hF hT
        · intro k s14 f15 hT h a hW hx hF
          exact c_out (rfl) hW hx hF hT
    · replace hT := hT.2 c
      refine x_iload_n dX11_call_17 rfl rfl ?_
      refine x_bipush (v := 28) dX11_call_18 rfl ?_
      refine x_icmp_ge (tgt := 30) dX11_call_20 rfl (fun c => ?_) (fun c => ?_)
      · replace hT := hT.1 c
        obtain ⟨hr, hT⟩ := hT
        refine c_newG (k := 19) dX11_call_30 (by decide) q582 q194 hr hW hF ?_
        intro a21 f22 ea21 ef22 h hW hF
        replace hT := hT a21 f22 ea21 ef22
        refine x_dup dX11_call_33 rfl ?_
        refine x_iload_n dX11_call_34 rfl rfl ?_
        refine x_if_ge (tgt := 42) dX11_call_35 rfl (fun c => ?_) (fun c => ?_)
        · replace hT := hT.1 c
          refine x_iload_n dX11_call_42 rfl rfl ?_
          refine c_invI (b := a21) (vs := [.int v4]) dX11_call_43 oX21_init rfl rfl rfl q1036 (Or.inl q1035) rfl rfl (Nat.le_of_ble_eq_true rfl) rfl hW hF hT ?_ ?_
          · intro _ s23 f24 hT h hW hF
            obtain ⟨rfl, hT⟩ := hT
            refine x_astore_n (lo' := [some (.ref x0), some (.int y1), some (.int v4), some (.ref a21), none]) dX11_call_46 rfl (Nat.le_of_ble_eq_true rfl) rfl rfl ?_
            refine x_aload_n dX11_call_47 rfl rfl rfl ?_
            refine x_iload_n dX11_call_48 rfl rfl ?_
            obtain ⟨k26, hc, hj, h30, hz, hT⟩ := hT
            refine c_fputG dX11_call_49 f_TallySlate_Reader_337 hc hj h30 hz (Or.inl rfl) rfl rfl hW hF ?_
            intro f25 ef25 h hW hF
            replace hT := hT f25 ef25
            refine x_iload_n dX11_call_52 rfl rfl ?_
            refine x_if_ge (tgt := 61) dX11_call_53 rfl (fun c => ?_) (fun c => ?_)
            · replace hT := hT.1 c
              refine Ex.wkl (lo' := [some (.ref x0), none, some (.int v4), some (.ref a21), none]) ⟨rfl, rfl, rfl, trivial⟩ ?_
              exact hT f0 h hW hF
            · replace hT := hT.2 c
              refine x_aload_n dX11_call_56 rfl rfl rfl ?_
              refine x_aload_n dX11_call_57 rfl rfl rfl ?_
              obtain ⟨hc, hT⟩ := hT
              obtain ⟨cc, hcc⟩ := hW.ocell hc
              refine c_invV (vs := [.ref a21]) dX11_call_58 oX11_remember q1065 q1063 hcc qs24 (Or.inl rfl) rfl rfl (Nat.le_of_ble_eq_true rfl) rfl hW hF hT ?_ ?_
              · intro _ s27 f28 hT h hW hF
                obtain ⟨rfl, hT⟩ := hT
                refine Ex.wkl (lo' := [some (.ref x0), none, some (.int v4), some (.ref a21), none]) ⟨rfl, rfl, rfl, trivial⟩ ?_
                exact hT f0 h hW hF
              · intro k s27 f28 hT h a hW hx hF
                exact c_out (rfl) hW hx hF hT
          · intro k s23 f24 hT h a hW hx hF
            exact c_out (rfl) hW hx hF hT
        · replace hT := hT.2 c
          refine x_iconst (v := 0) dX11_call_38 rfl ?_
          refine x_goto (tgt := 43) dX11_call_39 rfl ?_
          refine c_invI (b := a21) (vs := [.int 0]) dX11_call_43 oX21_init rfl rfl rfl q1036 (Or.inl q1035) rfl rfl (Nat.le_of_ble_eq_true rfl) rfl hW hF hT ?_ ?_
          · intro _ s30 f31 hT h hW hF
            obtain ⟨rfl, hT⟩ := hT
            refine x_astore_n (lo' := [some (.ref x0), some (.int y1), some (.int v4), some (.ref a21), none]) dX11_call_46 rfl (Nat.le_of_ble_eq_true rfl) rfl rfl ?_
            refine x_aload_n dX11_call_47 rfl rfl rfl ?_
            refine x_iload_n dX11_call_48 rfl rfl ?_
            obtain ⟨k33, hc, hj, h30, hz, hT⟩ := hT
            refine c_fputG dX11_call_49 f_TallySlate_Reader_337 hc hj h30 hz (Or.inl rfl) rfl rfl hW hF ?_
            intro f32 ef32 h hW hF
            replace hT := hT f32 ef32
            refine x_iload_n dX11_call_52 rfl rfl ?_
            refine x_if_ge (tgt := 61) dX11_call_53 rfl (fun c => ?_) (fun c => ?_)
            · replace hT := hT.1 c
              refine Ex.wkl (lo' := [some (.ref x0), none, some (.int v4), some (.ref a21), none]) ⟨rfl, rfl, rfl, trivial⟩ ?_
              exact hT f0 h hW hF
            · replace hT := hT.2 c
              refine x_aload_n dX11_call_56 rfl rfl rfl ?_
              refine x_aload_n dX11_call_57 rfl rfl rfl ?_
              obtain ⟨hc, hT⟩ := hT
              obtain ⟨cc, hcc⟩ := hW.ocell hc
              refine c_invV (vs := [.ref a21]) dX11_call_58 oX11_remember q1065 q1063 hcc qs24 (Or.inl rfl) rfl rfl (Nat.le_of_ble_eq_true rfl) rfl hW hF hT ?_ ?_
              · intro _ s34 f35 hT h hW hF
                obtain ⟨rfl, hT⟩ := hT
                refine Ex.wkl (lo' := [some (.ref x0), none, some (.int v4), some (.ref a21), none]) ⟨rfl, rfl, rfl, trivial⟩ ?_
                exact hT f0 h hW hF
              · intro k s34 f35 hT h a hW hx hF
                exact c_out (rfl) hW hx hF hT
          · intro k s30 f31 hT h a hW hx hF
            exact c_out (rfl) hW hx hF hT
      · replace hT := hT.2 c
        refine x_aload_n dX11_call_23 rfl rfl rfl ?_
        refine x_iload_n dX11_call_24 rfl rfl ?_
        refine x_iload_n dX11_call_25 rfl rfl ?_
        obtain ⟨hc, hT⟩ := hT
        obtain ⟨cc, hcc⟩ := hW.ocell hc
        refine c_invV (vs := [.int v4, .int y1]) dX11_call_26 oX11_builtIn_2 q1009 q1007 hcc qs22 (Or.inl rfl) rfl rfl (Nat.le_of_ble_eq_true rfl) rfl hW hF hT ?_ ?_
        · intro _ s37 f38 hT h hW hF
          obtain ⟨a39, rfl, hT⟩ := hT
          exact x_aret dX11_call_29 rfl (by first | exact Or.inl ⟨_, rfl⟩ | exact Or.inr ⟨_, rfl⟩) rfl ⟨_, _, hW, hF, Or.inl ⟨_, rfl, hT⟩⟩
        · intro k s37 f38 hT h a hW hx hF
          exact c_out (rfl) hW hx hF hT
  · intro k s2 f3 hT h a hW hx hF
    exact c_out (rfl) hW hx hF hT
theorem eR11_call {l : Launch} {E : EN} {w : CO} {d : Nat} {s : CS} {f : RH} {Q : KO → CS → RH → Prop} {x0 : Nat}  (hst : l.stackTraces = false) (hT : (oc f x0 11 ∧ vl f x0 147 = .ref (w.1 2) ∧ (∀ y1 : Int32, y1 = (s.1 21) → (oc f x0 11 ∧ EvC l E w d MX11_builtIn [.ref x0] s f (fun o s2 f3 => KP o (fun r => ∃ v4 : Int32, r = some (.int v4) ∧ ((v4 < 0 → (rmF E f3 1 7 ∧ ∀ (a5 : Nat) (f6 : RH), a5 = f3.1 → f6 = fnew f3 19 → ((0 ≤ v4 → (EvC l E w d MX21_init [.ref a5, .int v4] s2 f6 (fun o s7 f8 => KP o (fun r => r = none ∧ (∃ k10 : Nat, oc f8 a5 k10 ∧ 165 ∈ CF k10 ∧ ¬ k10 = 30 ∧ f8.2.2.2 ≤ a5 ∧ ∀ f9 : RH, f9 = fset f8 a5 165 (.int y1) → ((0 ≤ v4 → ExC l E w (d + 1) MX11_call 61 [some (.ref x0), none, some (.int v4), some (.ref a5), none] [] s7 f9 Q) ∧ (¬ 0 ≤ v4 → (oc f9 x0 11 ∧ EvC l E w d MX11_remember [.ref x0, .ref a5] s7 f9 (fun o s11 f12 => KP o (fun r => r = none ∧ ExC l E w (d + 1) MX11_call 61 [some (.ref x0), none, some (.int v4), some (.ref a5), none] [] s11 f12 Q) (fun k => Q (.inr k) s11 f12))))))) (fun k => Q (.inr k) s7 f8)))) ∧ (¬ 0 ≤ v4 → (EvC l E w d MX21_init [.ref a5, .int 0] s2 f6 (fun o s14 f15 => KP o (fun r => r = none ∧ (∃ k17 : Nat, oc f15 a5 k17 ∧ 165 ∈ CF k17 ∧ ¬ k17 = 30 ∧ f15.2.2.2 ≤ a5 ∧ ∀ f16 : RH, f16 = fset f15 a5 165 (.int y1) → ((0 ≤ v4 → ExC l E w (d + 1) MX11_call 61 [some (.ref x0), none, some (.int v4), some (.ref a5), none] [] s14 f16 Q) ∧ (¬ 0 ≤ v4 → (oc f16 x0 11 ∧ EvC l E w d MX11_remember [.ref x0, .ref a5] s14 f16 (fun o s18 f19 => KP o (fun r => r = none ∧ ExC l E w (d + 1) MX11_call 61 [some (.ref x0), none, some (.int v4), some (.ref a5), none] [] s18 f19 Q) (fun k => Q (.inr k) s18 f19))))))) (fun k => Q (.inr k) s14 f15))))))) ∧ (¬ v4 < 0 → ((28 ≤ v4 → (rmF E f3 1 7 ∧ ∀ (a21 : Nat) (f22 : RH), a21 = f3.1 → f22 = fnew f3 19 → ((0 ≤ v4 → (EvC l E w d MX21_init [.ref a21, .int v4] s2 f22 (fun o s23 f24 => KP o (fun r => r = none ∧ (∃ k26 : Nat, oc f24 a21 k26 ∧ 165 ∈ CF k26 ∧ ¬ k26 = 30 ∧ f24.2.2.2 ≤ a21 ∧ ∀ f25 : RH, f25 = fset f24 a21 165 (.int y1) → ((0 ≤ v4 → ExC l E w (d + 1) MX11_call 61 [some (.ref x0), none, some (.int v4), some (.ref a21), none] [] s23 f25 Q) ∧ (¬ 0 ≤ v4 → (oc f25 x0 11 ∧ EvC l E w d MX11_remember [.ref x0, .ref a21] s23 f25 (fun o s27 f28 => KP o (fun r => r = none ∧ ExC l E w (d + 1) MX11_call 61 [some (.ref x0), none, some (.int v4), some (.ref a21), none] [] s27 f28 Q) (fun k => Q (.inr k) s27 f28))))))) (fun k => Q (.inr k) s23 f24)))) ∧ (¬ 0 ≤ v4 → (EvC l E w d MX21_init [.ref a21, .int 0] s2 f22 (fun o s30 f31 => KP o (fun r => r = none ∧ (∃ k33 : Nat, oc f31 a21 k33 ∧ 165 ∈ CF k33 ∧ ¬ k33 = 30 ∧ f31.2.2.2 ≤ a21 ∧ ∀ f32 : RH, f32 = fset f31 a21 165 (.int y1) → ((0 ≤ v4 → ExC l E w (d + 1) MX11_call 61 [some (.ref x0), none, some (.int v4), some (.ref a21), none] [] s30 f32 Q) ∧ (¬ 0 ≤ v4 → (oc f32 x0 11 ∧ EvC l E w d MX11_remember [.ref x0, .ref a21] s30 f32 (fun o s34 f35 => KP o (fun r => r = none ∧ ExC l E w (d + 1) MX11_call 61 [some (.ref x0), none, some (.int v4), some (.ref a21), none] [] s34 f35 Q) (fun k => Q (.inr k) s34 f35))))))) (fun k => Q (.inr k) s30 f31))))))) ∧ (¬ 28 ≤ v4 → (oc f3 x0 11 ∧ EvC l E w d MX11_builtIn_2 [.ref x0, .int v4, .int y1] s2 f3 (fun o s37 f38 => KP o (fun r => ∃ a39 : Nat, r = some (.ref a39) ∧ Q (.inl (some (.ref a39))) s37 f38) (fun k => Q (.inr k) s37 f38)))))))) (fun k => Q (.inr k) s2 f3)))))) : EvC l E w (d + 1) MX11_call [.ref x0] s f Q :=
  EvC.of hst (by decide) (Nat.le_of_ble_eq_true rfl) (vR11_call_0  hT)
set_option maxHeartbeats 16000000 in
theorem vR11_call_61 {l : Launch} {E : EN} {w : CO} {d : Nat} {s : CS} {f : RH} {Q : KO → CS → RH → Prop} {b0 : Nat} {b2 : Int32} {b3 : Nat}  (hT : (oc f b0 11 ∧ vl f b0 147 = .ref (w.1 2) ∧ (EvC l E w d MX2_next [.ref (w.1 2)] s f (fun o s42 f43 => KP o (fun r => r = none ∧ (oc f43 b0 11 ∧ vl f43 b0 147 = .ref (w.1 2) ∧ (EvC l E w d MX2_take [.ref (w.1 2), .int 40] s42 f43 (fun o s44 f45 => KP o (fun r => r = none ∧ ((b2 < 0 → (oc f45 b0 11 ∧ vl f45 b0 147 = .ref (w.1 2) ∧ (EvC l E w d MX2_is [.ref (w.1 2), .int 41] s44 f45 (fun o s46 f47 => KP o (fun r => ∃ v48 : Int32, r = some (.int v48) ∧ ((¬ v48 = 0 → ExC l E w (d + 1) MX11_call 182 [some (.ref b0), none, none, some (.ref b3), some (.int 0)] [] s46 f47 Q) ∧ (v48 = 0 → ExC l E w (d + 1) MX11_call 182 [some (.ref b0), none, none, some (.ref b3), some (.int 1)] [] s46 f47 Q))) (fun k => Q (.inr k) s46 f47))))) ∧ (¬ b2 < 0 → (oc f45 b0 11 ∧ EvC l E w d MX11_wantName [.ref b0] s44 f45 (fun o s49 f50 => KP o (fun r => r = none ∧ (oc f50 b0 11 ∧ EvC l E w d MX11_remember [.ref b0, .ref b3] s49 f50 (fun o s51 f52 => KP o (fun r => r = none ∧ ((¬ b2 = 28 → (oc f52 b3 19 ∧ f52.2.2.2 ≤ b3 ∧ ∀ f53 : RH, f53 = fset f52 b3 177 (.int 2) → (oc f53 b0 11 ∧ vl f53 b0 147 = .ref (w.1 2) ∧ (EvC l E w d MX2_next [.ref (w.1 2)] s51 f53 (fun o s54 f55 => KP o (fun r => r = none ∧ ExC l E w (d + 1) MX11_call 115 [some (.ref b0), none, none, some (.ref b3), some (.int 0)] [] s54 f55 Q) (fun k => Q (.inr k) s54 f55)))))) ∧ (b2 = 28 → (oc f52 b3 19 ∧ f52.2.2.2 ≤ b3 ∧ ∀ f56 : RH, f56 = fset f52 b3 177 (.int 1) → (oc f56 b0 11 ∧ vl f56 b0 147 = .ref (w.1 2) ∧ (EvC l E w d MX2_next [.ref (w.1 2)] s51 f56 (fun o s57 f58 => KP o (fun r => r = none ∧ ExC l E w (d + 1) MX11_call 115 [some (.ref b0), none, none, some (.ref b3), some (.int 0)] [] s57 f58 Q) (fun k => Q (.inr k) s57 f58)))))))) (fun k => Q (.inr k) s51 f52)))) (fun k => Q (.inr k) s49 f50)))))) (fun k => Q (.inr k) s44 f45))))) (fun k => Q (.inr k) s42 f43))))) : ExC l E w (d + 1) MX11_call 61 [some (.ref b0), none, some (.int b2), some (.ref b3), none] [] s f Q := by
  intro f0 h hW hF
  refine x_aload_n dX11_call_61 rfl rfl rfl ?_
  obtain ⟨hc, ev, hT⟩ := hT
  refine c_fgetG dX11_call_62 f_TallySlate_Reader_23 hc (by decide) (by decide) hW ev ?_
  obtain ⟨-, -, cc, hcc, -⟩ := hW.ob 2 (by decide)
  refine c_invV (vs := []) dX11_call_65 oX2_next q610 q609 hcc q611 (Or.inl rfl) rfl rfl (Nat.le_of_ble_eq_true rfl) rfl hW hF hT ?_ ?_
  · intro _ s42 f43 hT h hW hF
    obtain ⟨rfl, hT⟩ := hT
    refine x_aload_n dX11_call_68 rfl rfl rfl ?_
    obtain ⟨hc, ev, hT⟩ := hT
    refine c_fgetG dX11_call_69 f_TallySlate_Reader_23 hc (by decide) (by decide) hW ev ?_
    refine x_bipush (v := 40) dX11_call_72 rfl ?_
    obtain ⟨-, -, cc, hcc, -⟩ := hW.ob 2 (by decide)
    refine c_invV (vs := [.int 40]) dX11_call_74 oX2_take q816 q815 hcc q817 (Or.inl rfl) rfl rfl (Nat.le_of_ble_eq_true rfl) rfl hW hF hT ?_ ?_
    · intro _ s44 f45 hT h hW hF
      obtain ⟨rfl, hT⟩ := hT
      refine x_iload_n dX11_call_77 rfl rfl ?_
      refine x_if_lt (tgt := 163) dX11_call_78 rfl (fun c => ?_) (fun c => ?_)
      · replace hT := hT.1 c
        refine x_aload_n dX11_call_163 rfl rfl rfl ?_
        obtain ⟨hc, ev, hT⟩ := hT
        refine c_fgetG dX11_call_164 f_TallySlate_Reader_23 hc (by decide) (by decide) hW ev ?_
        refine x_bipush (v := 41) dX11_call_167 rfl ?_
        obtain ⟨-, -, cc, hcc, -⟩ := hW.ob 2 (by decide)
        refine c_invV (vs := [.int 41]) dX11_call_169 oX2_is q820 q824 hcc q821 (Or.inl rfl) rfl rfl (Nat.le_of_ble_eq_true rfl) rfl hW hF hT ?_ ?_
        · intro _ s46 f47 hT h hW hF
          obtain ⟨v48, rfl, hT⟩ := hT
          refine x_if_ne (tgt := 179) dX11_call_172 rfl (fun c => ?_) (fun c => ?_)
          · replace hT := hT.1 c
            refine x_iconst (v := 0) dX11_call_179 rfl ?_
            refine x_istore (lo' := [some (.ref b0), none, some (.int b2), some (.ref b3), some (.int 0)]) dX11_call_180 (Nat.le_of_ble_eq_true rfl) rfl ?_
            refine Ex.wkl (lo' := [some (.ref b0), none, none, some (.ref b3), some (.int 0)]) ⟨rfl, rfl, rfl, trivial⟩ ?_
            exact hT f0 h hW hF
          · replace hT := hT.2 c
            refine x_iconst (v := 1) dX11_call_175 rfl ?_
            refine x_goto (tgt := 180) dX11_call_176 rfl ?_
            refine x_istore (lo' := [some (.ref b0), none, some (.int b2), some (.ref b3), some (.int 1)]) dX11_call_180 (Nat.le_of_ble_eq_true rfl) rfl ?_
            refine Ex.wkl (lo' := [some (.ref b0), none, none, some (.ref b3), some (.int 1)]) ⟨rfl, rfl, rfl, trivial⟩ ?_
            exact hT f0 h hW hF
        · intro k s46 f47 hT h a hW hx hF
          exact c_out (rfl) hW hx hF hT
      · replace hT := hT.2 c
        refine x_aload_n dX11_call_81 rfl rfl rfl ?_
        obtain ⟨hc, hT⟩ := hT
        obtain ⟨cc, hcc⟩ := hW.ocell hc
        refine c_invV (vs := []) dX11_call_82 oX11_wantName q758 q756 hcc qs7 (Or.inl rfl) rfl rfl (Nat.le_of_ble_eq_true rfl) rfl hW hF hT ?_ ?_
        · intro _ s49 f50 hT h hW hF
          obtain ⟨rfl, hT⟩ := hT
          refine x_aload_n dX11_call_85 rfl rfl rfl ?_
          refine x_aload_n dX11_call_86 rfl rfl rfl ?_
          obtain ⟨hc, hT⟩ := hT
          obtain ⟨cc, hcc⟩ := hW.ocell hc
          refine c_invV (vs := [.ref b3]) dX11_call_87 oX11_remember q1065 q1063 hcc qs24 (Or.inl rfl) rfl rfl (Nat.le_of_ble_eq_true rfl) rfl hW hF hT ?_ ?_
          · intro _ s51 f52 hT h hW hF
            obtain ⟨rfl, hT⟩ := hT
            refine x_aload_n dX11_call_90 rfl rfl rfl ?_
            refine x_iload_n dX11_call_91 rfl rfl ?_
            refine x_bipush (v := 28) dX11_call_92 rfl ?_
            refine x_icmp_ne (tgt := 101) dX11_call_94 rfl (fun c => ?_) (fun c => ?_)
            · replace hT := hT.1 c
              refine x_iconst (v := 2) dX11_call_101 rfl ?_
              obtain ⟨hc, hz, hT⟩ := hT
              refine c_fputG dX11_call_102 f_TallySlate_Reader_73 hc (by decide) (by decide) hz (Or.inl rfl) rfl rfl hW hF ?_
              intro f53 ef53 h hW hF
              replace hT := hT f53 ef53
              refine x_aload_n dX11_call_105 rfl rfl rfl ?_
              obtain ⟨hc, ev, hT⟩ := hT
              refine c_fgetG dX11_call_106 f_TallySlate_Reader_23 hc (by decide) (by decide) hW ev ?_
              obtain ⟨-, -, cc, hcc, -⟩ := hW.ob 2 (by decide)
              refine c_invV (vs := []) dX11_call_109 oX2_next q610 q609 hcc q611 (Or.inl rfl) rfl rfl (Nat.le_of_ble_eq_true rfl) rfl hW hF hT ?_ ?_
              · intro _ s54 f55 hT h hW hF
                obtain ⟨rfl, hT⟩ := hT
                refine x_iconst (v := 0) dX11_call_112 rfl ?_
                refine x_istore (lo' := [some (.ref b0), none, some (.int b2), some (.ref b3), some (.int 0)]) dX11_call_113 (Nat.le_of_ble_eq_true rfl) rfl ?_
                refine Ex.wkl (lo' := [some (.ref b0), none, none, some (.ref b3), some (.int 0)]) ⟨rfl, rfl, rfl, trivial⟩ ?_
                exact hT f0 h hW hF
              · intro k s54 f55 hT h a hW hx hF
                exact c_out (rfl) hW hx hF hT
            · replace hT := hT.2 c
              refine x_iconst (v := 1) dX11_call_97 rfl ?_
              refine x_goto (tgt := 102) dX11_call_98 rfl ?_
              obtain ⟨hc, hz, hT⟩ := hT
              refine c_fputG dX11_call_102 f_TallySlate_Reader_73 hc (by decide) (by decide) hz (Or.inl rfl) rfl rfl hW hF ?_
              intro f56 ef56 h hW hF
              replace hT := hT f56 ef56
              refine x_aload_n dX11_call_105 rfl rfl rfl ?_
              obtain ⟨hc, ev, hT⟩ := hT
              refine c_fgetG dX11_call_106 f_TallySlate_Reader_23 hc (by decide) (by decide) hW ev ?_
              obtain ⟨-, -, cc, hcc, -⟩ := hW.ob 2 (by decide)
              refine c_invV (vs := []) dX11_call_109 oX2_next q610 q609 hcc q611 (Or.inl rfl) rfl rfl (Nat.le_of_ble_eq_true rfl) rfl hW hF hT ?_ ?_
              · intro _ s57 f58 hT h hW hF
                obtain ⟨rfl, hT⟩ := hT
                refine x_iconst (v := 0) dX11_call_112 rfl ?_
                refine x_istore (lo' := [some (.ref b0), none, some (.int b2), some (.ref b3), some (.int 0)]) dX11_call_113 (Nat.le_of_ble_eq_true rfl) rfl ?_
                refine Ex.wkl (lo' := [some (.ref b0), none, none, some (.ref b3), some (.int 0)]) ⟨rfl, rfl, rfl, trivial⟩ ?_
                exact hT f0 h hW hF
              · intro k s57 f58 hT h a hW hx hF
                exact c_out (rfl) hW hx hF hT
          · intro k s51 f52 hT h a hW hx hF
            exact c_out (rfl) hW hx hF hT
        · intro k s49 f50 hT h a hW hx hF
          exact c_out (rfl) hW hx hF hT
    · intro k s44 f45 hT h a hW hx hF
      exact c_out (rfl) hW hx hF hT
  · intro k s42 f43 hT h a hW hx hF
    exact c_out (rfl) hW hx hF hT
set_option maxHeartbeats 16000000 in
theorem vR11_call_182 {l : Launch} {E : EN} {w : CO} {d : Nat} {s : CS} {f : RH} {Q : KO → CS → RH → Prop} {b0 : Nat} {b3 : Nat} {b4 : Int32}  (hT : ((b4 = 0 → (oc f b0 11 ∧ vl f b0 147 = .ref (w.1 2) ∧ (EvC l E w d MX2_take [.ref (w.1 2), .int 41] s f (fun o s61 f62 => KP o (fun r => r = none ∧ (oc f62 b3 19 ∧ (∃ a63 : Nat, vl f62 b3 179 = .ref a63 ∧ (oc f62 a63 17 ∧ (∃ v64 : Int32, vl f62 a63 171 = .int v64 ∧ (oc f62 b3 19 ∧ f62.2.2.2 ≤ b3 ∧ ∀ f65 : RH, f65 = fset f62 b3 177 (.int v64) → Q (.inl (some (.ref b3))) s61 f65)))))) (fun k => Q (.inr k) s61 f62))))) ∧ (¬ b4 = 0 → (oc f b3 19 ∧ (∃ a66 : Nat, vl f b3 179 = .ref a66 ∧ (oc f b0 11 ∧ EvC l E w d MX11_expression [.ref b0] s f (fun o s67 f68 => KP o (fun r => ∃ a69 : Nat, r = some (.ref a69) ∧ (oc f68 a66 17 ∧ EvC l E w d MX19_add [.ref a66, .ref a69, .int 0, .int 0] s67 f68 (fun o s70 f71 => KP o (fun r => r = none ∧ (oc f71 b0 11 ∧ vl f71 b0 147 = .ref (w.1 2) ∧ (EvC l E w d MX2_is [.ref (w.1 2), .int 44] s70 f71 (fun o s72 f73 => KP o (fun r => ∃ v74 : Int32, r = some (.int v74) ∧ ((v74 = 0 → ExC l E w (d + 1) MX11_call 182 [some (.ref b0), none, none, some (.ref b3), some (.int v74)] [] s72 f73 Q) ∧ (¬ v74 = 0 → (oc f73 b0 11 ∧ vl f73 b0 147 = .ref (w.1 2) ∧ (EvC l E w d MX2_next [.ref (w.1 2)] s72 f73 (fun o s75 f76 => KP o (fun r => r = none ∧ ExC l E w (d + 1) MX11_call 182 [some (.ref b0), none, none, some (.ref b3), some (.int v74)] [] s75 f76 Q) (fun k => Q (.inr k) s75 f76))))))) (fun k => Q (.inr k) s72 f73))))) (fun k => Q (.inr k) s70 f71)))) (fun k => Q (.inr k) s67 f68)))))))) : ExC l E w (d + 1) MX11_call 182 [some (.ref b0), none, none, some (.ref b3), some (.int b4)] [] s f Q := by
  intro f0 h hW hF
  refine x_iload dX11_call_182 rfl ?_
  refine x_if_eq (tgt := 226) dX11_call_184 rfl (fun c => ?_) (fun c => ?_)
  · replace hT := hT.1 c
    refine x_aload_n dX11_call_226 rfl rfl rfl ?_
    obtain ⟨hc, ev, hT⟩ := hT
    refine c_fgetG dX11_call_227 f_TallySlate_Reader_23 hc (by decide) (by decide) hW ev ?_
    refine x_bipush (v := 41) dX11_call_230 rfl ?_
    obtain ⟨-, -, cc, hcc, -⟩ := hW.ob 2 (by decide)
    refine c_invV (vs := [.int 41]) dX11_call_232 oX2_take q816 q815 hcc q817 (Or.inl rfl) rfl rfl (Nat.le_of_ble_eq_true rfl) rfl hW hF hT ?_ ?_
    · intro _ s61 f62 hT h hW hF
      obtain ⟨rfl, hT⟩ := hT
      refine x_aload_n dX11_call_235 rfl rfl rfl ?_
      refine x_aload_n dX11_call_236 rfl rfl rfl ?_
      obtain ⟨hc, hT⟩ := hT
      obtain ⟨a63, ev, hT⟩ := hT
      refine c_fgetG dX11_call_237 f_TallySlate_Reader_341 hc (by decide) (by decide) hW ev ?_
      obtain ⟨hc, hT⟩ := hT
      obtain ⟨v64, ev, hT⟩ := hT
      refine c_fgetG dX11_call_240 f_TallySlate_Reader_342 hc (by decide) (by decide) hW ev ?_
      obtain ⟨hc, hz, hT⟩ := hT
      refine c_fputG dX11_call_243 f_TallySlate_Reader_73 hc (by decide) (by decide) hz (Or.inl rfl) rfl rfl hW hF ?_
      intro f65 ef65 h hW hF
      replace hT := hT f65 ef65
      refine x_aload_n dX11_call_246 rfl rfl rfl ?_
      exact x_aret dX11_call_247 rfl (by first | exact Or.inl ⟨_, rfl⟩ | exact Or.inr ⟨_, rfl⟩) rfl ⟨_, _, hW, hF, Or.inl ⟨_, rfl, hT⟩⟩
    · intro k s61 f62 hT h a hW hx hF
      exact c_out (rfl) hW hx hF hT
  · replace hT := hT.2 c
    refine x_aload_n dX11_call_187 rfl rfl rfl ?_
    obtain ⟨hc, hT⟩ := hT
    obtain ⟨a66, ev, hT⟩ := hT
    refine c_fgetG dX11_call_188 f_TallySlate_Reader_341 hc (by decide) (by decide) hW ev ?_
    refine x_aload_n dX11_call_191 rfl rfl rfl ?_
    obtain ⟨hc, hT⟩ := hT
    obtain ⟨cc, hcc⟩ := hW.ocell hc
    refine c_invV (vs := []) dX11_call_192 oX11_expression q893 q891 hcc qs14 (Or.inl rfl) rfl rfl (Nat.le_of_ble_eq_true rfl) rfl hW hF hT ?_ ?_
    · intro _ s67 f68 hT h hW hF
      obtain ⟨a69, rfl, hT⟩ := hT
      refine x_iconst (v := 0) dX11_call_195 rfl ?_
      refine x_iconst (v := 0) dX11_call_196 rfl ?_
      obtain ⟨hc, hT⟩ := hT
      obtain ⟨cc, hcc⟩ := hW.ocell hc
      refine c_invV (vs := [.ref a69, .int 0, .int 0]) dX11_call_197 oX19_add q992 q991 hcc q993 (Or.inl rfl) rfl rfl (Nat.le_of_ble_eq_true rfl) rfl hW hF hT ?_ ?_
      · intro _ s70 f71 hT h hW hF
        obtain ⟨rfl, hT⟩ := hT
        refine x_aload_n dX11_call_200 rfl rfl rfl ?_
        obtain ⟨hc, ev, hT⟩ := hT
        refine c_fgetG dX11_call_201 f_TallySlate_Reader_23 hc (by decide) (by decide) hW ev ?_
        refine x_bipush (v := 44) dX11_call_204 rfl ?_
        obtain ⟨-, -, cc, hcc, -⟩ := hW.ob 2 (by decide)
        refine c_invV (vs := [.int 44]) dX11_call_206 oX2_is q820 q824 hcc q821 (Or.inl rfl) rfl rfl (Nat.le_of_ble_eq_true rfl) rfl hW hF hT ?_ ?_
        · intro _ s72 f73 hT h hW hF
          obtain ⟨v74, rfl, hT⟩ := hT
          refine x_istore (lo' := [some (.ref b0), none, none, some (.ref b3), some (.int v74)]) dX11_call_209 (Nat.le_of_ble_eq_true rfl) rfl ?_
          refine x_iload dX11_call_211 rfl ?_
          refine x_if_eq (tgt := 182) dX11_call_213 rfl (fun c => ?_) (fun c => ?_)
          · replace hT := hT.1 c
            exact hT f0 h hW hF
          · replace hT := hT.2 c
            refine x_aload_n dX11_call_216 rfl rfl rfl ?_
            obtain ⟨hc, ev, hT⟩ := hT
            refine c_fgetG dX11_call_217 f_TallySlate_Reader_23 hc (by decide) (by decide) hW ev ?_
            obtain ⟨-, -, cc, hcc, -⟩ := hW.ob 2 (by decide)
            refine c_invV (vs := []) dX11_call_220 oX2_next q610 q609 hcc q611 (Or.inl rfl) rfl rfl (Nat.le_of_ble_eq_true rfl) rfl hW hF hT ?_ ?_
            · intro _ s75 f76 hT h hW hF
              obtain ⟨rfl, hT⟩ := hT
              refine x_goto (tgt := 182) dX11_call_223 rfl ?_
              exact hT f0 h hW hF
            · intro k s75 f76 hT h a hW hx hF
              exact c_out (rfl) hW hx hF hT
        · intro k s72 f73 hT h a hW hx hF
          exact c_out (rfl) hW hx hF hT
      · intro k s70 f71 hT h a hW hx hF
        exact c_out (rfl) hW hx hF hT
    · intro k s67 f68 hT h a hW hx hF
      exact c_out (rfl) hW hx hF hT
theorem vR11_call_115 {l : Launch} {E : EN} {w : CO} {d : Nat} {s : CS} {f : RH} {Q : KO → CS → RH → Prop} {b0 : Nat} {b3 : Nat} {b4 : Int32}  (hT : (oc f b3 19 ∧ (∃ v79 : Int32, vl f b3 177 = .int v79 ∧ ((v79 ≤ b4 → (oc f b0 11 ∧ vl f b0 147 = .ref (w.1 2) ∧ (EvC l E w d MX2_take [.ref (w.1 2), .int 41] s f (fun o s80 f81 => KP o (fun r => r = none ∧ Q (.inl (some (.ref b3))) s80 f81) (fun k => Q (.inr k) s80 f81))))) ∧ (¬ v79 ≤ b4 → (oc f b0 11 ∧ vl f b0 147 = .ref (w.1 2) ∧ (EvC l E w d MX2_take [.ref (w.1 2), .int 44] s f (fun o s82 f83 => KP o (fun r => r = none ∧ (oc f83 b3 19 ∧ (∃ a84 : Nat, vl f83 b3 179 = .ref a84 ∧ (oc f83 b0 11 ∧ EvC l E w d MX11_expression [.ref b0] s82 f83 (fun o s85 f86 => KP o (fun r => ∃ a87 : Nat, r = some (.ref a87) ∧ (oc f86 a84 17 ∧ EvC l E w d MX19_add [.ref a84, .ref a87, .int 0, .int 0] s85 f86 (fun o s88 f89 => KP o (fun r => r = none ∧ ExC l E w (d + 1) MX11_call 115 [some (.ref b0), none, none, some (.ref b3), some (.int (b4 + 1))] [] s88 f89 Q) (fun k => Q (.inr k) s88 f89)))) (fun k => Q (.inr k) s85 f86)))))) (fun k => Q (.inr k) s82 f83))))))))) : ExC l E w (d + 1) MX11_call 115 [some (.ref b0), none, none, some (.ref b3), some (.int b4)] [] s f Q := by
  intro f0 h hW hF
  refine x_iload dX11_call_115 rfl ?_
  refine x_aload_n dX11_call_117 rfl rfl rfl ?_
  obtain ⟨hc, hT⟩ := hT
  obtain ⟨v79, ev, hT⟩ := hT
  refine c_fgetG dX11_call_118 f_TallySlate_Reader_73 hc (by decide) (by decide) hW ev ?_
  refine x_icmp_ge (tgt := 152) dX11_call_121 rfl (fun c => ?_) (fun c => ?_)
  · replace hT := hT.1 c
    refine x_aload_n dX11_call_152 rfl rfl rfl ?_
    obtain ⟨hc, ev, hT⟩ := hT
    refine c_fgetG dX11_call_153 f_TallySlate_Reader_23 hc (by decide) (by decide) hW ev ?_
    refine x_bipush (v := 41) dX11_call_156 rfl ?_
    obtain ⟨-, -, cc, hcc, -⟩ := hW.ob 2 (by decide)
    refine c_invV (vs := [.int 41]) dX11_call_158 oX2_take q816 q815 hcc q817 (Or.inl rfl) rfl rfl (Nat.le_of_ble_eq_true rfl) rfl hW hF hT ?_ ?_
    · intro _ s80 f81 hT h hW hF
      obtain ⟨rfl, hT⟩ := hT
      refine x_aload_n dX11_call_161 rfl rfl rfl ?_
      exact x_aret dX11_call_162 rfl (by first | exact Or.inl ⟨_, rfl⟩ | exact Or.inr ⟨_, rfl⟩) rfl ⟨_, _, hW, hF, Or.inl ⟨_, rfl, hT⟩⟩
    · intro k s80 f81 hT h a hW hx hF
      exact c_out (rfl) hW hx hF hT
  · replace hT := hT.2 c
    refine x_aload_n dX11_call_124 rfl rfl rfl ?_
    obtain ⟨hc, ev, hT⟩ := hT
    refine c_fgetG dX11_call_125 f_TallySlate_Reader_23 hc (by decide) (by decide) hW ev ?_
    refine x_bipush (v := 44) dX11_call_128 rfl ?_
    obtain ⟨-, -, cc, hcc, -⟩ := hW.ob 2 (by decide)
    refine c_invV (vs := [.int 44]) dX11_call_130 oX2_take q816 q815 hcc q817 (Or.inl rfl) rfl rfl (Nat.le_of_ble_eq_true rfl) rfl hW hF hT ?_ ?_
    · intro _ s82 f83 hT h hW hF
      obtain ⟨rfl, hT⟩ := hT
      refine x_aload_n dX11_call_133 rfl rfl rfl ?_
      obtain ⟨hc, hT⟩ := hT
      obtain ⟨a84, ev, hT⟩ := hT
      refine c_fgetG dX11_call_134 f_TallySlate_Reader_341 hc (by decide) (by decide) hW ev ?_
      refine x_aload_n dX11_call_137 rfl rfl rfl ?_
      obtain ⟨hc, hT⟩ := hT
      obtain ⟨cc, hcc⟩ := hW.ocell hc
      refine c_invV (vs := []) dX11_call_138 oX11_expression q893 q891 hcc qs14 (Or.inl rfl) rfl rfl (Nat.le_of_ble_eq_true rfl) rfl hW hF hT ?_ ?_
      · intro _ s85 f86 hT h hW hF
        obtain ⟨a87, rfl, hT⟩ := hT
        refine x_iconst (v := 0) dX11_call_141 rfl ?_
        refine x_iconst (v := 0) dX11_call_142 rfl ?_
        obtain ⟨hc, hT⟩ := hT
        obtain ⟨cc, hcc⟩ := hW.ocell hc
        refine c_invV (vs := [.ref a87, .int 0, .int 0]) dX11_call_143 oX19_add q992 q991 hcc q993 (Or.inl rfl) rfl rfl (Nat.le_of_ble_eq_true rfl) rfl hW hF hT ?_ ?_
        · intro _ s88 f89 hT h hW hF
          obtain ⟨rfl, hT⟩ := hT
          refine x_iinc (lo' := [some (.ref b0), none, none, some (.ref b3), some (.int (b4 + 1))]) dX11_call_146 rfl (show _ = (b4 + 1) from rfl) rfl ?_
          refine x_goto (tgt := 115) dX11_call_149 rfl ?_
          exact hT f0 h hW hF
        · intro k s88 f89 hT h a hW hx hF
          exact c_out (rfl) hW hx hF hT
      · intro k s85 f86 hT h a hW hx hF
        exact c_out (rfl) hW hx hF hT
    · intro k s82 f83 hT h a hW hx hF
      exact c_out (rfl) hW hx hF hT
set_option maxHeartbeats 16000000 in
theorem vR11_builtIn_2_0 {l : Launch} {E : EN} {w : CO} {d : Nat} {s : CS} {f : RH} {Q : KO → CS → RH → Prop} {x0 : Nat} {x1 : Int32} {x2 : Int32}  (hT : (rmF E f 1 3 ∧ ∀ (a1 : Nat) (f2 : RH), a1 = f.1 → f2 = fnew f 18 → (EvC l E w d MX20_init [.ref a1, .int x1] s f2 (fun o s3 f4 => KP o (fun r => r = none ∧ (∃ k6 : Nat, oc f4 a1 k6 ∧ 165 ∈ CF k6 ∧ ¬ k6 = 30 ∧ f4.2.2.2 ≤ a1 ∧ ∀ f5 : RH, f5 = fset f4 a1 165 (.int x2) → (oc f5 x0 11 ∧ vl f5 x0 147 = .ref (w.1 2) ∧ (EvC l E w d MX2_next [.ref (w.1 2)] s3 f5 (fun o s7 f8 => KP o (fun r => r = none ∧ (oc f8 x0 11 ∧ vl f8 x0 147 = .ref (w.1 2) ∧ (EvC l E w d MX2_take [.ref (w.1 2), .int 40] s7 f8 (fun o s9 f10 => KP o (fun r => r = none ∧ (oc f10 a1 18 ∧ (∃ a11 : Nat, vl f10 a1 173 = .ref a11 ∧ ((¬ x1 = 5 → (∃ a12 : Nat, eSV E 1 = .ref a12 ∧ (tg f10 a12 = some (.inr 0) ∧ inB x1 (ln f10 a12) ∧ (∃ v13 : Int32, vl f10 a12 x1.toNatClampNeg = .int v13 ∧ (∃ a14 : Nat, eSV E 1 = .ref a14 ∧ (tg f10 a14 = some (.inr 0) ∧ inB x1 (ln f10 a14) ∧ (∃ v15 : Int32, vl f10 a14 x1.toNatClampNeg = .int v15 ∧ (oc f10 x0 11 ∧ EvC l E w d MX11_parts [.ref x0, .ref a11, .int v13, .int v15] s9 f10 (fun o s16 f17 => KP o (fun r => r = none ∧ Q (.inl (some (.ref a1))) s16 f17) (fun k => Q (.inr k) s16 f17)))))))))) ∧ (x1 = 5 → (∃ a19 : Nat, eSV E 1 = .ref a19 ∧ (tg f10 a19 = some (.inr 0) ∧ inB x1 (ln f10 a19) ∧ (∃ v20 : Int32, vl f10 a19 x1.toNatClampNeg = .int v20 ∧ (oc f10 x0 11 ∧ EvC l E w d MX11_parts [.ref x0, .ref a11, .int 0, .int v20] s9 f10 (fun o s21 f22 => KP o (fun r => r = none ∧ Q (.inl (some (.ref a1))) s21 f22) (fun k => Q (.inr k) s21 f22))))))))))) (fun k => Q (.inr k) s9 f10))))) (fun k => Q (.inr k) s7 f8)))))) (fun k => Q (.inr k) s3 f4))))) : ExC l E w (d + 1) MX11_builtIn_2 0 [some (.ref x0), some (.int x1), some (.int x2), none] [] s f Q := by
  intro f0 h hW hF
  obtain ⟨hr, hT⟩ := hT
  refine c_newG (k := 18) dX11_builtIn_2_0 (by decide) q1011 q193 hr hW hF ?_
  intro a1 f2 ea1 ef2 h hW hF
  replace hT := hT a1 f2 ea1 ef2
  refine x_dup dX11_builtIn_2_3 rfl ?_
  refine x_iload_n dX11_builtIn_2_4 rfl rfl ?_
  refine c_invI (b := a1) (vs := [.int x1]) dX11_builtIn_2_5 oX20_init rfl rfl rfl q1014 (Or.inl q1013) rfl rfl (Nat.le_of_ble_eq_true rfl) rfl hW hF hT ?_ ?_
  · intro _ s3 f4 hT h hW hF
    obtain ⟨rfl, hT⟩ := hT
    refine x_astore_n (lo' := [some (.ref x0), some (.int x1), some (.int x2), some (.ref a1)]) dX11_builtIn_2_8 rfl (Nat.le_of_ble_eq_true rfl) rfl rfl ?_
    refine x_aload_n dX11_builtIn_2_9 rfl rfl rfl ?_
    refine x_iload_n dX11_builtIn_2_10 rfl rfl ?_
    obtain ⟨k6, hc, hj, h30, hz, hT⟩ := hT
    refine c_fputG dX11_builtIn_2_11 f_TallySlate_Reader_346 hc hj h30 hz (Or.inl rfl) rfl rfl hW hF ?_
    intro f5 ef5 h hW hF
    replace hT := hT f5 ef5
    refine x_aload_n dX11_builtIn_2_14 rfl rfl rfl ?_
    obtain ⟨hc, ev, hT⟩ := hT
    refine c_fgetG dX11_builtIn_2_15 f_TallySlate_Reader_23 hc (by decide) (by decide) hW ev ?_
    obtain ⟨-, -, cc, hcc, -⟩ := hW.ob 2 (by decide)
    refine c_invV (vs := []) dX11_builtIn_2_18 oX2_next q610 q609 hcc q611 (Or.inl rfl) rfl rfl (Nat.le_of_ble_eq_true rfl) rfl hW hF hT ?_ ?_
    · intro _ s7 f8 hT h hW hF
      obtain ⟨rfl, hT⟩ := hT
      refine x_aload_n dX11_builtIn_2_21 rfl rfl rfl ?_
      obtain ⟨hc, ev, hT⟩ := hT
      refine c_fgetG dX11_builtIn_2_22 f_TallySlate_Reader_23 hc (by decide) (by decide) hW ev ?_
      refine x_bipush (v := 40) dX11_builtIn_2_25 rfl ?_
      obtain ⟨-, -, cc, hcc, -⟩ := hW.ob 2 (by decide)
      refine c_invV (vs := [.int 40]) dX11_builtIn_2_27 oX2_take q816 q815 hcc q817 (Or.inl rfl) rfl rfl (Nat.le_of_ble_eq_true rfl) rfl hW hF hT ?_ ?_
      · intro _ s9 f10 hT h hW hF
        obtain ⟨rfl, hT⟩ := hT
        refine x_aload_n dX11_builtIn_2_30 rfl rfl rfl ?_
        refine x_aload_n dX11_builtIn_2_31 rfl rfl rfl ?_
        obtain ⟨hc, hT⟩ := hT
        obtain ⟨a11, ev, hT⟩ := hT
        refine c_fgetG dX11_builtIn_2_32 f_TallySlate_Reader_347 hc (by decide) (by decide) hW ev ?_
        refine x_iload_n dX11_builtIn_2_35 rfl rfl ?_
        refine x_iconst (v := 5) dX11_builtIn_2_36 rfl ?_
        refine x_icmp_ne (tgt := 44) dX11_builtIn_2_37 rfl (fun c => ?_) (fun c => ?_)
        · replace hT := hT.1 c
          obtain ⟨a12, es, hT⟩ := hT
          refine x_getstatic (i := 1) (ref := "") dX11_builtIn_2_44 rfl (Or.inr ⟨_, q1028⟩) ?_
          rw [es]
          refine x_iload_n dX11_builtIn_2_47 rfl rfl ?_
          obtain ⟨hc, hT⟩ := hT
          obtain ⟨hb, hT⟩ := hT
          obtain ⟨v13, ev, hT⟩ := hT
          refine c_fiald dX11_builtIn_2_48 hc hb hW ev ?_
          obtain ⟨a14, es, hT⟩ := hT
          refine x_getstatic (i := 1) (ref := "") dX11_builtIn_2_49 rfl (Or.inr ⟨_, q1028⟩) ?_
          rw [es]
          refine x_iload_n dX11_builtIn_2_52 rfl rfl ?_
          obtain ⟨hc, hT⟩ := hT
          obtain ⟨hb, hT⟩ := hT
          obtain ⟨v15, ev, hT⟩ := hT
          refine c_fiald dX11_builtIn_2_53 hc hb hW ev ?_
          obtain ⟨hc, hT⟩ := hT
          obtain ⟨cc, hcc⟩ := hW.ocell hc
          refine c_invV (vs := [.ref a11, .int v13, .int v15]) dX11_builtIn_2_54 oX11_parts q1032 q1030 hcc qs23 (Or.inl rfl) rfl rfl (Nat.le_of_ble_eq_true rfl) rfl hW hF hT ?_ ?_
          · intro _ s16 f17 hT h hW hF
            obtain ⟨rfl, hT⟩ := hT
            refine x_aload_n dX11_builtIn_2_57 rfl rfl rfl ?_
            exact x_aret dX11_builtIn_2_58 rfl (by first | exact Or.inl ⟨_, rfl⟩ | exact Or.inr ⟨_, rfl⟩) rfl ⟨_, _, hW, hF, Or.inl ⟨_, rfl, hT⟩⟩
          · intro k s16 f17 hT h a hW hx hF
            exact c_out (rfl) hW hx hF hT
        · replace hT := hT.2 c
          refine x_iconst (v := 0) dX11_builtIn_2_40 rfl ?_
          refine x_goto (tgt := 49) dX11_builtIn_2_41 rfl ?_
          obtain ⟨a19, es, hT⟩ := hT
          refine x_getstatic (i := 1) (ref := "") dX11_builtIn_2_49 rfl (Or.inr ⟨_, q1028⟩) ?_
          rw [es]
          refine x_iload_n dX11_builtIn_2_52 rfl rfl ?_
          obtain ⟨hc, hT⟩ := hT
          obtain ⟨hb, hT⟩ := hT
          obtain ⟨v20, ev, hT⟩ := hT
          refine c_fiald dX11_builtIn_2_53 hc hb hW ev ?_
          obtain ⟨hc, hT⟩ := hT
          obtain ⟨cc, hcc⟩ := hW.ocell hc
          refine c_invV (vs := [.ref a11, .int 0, .int v20]) dX11_builtIn_2_54 oX11_parts q1032 q1030 hcc qs23 (Or.inl rfl) rfl rfl (Nat.le_of_ble_eq_true rfl) rfl hW hF hT ?_ ?_
          · intro _ s21 f22 hT h hW hF
            obtain ⟨rfl, hT⟩ := hT
            refine x_aload_n dX11_builtIn_2_57 rfl rfl rfl ?_
            exact x_aret dX11_builtIn_2_58 rfl (by first | exact Or.inl ⟨_, rfl⟩ | exact Or.inr ⟨_, rfl⟩) rfl ⟨_, _, hW, hF, Or.inl ⟨_, rfl, hT⟩⟩
          · intro k s21 f22 hT h a hW hx hF
            exact c_out (rfl) hW hx hF hT
      · intro k s9 f10 hT h a hW hx hF
        exact c_out (rfl) hW hx hF hT
    · intro k s7 f8 hT h a hW hx hF
      exact c_out (rfl) hW hx hF hT
  · intro k s3 f4 hT h a hW hx hF
    exact c_out (rfl) hW hx hF hT
theorem eR11_builtIn_2 {l : Launch} {E : EN} {w : CO} {d : Nat} {s : CS} {f : RH} {Q : KO → CS → RH → Prop} {x0 : Nat} {x1 : Int32} {x2 : Int32}  (hst : l.stackTraces = false) (hT : (rmF E f 1 3 ∧ ∀ (a1 : Nat) (f2 : RH), a1 = f.1 → f2 = fnew f 18 → (EvC l E w d MX20_init [.ref a1, .int x1] s f2 (fun o s3 f4 => KP o (fun r => r = none ∧ (∃ k6 : Nat, oc f4 a1 k6 ∧ 165 ∈ CF k6 ∧ ¬ k6 = 30 ∧ f4.2.2.2 ≤ a1 ∧ ∀ f5 : RH, f5 = fset f4 a1 165 (.int x2) → (oc f5 x0 11 ∧ vl f5 x0 147 = .ref (w.1 2) ∧ (EvC l E w d MX2_next [.ref (w.1 2)] s3 f5 (fun o s7 f8 => KP o (fun r => r = none ∧ (oc f8 x0 11 ∧ vl f8 x0 147 = .ref (w.1 2) ∧ (EvC l E w d MX2_take [.ref (w.1 2), .int 40] s7 f8 (fun o s9 f10 => KP o (fun r => r = none ∧ (oc f10 a1 18 ∧ (∃ a11 : Nat, vl f10 a1 173 = .ref a11 ∧ ((¬ x1 = 5 → (∃ a12 : Nat, eSV E 1 = .ref a12 ∧ (tg f10 a12 = some (.inr 0) ∧ inB x1 (ln f10 a12) ∧ (∃ v13 : Int32, vl f10 a12 x1.toNatClampNeg = .int v13 ∧ (∃ a14 : Nat, eSV E 1 = .ref a14 ∧ (tg f10 a14 = some (.inr 0) ∧ inB x1 (ln f10 a14) ∧ (∃ v15 : Int32, vl f10 a14 x1.toNatClampNeg = .int v15 ∧ (oc f10 x0 11 ∧ EvC l E w d MX11_parts [.ref x0, .ref a11, .int v13, .int v15] s9 f10 (fun o s16 f17 => KP o (fun r => r = none ∧ Q (.inl (some (.ref a1))) s16 f17) (fun k => Q (.inr k) s16 f17)))))))))) ∧ (x1 = 5 → (∃ a19 : Nat, eSV E 1 = .ref a19 ∧ (tg f10 a19 = some (.inr 0) ∧ inB x1 (ln f10 a19) ∧ (∃ v20 : Int32, vl f10 a19 x1.toNatClampNeg = .int v20 ∧ (oc f10 x0 11 ∧ EvC l E w d MX11_parts [.ref x0, .ref a11, .int 0, .int v20] s9 f10 (fun o s21 f22 => KP o (fun r => r = none ∧ Q (.inl (some (.ref a1))) s21 f22) (fun k => Q (.inr k) s21 f22))))))))))) (fun k => Q (.inr k) s9 f10))))) (fun k => Q (.inr k) s7 f8)))))) (fun k => Q (.inr k) s3 f4))))) : EvC l E w (d + 1) MX11_builtIn_2 [.ref x0, .int x1, .int x2] s f Q :=
  EvC.of hst (by decide) (Nat.le_of_ble_eq_true rfl) (vR11_builtIn_2_0  hT)
theorem vR11_parts_0 {l : Launch} {E : EN} {w : CO} {d : Nat} {s : CS} {f : RH} {Q : KO → CS → RH → Prop} {x0 : Nat} {x1 : Nat} {x2 : Int32} {x3 : Int32}  (hT : (oc f x0 11 ∧ vl f x0 147 = .ref (w.1 2) ∧ (EvC l E w d MX2_is [.ref (w.1 2), .int 41] s f (fun o s1 f2 => KP o (fun r => ∃ v3 : Int32, r = some (.int v3) ∧ ((¬ v3 = 0 → ExC l E w (d + 1) MX11_parts 19 [some (.ref x0), some (.ref x1), some (.int x2), some (.int x3), some (.int 0)] [] s1 f2 Q) ∧ (v3 = 0 → ExC l E w (d + 1) MX11_parts 19 [some (.ref x0), some (.ref x1), some (.int x2), some (.int x3), some (.int 1)] [] s1 f2 Q))) (fun k => Q (.inr k) s1 f2))))) : ExC l E w (d + 1) MX11_parts 0 [some (.ref x0), some (.ref x1), some (.int x2), some (.int x3), none] [] s f Q := by
  intro f0 h hW hF
  refine x_aload_n dX11_parts_0 rfl rfl rfl ?_
  obtain ⟨hc, ev, hT⟩ := hT
  refine c_fgetG dX11_parts_1 f_TallySlate_Reader_23 hc (by decide) (by decide) hW ev ?_
  refine x_bipush (v := 41) dX11_parts_4 rfl ?_
  obtain ⟨-, -, cc, hcc, -⟩ := hW.ob 2 (by decide)
  refine c_invV (vs := [.int 41]) dX11_parts_6 oX2_is q820 q824 hcc q821 (Or.inl rfl) rfl rfl (Nat.le_of_ble_eq_true rfl) rfl hW hF hT ?_ ?_
  · intro _ s1 f2 hT h hW hF
    obtain ⟨v3, rfl, hT⟩ := hT
    refine x_if_ne (tgt := 16) dX11_parts_9 rfl (fun c => ?_) (fun c => ?_)
    · replace hT := hT.1 c
      refine x_iconst (v := 0) dX11_parts_16 rfl ?_
      refine x_istore (lo' := [some (.ref x0), some (.ref x1), some (.int x2), some (.int x3), some (.int 0)]) dX11_parts_17 (Nat.le_of_ble_eq_true rfl) rfl ?_
      exact hT f0 h hW hF
    · replace hT := hT.2 c
      refine x_iconst (v := 1) dX11_parts_12 rfl ?_
      refine x_goto (tgt := 17) dX11_parts_13 rfl ?_
      refine x_istore (lo' := [some (.ref x0), some (.ref x1), some (.int x2), some (.int x3), some (.int 1)]) dX11_parts_17 (Nat.le_of_ble_eq_true rfl) rfl ?_
      exact hT f0 h hW hF
  · intro k s1 f2 hT h a hW hx hF
    exact c_out (rfl) hW hx hF hT
theorem eR11_parts {l : Launch} {E : EN} {w : CO} {d : Nat} {s : CS} {f : RH} {Q : KO → CS → RH → Prop} {x0 : Nat} {x1 : Nat} {x2 : Int32} {x3 : Int32}  (hst : l.stackTraces = false) (hT : (oc f x0 11 ∧ vl f x0 147 = .ref (w.1 2) ∧ (EvC l E w d MX2_is [.ref (w.1 2), .int 41] s f (fun o s1 f2 => KP o (fun r => ∃ v3 : Int32, r = some (.int v3) ∧ ((¬ v3 = 0 → ExC l E w (d + 1) MX11_parts 19 [some (.ref x0), some (.ref x1), some (.int x2), some (.int x3), some (.int 0)] [] s1 f2 Q) ∧ (v3 = 0 → ExC l E w (d + 1) MX11_parts 19 [some (.ref x0), some (.ref x1), some (.int x2), some (.int x3), some (.int 1)] [] s1 f2 Q))) (fun k => Q (.inr k) s1 f2))))) : EvC l E w (d + 1) MX11_parts [.ref x0, .ref x1, .int x2, .int x3] s f Q :=
  EvC.of hst (by decide) (Nat.le_of_ble_eq_true rfl) (vR11_parts_0  hT)
set_option maxHeartbeats 16000000 in
theorem vR11_parts_19 {l : Launch} {E : EN} {w : CO} {d : Nat} {s : CS} {f : RH} {Q : KO → CS → RH → Prop} {b0 : Nat} {b1 : Nat} {b2 : Int32} {b3 : Int32} {b4 : Int32}  (hT : ((b4 = 0 → (oc f b0 11 ∧ vl f b0 147 = .ref (w.1 2) ∧ (EvC l E w d MX2_is [.ref (w.1 2), .int 41] s f (fun o s4 f5 => KP o (fun r => ∃ v6 : Int32, r = some (.int v6) ∧ ((v6 = 0 → (oc f5 b0 11 ∧ vl f5 b0 147 = .ref (w.1 2) ∧ (EvC l E w d MX2_take [.ref (w.1 2), .int 41] s4 f5 (fun o s7 f8 => KP o (fun r => r = none ∧ Q (.inl none) s7 f8) (fun k => Q (.inr k) s7 f8))))) ∧ (¬ v6 = 0 → (oc f5 b1 17 ∧ (∃ v9 : Int32, vl f5 b1 171 = .int v9 ∧ ((b2 ≤ v9 → (oc f5 b0 11 ∧ vl f5 b0 147 = .ref (w.1 2) ∧ (EvC l E w d MX2_take [.ref (w.1 2), .int 41] s4 f5 (fun o s10 f11 => KP o (fun r => r = none ∧ Q (.inl none) s10 f11) (fun k => Q (.inr k) s10 f11))))) ∧ (¬ b2 ≤ v9 → (oc f5 b0 11 ∧ vl f5 b0 147 = .ref (w.1 2) ∧ (oc f5 b0 11 ∧ vl f5 b0 147 = .ref (w.1 2) ∧ (EvC l E w d MX2_wrong [.ref (w.1 2), .int 5, .int (s4.1 21)] s4 f5 (fun o s12 f13 => KP o (fun r => r = some (.ref (w.1 1)) ∧ Q (.inr 1) s12 f13) (fun k => Q (.inr k) s12 f13)))))))))))) (fun k => Q (.inr k) s4 f5))))) ∧ (¬ b4 = 0 → (oc f b0 11 ∧ EvC l E w d MX11_expression [.ref b0] s f (fun o s14 f15 => KP o (fun r => ∃ a16 : Nat, r = some (.ref a16) ∧ (oc f15 b1 17 ∧ EvC l E w d MX19_add [.ref b1, .ref a16, .int 0, .int 0] s14 f15 (fun o s17 f18 => KP o (fun r => r = none ∧ (oc f18 b0 11 ∧ vl f18 b0 147 = .ref (w.1 2) ∧ (EvC l E w d MX2_is [.ref (w.1 2), .int 44] s17 f18 (fun o s19 f20 => KP o (fun r => ∃ v21 : Int32, r = some (.int v21) ∧ ((v21 = 0 → ((v21 = 0 → ExC l E w (d + 1) MX11_parts 19 [some (.ref b0), some (.ref b1), some (.int b2), some (.int b3), some (.int v21)] [] s19 f20 Q) ∧ (¬ v21 = 0 → (oc f20 b0 11 ∧ vl f20 b0 147 = .ref (w.1 2) ∧ (EvC l E w d MX2_next [.ref (w.1 2)] s19 f20 (fun o s22 f23 => KP o (fun r => r = none ∧ ExC l E w (d + 1) MX11_parts 19 [some (.ref b0), some (.ref b1), some (.int b2), some (.int b3), some (.int v21)] [] s22 f23 Q) (fun k => Q (.inr k) s22 f23))))))) ∧ (¬ v21 = 0 → (oc f20 b1 17 ∧ (∃ v24 : Int32, vl f20 b1 171 = .int v24 ∧ ((¬ v24 = b3 → ((v21 = 0 → ExC l E w (d + 1) MX11_parts 19 [some (.ref b0), some (.ref b1), some (.int b2), some (.int b3), some (.int v21)] [] s19 f20 Q) ∧ (¬ v21 = 0 → (oc f20 b0 11 ∧ vl f20 b0 147 = .ref (w.1 2) ∧ (EvC l E w d MX2_next [.ref (w.1 2)] s19 f20 (fun o s25 f26 => KP o (fun r => r = none ∧ ExC l E w (d + 1) MX11_parts 19 [some (.ref b0), some (.ref b1), some (.int b2), some (.int b3), some (.int v21)] [] s25 f26 Q) (fun k => Q (.inr k) s25 f26))))))) ∧ (v24 = b3 → (oc f20 b0 11 ∧ vl f20 b0 147 = .ref (w.1 2) ∧ (oc f20 b0 11 ∧ vl f20 b0 147 = .ref (w.1 2) ∧ (EvC l E w d MX2_wrong [.ref (w.1 2), .int 5, .int (s19.1 21)] s19 f20 (fun o s27 f28 => KP o (fun r => r = some (.ref (w.1 1)) ∧ Q (.inr 1) s27 f28) (fun k => Q (.inr k) s27 f28)))))))))))) (fun k => Q (.inr k) s19 f20))))) (fun k => Q (.inr k) s17 f18)))) (fun k => Q (.inr k) s14 f15)))))) : ExC l E w (d + 1) MX11_parts 19 [some (.ref b0), some (.ref b1), some (.int b2), some (.int b3), some (.int b4)] [] s f Q := by
  intro f0 h hW hF
  refine x_iload dX11_parts_19 rfl ?_
  refine x_if_eq (tgt := 89) dX11_parts_21 rfl (fun c => ?_) (fun c => ?_)
  · replace hT := hT.1 c
    refine x_aload_n dX11_parts_89 rfl rfl rfl ?_
    obtain ⟨hc, ev, hT⟩ := hT
    refine c_fgetG dX11_parts_90 f_TallySlate_Reader_23 hc (by decide) (by decide) hW ev ?_
    refine x_bipush (v := 41) dX11_parts_93 rfl ?_
    obtain ⟨-, -, cc, hcc, -⟩ := hW.ob 2 (by decide)
    refine c_invV (vs := [.int 41]) dX11_parts_95 oX2_is q820 q824 hcc q821 (Or.inl rfl) rfl rfl (Nat.le_of_ble_eq_true rfl) rfl hW hF hT ?_ ?_
    · intro _ s4 f5 hT h hW hF
      obtain ⟨v6, rfl, hT⟩ := hT
      refine x_if_eq (tgt := 125) dX11_parts_98 rfl (fun c => ?_) (fun c => ?_)
      · replace hT := hT.1 c
        refine x_aload_n dX11_parts_125 rfl rfl rfl ?_
        obtain ⟨hc, ev, hT⟩ := hT
        refine c_fgetG dX11_parts_126 f_TallySlate_Reader_23 hc (by decide) (by decide) hW ev ?_
        refine x_bipush (v := 41) dX11_parts_129 rfl ?_
        obtain ⟨-, -, cc, hcc, -⟩ := hW.ob 2 (by decide)
        refine c_invV (vs := [.int 41]) dX11_parts_131 oX2_take q816 q815 hcc q817 (Or.inl rfl) rfl rfl (Nat.le_of_ble_eq_true rfl) rfl hW hF hT ?_ ?_
        · intro _ s7 f8 hT h hW hF
          obtain ⟨rfl, hT⟩ := hT
          exact x_vret dX11_parts_134 rfl ⟨_, _, hW, hF, Or.inl ⟨_, rfl, hT⟩⟩
        · intro k s7 f8 hT h a hW hx hF
          exact c_out (rfl) hW hx hF hT
      · replace hT := hT.2 c
        refine x_aload_n dX11_parts_101 rfl rfl rfl ?_
        obtain ⟨hc, hT⟩ := hT
        obtain ⟨v9, ev, hT⟩ := hT
        refine c_fgetG dX11_parts_102 f_TallySlate_Reader_342 hc (by decide) (by decide) hW ev ?_
        refine x_iload_n dX11_parts_105 rfl rfl ?_
        refine x_icmp_ge (tgt := 125) dX11_parts_106 rfl (fun c => ?_) (fun c => ?_)
        · replace hT := hT.1 c
          refine x_aload_n dX11_parts_125 rfl rfl rfl ?_
          obtain ⟨hc, ev, hT⟩ := hT
          refine c_fgetG dX11_parts_126 f_TallySlate_Reader_23 hc (by decide) (by decide) hW ev ?_
          refine x_bipush (v := 41) dX11_parts_129 rfl ?_
          obtain ⟨-, -, cc, hcc, -⟩ := hW.ob 2 (by decide)
          refine c_invV (vs := [.int 41]) dX11_parts_131 oX2_take q816 q815 hcc q817 (Or.inl rfl) rfl rfl (Nat.le_of_ble_eq_true rfl) rfl hW hF hT ?_ ?_
          · intro _ s10 f11 hT h hW hF
            obtain ⟨rfl, hT⟩ := hT
            exact x_vret dX11_parts_134 rfl ⟨_, _, hW, hF, Or.inl ⟨_, rfl, hT⟩⟩
          · intro k s10 f11 hT h a hW hx hF
            exact c_out (rfl) hW hx hF hT
        · replace hT := hT.2 c
          refine x_aload_n dX11_parts_109 rfl rfl rfl ?_
          obtain ⟨hc, ev, hT⟩ := hT
          refine c_fgetG dX11_parts_110 f_TallySlate_Reader_23 hc (by decide) (by decide) hW ev ?_
          refine x_iconst (v := 5) dX11_parts_113 rfl ?_
          refine x_aload_n dX11_parts_114 rfl rfl rfl ?_
          obtain ⟨hc, ev, hT⟩ := hT
          refine c_fgetG dX11_parts_115 f_TallySlate_Reader_23 hc (by decide) (by decide) hW ev ?_
          refine c_getI (v := (s4.1 21)) dX11_parts_118 f_TallySlate_Reader_45 (by decide) (by decide) rfl hW rfl ?_
          obtain ⟨-, -, cc, hcc, -⟩ := hW.ob 2 (by decide)
          refine c_invV (vs := [.int 5, .int (s4.1 21)]) dX11_parts_121 oX2_wrong q564 q772 hcc q565 (Or.inl rfl) rfl rfl (Nat.le_of_ble_eq_true rfl) rfl hW hF hT ?_ ?_
          · intro _ s12 f13 hT h hW hF
            obtain ⟨rfl, hT⟩ := hT
            refine x_athrow dX11_parts_124 ?_
            exact c_out (rfl) hW (Or.inr (Or.inl ⟨rfl, rfl⟩)) hF hT
          · intro k s12 f13 hT h a hW hx hF
            exact c_out (rfl) hW hx hF hT
    · intro k s4 f5 hT h a hW hx hF
      exact c_out (rfl) hW hx hF hT
  · replace hT := hT.2 c
    refine x_aload_n dX11_parts_24 rfl rfl rfl ?_
    refine x_aload_n dX11_parts_25 rfl rfl rfl ?_
    obtain ⟨hc, hT⟩ := hT
    obtain ⟨cc, hcc⟩ := hW.ocell hc
    refine c_invV (vs := []) dX11_parts_26 oX11_expression q893 q891 hcc qs14 (Or.inl rfl) rfl rfl (Nat.le_of_ble_eq_true rfl) rfl hW hF hT ?_ ?_
    · intro _ s14 f15 hT h hW hF
      obtain ⟨a16, rfl, hT⟩ := hT
      refine x_iconst (v := 0) dX11_parts_29 rfl ?_
      refine x_iconst (v := 0) dX11_parts_30 rfl ?_
      obtain ⟨hc, hT⟩ := hT
      obtain ⟨cc, hcc⟩ := hW.ocell hc
      refine c_invV (vs := [.ref a16, .int 0, .int 0]) dX11_parts_31 oX19_add q992 q991 hcc q993 (Or.inl rfl) rfl rfl (Nat.le_of_ble_eq_true rfl) rfl hW hF hT ?_ ?_
      · intro _ s17 f18 hT h hW hF
        obtain ⟨rfl, hT⟩ := hT
        refine x_aload_n dX11_parts_34 rfl rfl rfl ?_
        obtain ⟨hc, ev, hT⟩ := hT
        refine c_fgetG dX11_parts_35 f_TallySlate_Reader_23 hc (by decide) (by decide) hW ev ?_
        refine x_bipush (v := 44) dX11_parts_38 rfl ?_
        obtain ⟨-, -, cc, hcc, -⟩ := hW.ob 2 (by decide)
        refine c_invV (vs := [.int 44]) dX11_parts_40 oX2_is q820 q824 hcc q821 (Or.inl rfl) rfl rfl (Nat.le_of_ble_eq_true rfl) rfl hW hF hT ?_ ?_
        · intro _ s19 f20 hT h hW hF
          obtain ⟨v21, rfl, hT⟩ := hT
          refine x_istore (lo' := [some (.ref b0), some (.ref b1), some (.int b2), some (.int b3), some (.int v21)]) dX11_parts_43 (Nat.le_of_ble_eq_true rfl) rfl ?_
          refine x_iload dX11_parts_45 rfl ?_
          refine x_if_eq (tgt := 74) dX11_parts_47 rfl (fun c => ?_) (fun c => ?_)
          · replace hT := hT.1 c
            refine x_iload dX11_parts_74 rfl ?_
            refine x_if_eq (tgt := 19) dX11_parts_76 rfl (fun c => ?_) (fun c => ?_)
            · replace hT := hT.1 c
              exact hT f0 h hW hF
            · replace hT := hT.2 c
              refine x_aload_n dX11_parts_79 rfl rfl rfl ?_
              obtain ⟨hc, ev, hT⟩ := hT
              refine c_fgetG dX11_parts_80 f_TallySlate_Reader_23 hc (by decide) (by decide) hW ev ?_
              obtain ⟨-, -, cc, hcc, -⟩ := hW.ob 2 (by decide)
              refine c_invV (vs := []) dX11_parts_83 oX2_next q610 q609 hcc q611 (Or.inl rfl) rfl rfl (Nat.le_of_ble_eq_true rfl) rfl hW hF hT ?_ ?_
              · intro _ s22 f23 hT h hW hF
                obtain ⟨rfl, hT⟩ := hT
                refine x_goto (tgt := 19) dX11_parts_86 rfl ?_
                exact hT f0 h hW hF
              · intro k s22 f23 hT h a hW hx hF
                exact c_out (rfl) hW hx hF hT
          · replace hT := hT.2 c
            refine x_aload_n dX11_parts_50 rfl rfl rfl ?_
            obtain ⟨hc, hT⟩ := hT
            obtain ⟨v24, ev, hT⟩ := hT
            refine c_fgetG dX11_parts_51 f_TallySlate_Reader_342 hc (by decide) (by decide) hW ev ?_
            refine x_iload_n dX11_parts_54 rfl rfl ?_
            refine x_icmp_ne (tgt := 74) dX11_parts_55 rfl (fun c => ?_) (fun c => ?_)
            · replace hT := hT.1 c
              refine x_iload dX11_parts_74 rfl ?_
              refine x_if_eq (tgt := 19) dX11_parts_76 rfl (fun c => ?_) (fun c => ?_)
              · replace hT := hT.1 c
                exact hT f0 h hW hF
              · replace hT := hT.2 c
                refine x_aload_n dX11_parts_79 rfl rfl rfl ?_
                obtain ⟨hc, ev, hT⟩ := hT
                refine c_fgetG dX11_parts_80 f_TallySlate_Reader_23 hc (by decide) (by decide) hW ev ?_
                obtain ⟨-, -, cc, hcc, -⟩ := hW.ob 2 (by decide)
                refine c_invV (vs := []) dX11_parts_83 oX2_next q610 q609 hcc q611 (Or.inl rfl) rfl rfl (Nat.le_of_ble_eq_true rfl) rfl hW hF hT ?_ ?_
                · intro _ s25 f26 hT h hW hF
                  obtain ⟨rfl, hT⟩ := hT
                  refine x_goto (tgt := 19) dX11_parts_86 rfl ?_
                  exact hT f0 h hW hF
                · intro k s25 f26 hT h a hW hx hF
                  exact c_out (rfl) hW hx hF hT
            · replace hT := hT.2 c
              refine x_aload_n dX11_parts_58 rfl rfl rfl ?_
              obtain ⟨hc, ev, hT⟩ := hT
              refine c_fgetG dX11_parts_59 f_TallySlate_Reader_23 hc (by decide) (by decide) hW ev ?_
              refine x_iconst (v := 5) dX11_parts_62 rfl ?_
              refine x_aload_n dX11_parts_63 rfl rfl rfl ?_
              obtain ⟨hc, ev, hT⟩ := hT
              refine c_fgetG dX11_parts_64 f_TallySlate_Reader_23 hc (by decide) (by decide) hW ev ?_
              refine c_getI (v := (s19.1 21)) dX11_parts_67 f_TallySlate_Reader_45 (by decide) (by decide) rfl hW rfl ?_
              obtain ⟨-, -, cc, hcc, -⟩ := hW.ob 2 (by decide)
              refine c_invV (vs := [.int 5, .int (s19.1 21)]) dX11_parts_70 oX2_wrong q564 q772 hcc q565 (Or.inl rfl) rfl rfl (Nat.le_of_ble_eq_true rfl) rfl hW hF hT ?_ ?_
              · intro _ s27 f28 hT h hW hF
                obtain ⟨rfl, hT⟩ := hT
                refine x_athrow dX11_parts_73 ?_
                exact c_out (rfl) hW (Or.inr (Or.inl ⟨rfl, rfl⟩)) hF hT
              · intro k s27 f28 hT h a hW hx hF
                exact c_out (rfl) hW hx hF hT
        · intro k s19 f20 hT h a hW hx hF
          exact c_out (rfl) hW hx hF hT
      · intro k s17 f18 hT h a hW hx hF
        exact c_out (rfl) hW hx hF hT
    · intro k s14 f15 hT h a hW hx hF
      exact c_out (rfl) hW hx hF hT
set_option maxHeartbeats 16000000 in
theorem vR11_remember_0 {l : Launch} {E : EN} {w : CO} {d : Nat} {s : CS} {f : RH} {Q : KO → CS → RH → Prop} {x0 : Nat} {x1 : Nat}  (hT : (oc f x0 11 ∧ vl f x0 147 = .ref (w.1 2) ∧ (EvC l E w d MX2_name [.ref (w.1 2)] s f (fun o s1 f2 => KP o (fun r => ∃ v3 : Int64, r = some (.long v3) ∧ (oc f2 x1 19 ∧ f2.2.2.2 ≤ x1 ∧ ∀ f4 : RH, f4 = fset f2 x1 175 (.long v3) → (oc f4 x0 11 ∧ vl f4 x0 147 = .ref (w.1 2) ∧ (oc f4 x1 19 ∧ f4.2.2.2 ≤ x1 ∧ ∀ f5 : RH, f5 = fset f4 x1 176 (.int (s1.1 21)) → (oc f5 x0 11 ∧ (∃ v6 : Int32, vl f5 x0 152 = .int v6 ∧ (oc f5 x0 11 ∧ (∃ a7 : Nat, vl f5 x0 151 = .ref a7 ∧ (∃ t8 : Nat, tg f5 a7 = some (.inr t8) ∧ ((¬ v6 = (nI (ln f5 a7)) → (oc f5 x0 11 ∧ (∃ a9 : Nat, vl f5 x0 151 = .ref a9 ∧ (oc f5 x0 11 ∧ (∃ v10 : Int32, vl f5 x0 152 = .int v10 ∧ (∃ k14 : Nat, (tg f5 a9 = some (.inr 8) ∧ tg f5 x1 = some (.inl k14) ∧ k14 ∈ CKs 8 ∧ inB v10 (ln f5 a9) ∧ f5.2.2.2 ≤ a9 ∧ ∀ f11 : RH, f11 = fset f5 a9 v10.toNatClampNeg (.ref x1) → (oc f11 x0 11 ∧ (∃ v12 : Int32, vl f11 x0 152 = .int v12 ∧ (oc f11 x0 11 ∧ f11.2.2.2 ≤ x0 ∧ ∀ f13 : RH, f13 = fset f11 x0 152 (.int (v12 + 1)) → Q (.inl none) s1 f13)))))))))) ∧ (v6 = (nI (ln f5 a7)) → (oc f5 x0 11 ∧ (∃ v15 : Int32, vl f5 x0 152 = .int v15 ∧ (¬ (4 * v15) < 0 ∧ (4 * v15).toNatClampNeg ≤ 60000000 ∧ rmF E f5 1 (4 * v15).toNatClampNeg ∧ ∀ (a16 : Nat) (f17 : RH), a16 = f5.1 → f17 = fnewA f5 8 (4 * v15).toNatClampNeg → ExC l E w (d + 1) MX11_remember 46 [some (.ref x0), some (.ref x1), some (.ref a16), some (.int 0)] [] s1 f17 Q)))))))))))))) (fun k => Q (.inr k) s1 f2))))) : ExC l E w (d + 1) MX11_remember 0 [some (.ref x0), some (.ref x1), none, none] [] s f Q := by
  intro f0 h hW hF
  refine x_aload_n dX11_remember_0 rfl rfl rfl ?_
  refine x_aload_n dX11_remember_1 rfl rfl rfl ?_
  obtain ⟨hc, ev, hT⟩ := hT
  refine c_fgetG dX11_remember_2 f_TallySlate_Reader_23 hc (by decide) (by decide) hW ev ?_
  obtain ⟨-, -, cc, hcc, -⟩ := hW.ob 2 (by decide)
  refine c_invV (vs := []) dX11_remember_5 oX2_name q806 q805 hcc q807 (Or.inl rfl) rfl rfl (Nat.le_of_ble_eq_true rfl) rfl hW hF hT ?_ ?_
  · intro _ s1 f2 hT h hW hF
    obtain ⟨v3, rfl, hT⟩ := hT
    obtain ⟨hc, hz, hT⟩ := hT
    refine c_fputG dX11_remember_8 f_TallySlate_Reader_66 hc (by decide) (by decide) hz (Or.inl rfl) rfl rfl hW hF ?_
    intro f4 ef4 h hW hF
    replace hT := hT f4 ef4
    refine x_aload_n dX11_remember_11 rfl rfl rfl ?_
    refine x_aload_n dX11_remember_12 rfl rfl rfl ?_
    obtain ⟨hc, ev, hT⟩ := hT
    refine c_fgetG dX11_remember_13 f_TallySlate_Reader_23 hc (by decide) (by decide) hW ev ?_
    refine c_getI (v := (s1.1 21)) dX11_remember_16 f_TallySlate_Reader_45 (by decide) (by decide) rfl hW rfl ?_
    obtain ⟨hc, hz, hT⟩ := hT
    refine c_fputG dX11_remember_19 f_TallySlate_Reader_76 hc (by decide) (by decide) hz (Or.inl rfl) rfl rfl hW hF ?_
    intro f5 ef5 h hW hF
    replace hT := hT f5 ef5
    refine x_aload_n dX11_remember_22 rfl rfl rfl ?_
    obtain ⟨hc, hT⟩ := hT
    obtain ⟨v6, ev, hT⟩ := hT
    refine c_fgetG dX11_remember_23 f_TallySlate_Reader_52 hc (by decide) (by decide) hW ev ?_
    refine x_aload_n dX11_remember_26 rfl rfl rfl ?_
    obtain ⟨hc, hT⟩ := hT
    obtain ⟨a7, ev, hT⟩ := hT
    refine c_fgetG dX11_remember_27 f_TallySlate_Reader_19 hc (by decide) (by decide) hW ev ?_
    obtain ⟨t8, hc, hT⟩ := hT
    refine c_alen dX11_remember_30 hc hW ?_
    refine x_icmp_ne (tgt := 74) dX11_remember_31 rfl (fun c => ?_) (fun c => ?_)
    · replace hT := hT.1 c
      refine x_aload_n dX11_remember_74 rfl rfl rfl ?_
      obtain ⟨hc, hT⟩ := hT
      obtain ⟨a9, ev, hT⟩ := hT
      refine c_fgetG dX11_remember_75 f_TallySlate_Reader_19 hc (by decide) (by decide) hW ev ?_
      refine x_aload_n dX11_remember_78 rfl rfl rfl ?_
      obtain ⟨hc, hT⟩ := hT
      obtain ⟨v10, ev, hT⟩ := hT
      refine c_fgetG dX11_remember_79 f_TallySlate_Reader_52 hc (by decide) (by decide) hW ev ?_
      refine x_aload_n dX11_remember_82 rfl rfl rfl ?_
      obtain ⟨k14, hc, hv, hck, hT⟩ := hT
      obtain ⟨hb, hz, hT⟩ := hT
      refine c_faastG dX11_remember_83 hc (by decide) hv hck hb hz hW hF ?_
      intro f11 ef11 h hW hF
      replace hT := hT f11 ef11
      refine x_aload_n dX11_remember_84 rfl rfl rfl ?_
      refine x_dup dX11_remember_85 rfl ?_
      obtain ⟨hc, hT⟩ := hT
      obtain ⟨v12, ev, hT⟩ := hT
      refine c_fgetG dX11_remember_86 f_TallySlate_Reader_52 hc (by decide) (by decide) hW ev ?_
      refine x_iconst (v := 1) dX11_remember_89 rfl ?_
      refine x_iadd dX11_remember_90 ?_
      obtain ⟨hc, hz, hT⟩ := hT
      refine c_fputG dX11_remember_91 f_TallySlate_Reader_52 hc (by decide) (by decide) hz (Or.inl rfl) rfl rfl hW hF ?_
      intro f13 ef13 h hW hF
      replace hT := hT f13 ef13
      exact x_vret dX11_remember_94 rfl ⟨_, _, hW, hF, Or.inl ⟨_, rfl, hT⟩⟩
    · replace hT := hT.2 c
      refine x_iconst (v := 4) dX11_remember_34 rfl ?_
      refine x_aload_n dX11_remember_35 rfl rfl rfl ?_
      obtain ⟨hc, hT⟩ := hT
      obtain ⟨v15, ev, hT⟩ := hT
      refine c_fgetG dX11_remember_36 f_TallySlate_Reader_52 hc (by decide) (by decide) hW ev ?_
      refine x_imul dX11_remember_39 ?_
      obtain ⟨hn, hT⟩ := hT
      obtain ⟨hb, hr, hT⟩ := hT
      refine c_anewarrayG (t := 8) dX11_remember_40 (by decide) (by decide) (by decide) rfl q583 (Or.inl ⟨_, rfl, q582⟩) hn hb hr hW hF ?_
      intro a16 f17 ea16 ef17 h hW hF
      replace hT := hT a16 f17 ea16 ef17
      refine x_astore_n (lo' := [some (.ref x0), some (.ref x1), some (.ref a16), none]) dX11_remember_43 rfl (Nat.le_of_ble_eq_true rfl) rfl rfl ?_
      refine x_iconst (v := 0) dX11_remember_44 rfl ?_
      refine x_istore_n (lo' := [some (.ref x0), some (.ref x1), some (.ref a16), some (.int 0)]) dX11_remember_45 rfl (Nat.le_of_ble_eq_true rfl) rfl ?_
      exact hT f0 h hW hF
  · intro k s1 f2 hT h a hW hx hF
    exact c_out (rfl) hW hx hF hT
theorem eR11_remember {l : Launch} {E : EN} {w : CO} {d : Nat} {s : CS} {f : RH} {Q : KO → CS → RH → Prop} {x0 : Nat} {x1 : Nat}  (hst : l.stackTraces = false) (hT : (oc f x0 11 ∧ vl f x0 147 = .ref (w.1 2) ∧ (EvC l E w d MX2_name [.ref (w.1 2)] s f (fun o s1 f2 => KP o (fun r => ∃ v3 : Int64, r = some (.long v3) ∧ (oc f2 x1 19 ∧ f2.2.2.2 ≤ x1 ∧ ∀ f4 : RH, f4 = fset f2 x1 175 (.long v3) → (oc f4 x0 11 ∧ vl f4 x0 147 = .ref (w.1 2) ∧ (oc f4 x1 19 ∧ f4.2.2.2 ≤ x1 ∧ ∀ f5 : RH, f5 = fset f4 x1 176 (.int (s1.1 21)) → (oc f5 x0 11 ∧ (∃ v6 : Int32, vl f5 x0 152 = .int v6 ∧ (oc f5 x0 11 ∧ (∃ a7 : Nat, vl f5 x0 151 = .ref a7 ∧ (∃ t8 : Nat, tg f5 a7 = some (.inr t8) ∧ ((¬ v6 = (nI (ln f5 a7)) → (oc f5 x0 11 ∧ (∃ a9 : Nat, vl f5 x0 151 = .ref a9 ∧ (oc f5 x0 11 ∧ (∃ v10 : Int32, vl f5 x0 152 = .int v10 ∧ (∃ k14 : Nat, (tg f5 a9 = some (.inr 8) ∧ tg f5 x1 = some (.inl k14) ∧ k14 ∈ CKs 8 ∧ inB v10 (ln f5 a9) ∧ f5.2.2.2 ≤ a9 ∧ ∀ f11 : RH, f11 = fset f5 a9 v10.toNatClampNeg (.ref x1) → (oc f11 x0 11 ∧ (∃ v12 : Int32, vl f11 x0 152 = .int v12 ∧ (oc f11 x0 11 ∧ f11.2.2.2 ≤ x0 ∧ ∀ f13 : RH, f13 = fset f11 x0 152 (.int (v12 + 1)) → Q (.inl none) s1 f13)))))))))) ∧ (v6 = (nI (ln f5 a7)) → (oc f5 x0 11 ∧ (∃ v15 : Int32, vl f5 x0 152 = .int v15 ∧ (¬ (4 * v15) < 0 ∧ (4 * v15).toNatClampNeg ≤ 60000000 ∧ rmF E f5 1 (4 * v15).toNatClampNeg ∧ ∀ (a16 : Nat) (f17 : RH), a16 = f5.1 → f17 = fnewA f5 8 (4 * v15).toNatClampNeg → ExC l E w (d + 1) MX11_remember 46 [some (.ref x0), some (.ref x1), some (.ref a16), some (.int 0)] [] s1 f17 Q)))))))))))))) (fun k => Q (.inr k) s1 f2))))) : EvC l E w (d + 1) MX11_remember [.ref x0, .ref x1] s f Q :=
  EvC.of hst (by decide) (Nat.le_of_ble_eq_true rfl) (vR11_remember_0  hT)
theorem vR11_remember_46 {l : Launch} {E : EN} {w : CO} {d : Nat} {s : CS} {f : RH} {Q : KO → CS → RH → Prop} {b0 : Nat} {b1 : Nat} {b2 : Nat} {b3 : Int32}  (hT : (oc f b0 11 ∧ (∃ v18 : Int32, vl f b0 152 = .int v18 ∧ ((v18 ≤ b3 → (oc f b0 11 ∧ f.2.2.2 ≤ b0 ∧ ∀ f19 : RH, f19 = fset f b0 151 (.ref b2) → (oc f19 b0 11 ∧ (∃ a20 : Nat, vl f19 b0 151 = .ref a20 ∧ (oc f19 b0 11 ∧ (∃ v21 : Int32, vl f19 b0 152 = .int v21 ∧ (∃ k25 : Nat, (tg f19 a20 = some (.inr 8) ∧ tg f19 b1 = some (.inl k25) ∧ k25 ∈ CKs 8 ∧ inB v21 (ln f19 a20) ∧ f19.2.2.2 ≤ a20 ∧ ∀ f22 : RH, f22 = fset f19 a20 v21.toNatClampNeg (.ref b1) → (oc f22 b0 11 ∧ (∃ v23 : Int32, vl f22 b0 152 = .int v23 ∧ (oc f22 b0 11 ∧ f22.2.2.2 ≤ b0 ∧ ∀ f24 : RH, f24 = fset f22 b0 152 (.int (v23 + 1)) → Q (.inl none) s f24))))))))))) ∧ (¬ v18 ≤ b3 → (oc f b0 11 ∧ (∃ a26 : Nat, vl f b0 151 = .ref a26 ∧ (∃ t27 : Nat, 4 ≤ t27 ∧ (tg f a26 = some (.inr t27) ∧ inB b3 (ln f a26) ∧ (∃ a28 : Nat, vl f a26 b3.toNatClampNeg = .ref a28 ∧ (∃ k30 : Nat, (tg f b2 = some (.inr 8) ∧ tg f a28 = some (.inl k30) ∧ k30 ∈ CKs 8 ∧ inB b3 (ln f b2) ∧ f.2.2.2 ≤ b2 ∧ ∀ f29 : RH, f29 = fset f b2 b3.toNatClampNeg (.ref a28) → ExC l E w (d + 1) MX11_remember 46 [some (.ref b0), some (.ref b1), some (.ref b2), some (.int (b3 + 1))] [] s f29 Q)))))))))))) : ExC l E w (d + 1) MX11_remember 46 [some (.ref b0), some (.ref b1), some (.ref b2), some (.int b3)] [] s f Q := by
  intro f0 h hW hF
  refine x_iload_n dX11_remember_46 rfl rfl ?_
  refine x_aload_n dX11_remember_47 rfl rfl rfl ?_
  obtain ⟨hc, hT⟩ := hT
  obtain ⟨v18, ev, hT⟩ := hT
  refine c_fgetG dX11_remember_48 f_TallySlate_Reader_52 hc (by decide) (by decide) hW ev ?_
  refine x_icmp_ge (tgt := 69) dX11_remember_51 rfl (fun c => ?_) (fun c => ?_)
  · replace hT := hT.1 c
    refine x_aload_n dX11_remember_69 rfl rfl rfl ?_
    refine x_aload_n dX11_remember_70 rfl rfl rfl ?_
    obtain ⟨hc, hz, hT⟩ := hT
    refine c_fputG dX11_remember_71 f_TallySlate_Reader_19 hc (by decide) (by decide) hz (Or.inl rfl) rfl rfl hW hF ?_
    intro f19 ef19 h hW hF
    replace hT := hT f19 ef19
    refine x_aload_n dX11_remember_74 rfl rfl rfl ?_
    obtain ⟨hc, hT⟩ := hT
    obtain ⟨a20, ev, hT⟩ := hT
    refine c_fgetG dX11_remember_75 f_TallySlate_Reader_19 hc (by decide) (by decide) hW ev ?_
    refine x_aload_n dX11_remember_78 rfl rfl rfl ?_
    obtain ⟨hc, hT⟩ := hT
    obtain ⟨v21, ev, hT⟩ := hT
    refine c_fgetG dX11_remember_79 f_TallySlate_Reader_52 hc (by decide) (by decide) hW ev ?_
    refine x_aload_n dX11_remember_82 rfl rfl rfl ?_
    obtain ⟨k25, hc, hv, hck, hT⟩ := hT
    obtain ⟨hb, hz, hT⟩ := hT
    refine c_faastG dX11_remember_83 hc (by decide) hv hck hb hz hW hF ?_
    intro f22 ef22 h hW hF
    replace hT := hT f22 ef22
    refine x_aload_n dX11_remember_84 rfl rfl rfl ?_
    refine x_dup dX11_remember_85 rfl ?_
    obtain ⟨hc, hT⟩ := hT
    obtain ⟨v23, ev, hT⟩ := hT
    refine c_fgetG dX11_remember_86 f_TallySlate_Reader_52 hc (by decide) (by decide) hW ev ?_
    refine x_iconst (v := 1) dX11_remember_89 rfl ?_
    refine x_iadd dX11_remember_90 ?_
    obtain ⟨hc, hz, hT⟩ := hT
    refine c_fputG dX11_remember_91 f_TallySlate_Reader_52 hc (by decide) (by decide) hz (Or.inl rfl) rfl rfl hW hF ?_
    intro f24 ef24 h hW hF
    replace hT := hT f24 ef24
    exact x_vret dX11_remember_94 rfl ⟨_, _, hW, hF, Or.inl ⟨_, rfl, hT⟩⟩
  · replace hT := hT.2 c
    refine x_aload_n dX11_remember_54 rfl rfl rfl ?_
    refine x_iload_n dX11_remember_55 rfl rfl ?_
    refine x_aload_n dX11_remember_56 rfl rfl rfl ?_
    obtain ⟨hc, hT⟩ := hT
    obtain ⟨a26, ev, hT⟩ := hT
    refine c_fgetG dX11_remember_57 f_TallySlate_Reader_19 hc (by decide) (by decide) hW ev ?_
    refine x_iload_n dX11_remember_60 rfl rfl ?_
    obtain ⟨t27, ht2, hc, hT⟩ := hT
    obtain ⟨hb, hT⟩ := hT
    obtain ⟨a28, ev, hT⟩ := hT
    refine c_faald dX11_remember_61 hc ht2 hb hW ev ?_
    obtain ⟨k30, hc, hv, hck, hT⟩ := hT
    obtain ⟨hb, hz, hT⟩ := hT
    refine c_faastG dX11_remember_62 hc (by decide) hv hck hb hz hW hF ?_
    intro f29 ef29 h hW hF
    replace hT := hT f29 ef29
    refine x_iinc (lo' := [some (.ref b0), some (.ref b1), some (.ref b2), some (.int (b3 + 1))]) dX11_remember_63 rfl (show _ = (b3 + 1) from rfl) rfl ?_
    refine x_goto (tgt := 46) dX11_remember_66 rfl ?_
    exact hT f0 h hW hF
theorem vR11_name_0 {l : Launch} {E : EN} {w : CO} {d : Nat} {s : CS} {f : RH} {Q : KO → CS → RH → Prop} {x0 : Nat}  (hT : (oc f x0 11 ∧ EvC l E w d MX11_wantName [.ref x0] s f (fun o s1 f2 => KP o (fun r => r = none ∧ (oc f2 x0 11 ∧ vl f2 x0 147 = .ref (w.1 2) ∧ (EvC l E w d MX2_name [.ref (w.1 2)] s1 f2 (fun o s3 f4 => KP o (fun r => ∃ v5 : Int64, r = some (.long v5) ∧ (EvC l E w d MX11_isShelf [.long v5] s3 f4 (fun o s6 f7 => KP o (fun r => ∃ v8 : Int32, r = some (.int v8) ∧ ((v8 = 0 → ExC l E w (d + 1) MX11_name 33 [some (.ref x0), some (.long v5), none, some (.int 0)] [] s6 f7 Q) ∧ (¬ v8 = 0 → (oc f7 x0 11 ∧ vl f7 x0 147 = .ref (w.1 2) ∧ (EvC l E w d MX2_next [.ref (w.1 2)] s6 f7 (fun o s9 f10 => KP o (fun r => r = none ∧ Q (.inl (some (.int (v5.toInt32 - 1)))) s9 f10) (fun k => Q (.inr k) s9 f10))))))) (fun k => Q (.inr k) s6 f7)))) (fun k => Q (.inr k) s3 f4))))) (fun k => Q (.inr k) s1 f2)))) : ExC l E w (d + 1) MX11_name 0 [some (.ref x0), none, none, none] [] s f Q := by
  intro f0 h hW hF
  refine x_aload_n dX11_name_0 rfl rfl rfl ?_
  obtain ⟨hc, hT⟩ := hT
  obtain ⟨cc, hcc⟩ := hW.ocell hc
  refine c_invV (vs := []) dX11_name_1 oX11_wantName q758 q756 hcc qs7 (Or.inl rfl) rfl rfl (Nat.le_of_ble_eq_true rfl) rfl hW hF hT ?_ ?_
  · intro _ s1 f2 hT h hW hF
    obtain ⟨rfl, hT⟩ := hT
    refine x_aload_n dX11_name_4 rfl rfl rfl ?_
    obtain ⟨hc, ev, hT⟩ := hT
    refine c_fgetG dX11_name_5 f_TallySlate_Reader_23 hc (by decide) (by decide) hW ev ?_
    obtain ⟨-, -, cc, hcc, -⟩ := hW.ob 2 (by decide)
    refine c_invV (vs := []) dX11_name_8 oX2_name q806 q805 hcc q807 (Or.inl rfl) rfl rfl (Nat.le_of_ble_eq_true rfl) rfl hW hF hT ?_ ?_
    · intro _ s3 f4 hT h hW hF
      obtain ⟨v5, rfl, hT⟩ := hT
      refine x_lstore_n (lo' := [some (.ref x0), some (.long v5), none, none]) dX11_name_11 rfl (Nat.le_of_ble_eq_true rfl) rfl ?_
      refine x_lload_n dX11_name_12 rfl rfl ?_
      refine c_invS (vs := [.long v5]) dX11_name_13 oX11_isShelf q812 (Or.inl q811) rfl rfl (Nat.le_of_ble_eq_true rfl) rfl hW hF hT ?_ ?_
      · intro _ s6 f7 hT h hW hF
        obtain ⟨v8, rfl, hT⟩ := hT
        refine x_if_eq (tgt := 31) dX11_name_16 rfl (fun c => ?_) (fun c => ?_)
        · replace hT := hT.1 c
          refine x_iconst (v := 0) dX11_name_31 rfl ?_
          refine x_istore_n (lo' := [some (.ref x0), some (.long v5), none, some (.int 0)]) dX11_name_32 rfl (Nat.le_of_ble_eq_true rfl) rfl ?_
          exact hT f0 h hW hF
        · replace hT := hT.2 c
          refine x_aload_n dX11_name_19 rfl rfl rfl ?_
          obtain ⟨hc, ev, hT⟩ := hT
          refine c_fgetG dX11_name_20 f_TallySlate_Reader_23 hc (by decide) (by decide) hW ev ?_
          obtain ⟨-, -, cc, hcc, -⟩ := hW.ob 2 (by decide)
          refine c_invV (vs := []) dX11_name_23 oX2_next q610 q609 hcc q611 (Or.inl rfl) rfl rfl (Nat.le_of_ble_eq_true rfl) rfl hW hF hT ?_ ?_
          · intro _ s9 f10 hT h hW hF
            obtain ⟨rfl, hT⟩ := hT
            refine x_lload_n dX11_name_26 rfl rfl ?_
            refine x_l2i dX11_name_27 ?_
            refine x_iconst (v := 1) dX11_name_28 rfl ?_
            refine x_isub dX11_name_29 ?_
            exact x_iret dX11_name_30 rfl rfl ⟨_, _, hW, hF, Or.inl ⟨_, rfl, hT⟩⟩
          · intro k s9 f10 hT h a hW hx hF
            exact c_out (rfl) hW hx hF hT
      · intro k s6 f7 hT h a hW hx hF
        exact c_out (rfl) hW hx hF hT
    · intro k s3 f4 hT h a hW hx hF
      exact c_out (rfl) hW hx hF hT
  · intro k s1 f2 hT h a hW hx hF
    exact c_out (rfl) hW hx hF hT
theorem eR11_name {l : Launch} {E : EN} {w : CO} {d : Nat} {s : CS} {f : RH} {Q : KO → CS → RH → Prop} {x0 : Nat}  (hst : l.stackTraces = false) (hT : (oc f x0 11 ∧ EvC l E w d MX11_wantName [.ref x0] s f (fun o s1 f2 => KP o (fun r => r = none ∧ (oc f2 x0 11 ∧ vl f2 x0 147 = .ref (w.1 2) ∧ (EvC l E w d MX2_name [.ref (w.1 2)] s1 f2 (fun o s3 f4 => KP o (fun r => ∃ v5 : Int64, r = some (.long v5) ∧ (EvC l E w d MX11_isShelf [.long v5] s3 f4 (fun o s6 f7 => KP o (fun r => ∃ v8 : Int32, r = some (.int v8) ∧ ((v8 = 0 → ExC l E w (d + 1) MX11_name 33 [some (.ref x0), some (.long v5), none, some (.int 0)] [] s6 f7 Q) ∧ (¬ v8 = 0 → (oc f7 x0 11 ∧ vl f7 x0 147 = .ref (w.1 2) ∧ (EvC l E w d MX2_next [.ref (w.1 2)] s6 f7 (fun o s9 f10 => KP o (fun r => r = none ∧ Q (.inl (some (.int (v5.toInt32 - 1)))) s9 f10) (fun k => Q (.inr k) s9 f10))))))) (fun k => Q (.inr k) s6 f7)))) (fun k => Q (.inr k) s3 f4))))) (fun k => Q (.inr k) s1 f2)))) : EvC l E w (d + 1) MX11_name [.ref x0] s f Q :=
  EvC.of hst (by decide) (Nat.le_of_ble_eq_true rfl) (vR11_name_0  hT)
set_option maxHeartbeats 16000000 in
theorem vR11_name_33 {l : Launch} {E : EN} {w : CO} {d : Nat} {s : CS} {f : RH} {Q : KO → CS → RH → Prop} {b0 : Nat} {b1 : Int64} {b3 : Int32}  (hT : (oc f b0 11 ∧ (∃ a12 : Nat, vl f b0 150 = .ref a12 ∧ (oc f a12 12 ∧ (∃ v13 : Int32, vl f a12 156 = .int v13 ∧ ((v13 ≤ b3 → ((¬ b3 = 14 → (oc f b0 11 ∧ (∃ a14 : Nat, vl f b0 150 = .ref a14 ∧ (oc f a14 12 ∧ (∃ a15 : Nat, vl f a14 157 = .ref a15 ∧ (tg f a15 = some (.inr 1) ∧ inB b3 (ln f a15) ∧ f.2.2.2 ≤ a15 ∧ ∀ f16 : RH, f16 = fset f a15 b3.toNatClampNeg (.long b1) → (oc f16 b0 11 ∧ (∃ a17 : Nat, vl f16 b0 150 = .ref a17 ∧ (oc f16 b0 11 ∧ (∃ a18 : Nat, vl f16 b0 150 = .ref a18 ∧ (oc f16 a18 12 ∧ (∃ v19 : Int32, vl f16 a18 156 = .int v19 ∧ (oc f16 a17 12 ∧ f16.2.2.2 ≤ a17 ∧ ∀ f20 : RH, f20 = fset f16 a17 156 (.int (if v19 < (b3 + 1) then (b3 + 1) else v19)) → (oc f20 b0 11 ∧ vl f20 b0 147 = .ref (w.1 2) ∧ (EvC l E w d MX2_next [.ref (w.1 2)] s f20 (fun o s21 f22 => KP o (fun r => r = none ∧ Q (.inl (some (.int (8 + b3)))) s21 f22) (fun k => Q (.inr k) s21 f22))))))))))))))))) ∧ (b3 = 14 → (oc f b0 11 ∧ vl f b0 147 = .ref (w.1 2) ∧ (oc f b0 11 ∧ vl f b0 147 = .ref (w.1 2) ∧ (EvC l E w d MX2_wrong [.ref (w.1 2), .int 3, .int (s.1 21)] s f (fun o s23 f24 => KP o (fun r => r = some (.ref (w.1 1)) ∧ Q (.inr 1) s23 f24) (fun k => Q (.inr k) s23 f24)))))))) ∧ (¬ v13 ≤ b3 → (oc f b0 11 ∧ (∃ a25 : Nat, vl f b0 150 = .ref a25 ∧ (oc f a25 12 ∧ (∃ a26 : Nat, vl f a25 157 = .ref a26 ∧ (tg f a26 = some (.inr 1) ∧ inB b3 (ln f a26) ∧ (∃ v27 : Int64, vl f a26 b3.toNatClampNeg = .long v27 ∧ (((lg_cmp v27 b1) = 0 → ((¬ b3 = 14 → (oc f b0 11 ∧ (∃ a28 : Nat, vl f b0 150 = .ref a28 ∧ (oc f a28 12 ∧ (∃ a29 : Nat, vl f a28 157 = .ref a29 ∧ (tg f a29 = some (.inr 1) ∧ inB b3 (ln f a29) ∧ f.2.2.2 ≤ a29 ∧ ∀ f30 : RH, f30 = fset f a29 b3.toNatClampNeg (.long b1) → (oc f30 b0 11 ∧ (∃ a31 : Nat, vl f30 b0 150 = .ref a31 ∧ (oc f30 b0 11 ∧ (∃ a32 : Nat, vl f30 b0 150 = .ref a32 ∧ (oc f30 a32 12 ∧ (∃ v33 : Int32, vl f30 a32 156 = .int v33 ∧ (oc f30 a31 12 ∧ f30.2.2.2 ≤ a31 ∧ ∀ f34 : RH, f34 = fset f30 a31 156 (.int (if v33 < (b3 + 1) then (b3 + 1) else v33)) → (oc f34 b0 11 ∧ vl f34 b0 147 = .ref (w.1 2) ∧ (EvC l E w d MX2_next [.ref (w.1 2)] s f34 (fun o s35 f36 => KP o (fun r => r = none ∧ Q (.inl (some (.int (8 + b3)))) s35 f36) (fun k => Q (.inr k) s35 f36))))))))))))))))) ∧ (b3 = 14 → (oc f b0 11 ∧ vl f b0 147 = .ref (w.1 2) ∧ (oc f b0 11 ∧ vl f b0 147 = .ref (w.1 2) ∧ (EvC l E w d MX2_wrong [.ref (w.1 2), .int 3, .int (s.1 21)] s f (fun o s37 f38 => KP o (fun r => r = some (.ref (w.1 1)) ∧ Q (.inr 1) s37 f38) (fun k => Q (.inr k) s37 f38)))))))) ∧ (¬ (lg_cmp v27 b1) = 0 → ExC l E w (d + 1) MX11_name 33 [some (.ref b0), some (.long b1), none, some (.int (b3 + 1))] [] s f Q))))))))))))))) : ExC l E w (d + 1) MX11_name 33 [some (.ref b0), some (.long b1), none, some (.int b3)] [] s f Q := by
  intro f0 h hW hF
  refine x_iload_n dX11_name_33 rfl rfl ?_
  refine x_aload_n dX11_name_34 rfl rfl rfl ?_
  obtain ⟨hc, hT⟩ := hT
  obtain ⟨a12, ev, hT⟩ := hT
  refine c_fgetG dX11_name_35 f_TallySlate_Reader_100 hc (by decide) (by decide) hW ev ?_
  obtain ⟨hc, hT⟩ := hT
  obtain ⟨v13, ev, hT⟩ := hT
  refine c_fgetG dX11_name_38 f_TallySlate_Reader_134 hc (by decide) (by decide) hW ev ?_
  refine x_icmp_ge (tgt := 64) dX11_name_41 rfl (fun c => ?_) (fun c => ?_)
  · replace hT := hT.1 c
    refine x_iload_n dX11_name_64 rfl rfl ?_
    refine x_bipush (v := 14) dX11_name_65 rfl ?_
    refine x_icmp_ne (tgt := 86) dX11_name_67 rfl (fun c => ?_) (fun c => ?_)
    · replace hT := hT.1 c
      refine x_aload_n dX11_name_86 rfl rfl rfl ?_
      obtain ⟨hc, hT⟩ := hT
      obtain ⟨a14, ev, hT⟩ := hT
      refine c_fgetG dX11_name_87 f_TallySlate_Reader_100 hc (by decide) (by decide) hW ev ?_
      obtain ⟨hc, hT⟩ := hT
      obtain ⟨a15, ev, hT⟩ := hT
      refine c_fgetG dX11_name_90 f_TallySlate_Reader_130 hc (by decide) (by decide) hW ev ?_
      refine x_iload_n dX11_name_93 rfl rfl ?_
      refine x_lload_n dX11_name_94 rfl rfl ?_
      obtain ⟨hc, hT⟩ := hT
      obtain ⟨hb, hz, hT⟩ := hT
      refine c_flastG dX11_name_95 hc hb hz hW hF ?_
      intro f16 ef16 h hW hF
      replace hT := hT f16 ef16
      refine x_aload_n dX11_name_96 rfl rfl rfl ?_
      obtain ⟨hc, hT⟩ := hT
      obtain ⟨a17, ev, hT⟩ := hT
      refine c_fgetG dX11_name_97 f_TallySlate_Reader_100 hc (by decide) (by decide) hW ev ?_
      refine x_aload_n dX11_name_100 rfl rfl rfl ?_
      obtain ⟨hc, hT⟩ := hT
      obtain ⟨a18, ev, hT⟩ := hT
      refine c_fgetG dX11_name_101 f_TallySlate_Reader_100 hc (by decide) (by decide) hW ev ?_
      obtain ⟨hc, hT⟩ := hT
      obtain ⟨v19, ev, hT⟩ := hT
      refine c_fgetG dX11_name_104 f_TallySlate_Reader_134 hc (by decide) (by decide) hW ev ?_
      refine x_iload_n dX11_name_107 rfl rfl ?_
      refine x_iconst (v := 1) dX11_name_108 rfl ?_
      refine x_iadd dX11_name_109 ?_
      refine x_mmax dX11_name_110 q1073 q669 q181 mq_max (Nat.le_of_ble_eq_true rfl) rfl ?_
      obtain ⟨hc, hz, hT⟩ := hT
      refine c_fputG dX11_name_113 f_TallySlate_Reader_134 hc (by decide) (by decide) hz (Or.inl rfl) rfl rfl hW hF ?_
      intro f20 ef20 h hW hF
      replace hT := hT f20 ef20
      refine x_aload_n dX11_name_116 rfl rfl rfl ?_
      obtain ⟨hc, ev, hT⟩ := hT
      refine c_fgetG dX11_name_117 f_TallySlate_Reader_23 hc (by decide) (by decide) hW ev ?_
      obtain ⟨-, -, cc, hcc, -⟩ := hW.ob 2 (by decide)
      refine c_invV (vs := []) dX11_name_120 oX2_next q610 q609 hcc q611 (Or.inl rfl) rfl rfl (Nat.le_of_ble_eq_true rfl) rfl hW hF hT ?_ ?_
      · intro _ s21 f22 hT h hW hF
        obtain ⟨rfl, hT⟩ := hT
        refine x_bipush (v := 8) dX11_name_123 rfl ?_
        refine x_iload_n dX11_name_125 rfl rfl ?_
        refine x_iadd dX11_name_126 ?_
        exact x_iret dX11_name_127 rfl rfl ⟨_, _, hW, hF, Or.inl ⟨_, rfl, hT⟩⟩
      · intro k s21 f22 hT h a hW hx hF
        exact c_out (rfl) hW hx hF hT
    · replace hT := hT.2 c
      refine x_aload_n dX11_name_70 rfl rfl rfl ?_
      obtain ⟨hc, ev, hT⟩ := hT
      refine c_fgetG dX11_name_71 f_TallySlate_Reader_23 hc (by decide) (by decide) hW ev ?_
      refine x_iconst (v := 3) dX11_name_74 rfl ?_
      refine x_aload_n dX11_name_75 rfl rfl rfl ?_
      obtain ⟨hc, ev, hT⟩ := hT
      refine c_fgetG dX11_name_76 f_TallySlate_Reader_23 hc (by decide) (by decide) hW ev ?_
      refine c_getI (v := (s.1 21)) dX11_name_79 f_TallySlate_Reader_45 (by decide) (by decide) rfl hW rfl ?_
      obtain ⟨-, -, cc, hcc, -⟩ := hW.ob 2 (by decide)
      refine c_invV (vs := [.int 3, .int (s.1 21)]) dX11_name_82 oX2_wrong q564 q772 hcc q565 (Or.inl rfl) rfl rfl (Nat.le_of_ble_eq_true rfl) rfl hW hF hT ?_ ?_
      · intro _ s23 f24 hT h hW hF
        obtain ⟨rfl, hT⟩ := hT
        refine x_athrow dX11_name_85 ?_
        exact c_out (rfl) hW (Or.inr (Or.inl ⟨rfl, rfl⟩)) hF hT
      · intro k s23 f24 hT h a hW hx hF
        exact c_out (rfl) hW hx hF hT
  · replace hT := hT.2 c
    refine x_aload_n dX11_name_44 rfl rfl rfl ?_
    obtain ⟨hc, hT⟩ := hT
    obtain ⟨a25, ev, hT⟩ := hT
    refine c_fgetG dX11_name_45 f_TallySlate_Reader_100 hc (by decide) (by decide) hW ev ?_
    obtain ⟨hc, hT⟩ := hT
    obtain ⟨a26, ev, hT⟩ := hT
    refine c_fgetG dX11_name_48 f_TallySlate_Reader_130 hc (by decide) (by decide) hW ev ?_
    refine x_iload_n dX11_name_51 rfl rfl ?_
    obtain ⟨hc, hT⟩ := hT
    obtain ⟨hb, hT⟩ := hT
    obtain ⟨v27, ev, hT⟩ := hT
    refine c_flald dX11_name_52 hc hb hW ev ?_
    refine x_lload_n dX11_name_53 rfl rfl ?_
    refine x_lcmp dX11_name_54 ?_
    refine x_if_eq (tgt := 64) dX11_name_55 rfl (fun c => ?_) (fun c => ?_)
    · replace hT := hT.1 c
      refine x_iload_n dX11_name_64 rfl rfl ?_
      refine x_bipush (v := 14) dX11_name_65 rfl ?_
      refine x_icmp_ne (tgt := 86) dX11_name_67 rfl (fun c => ?_) (fun c => ?_)
      · replace hT := hT.1 c
        refine x_aload_n dX11_name_86 rfl rfl rfl ?_
        obtain ⟨hc, hT⟩ := hT
        obtain ⟨a28, ev, hT⟩ := hT
        refine c_fgetG dX11_name_87 f_TallySlate_Reader_100 hc (by decide) (by decide) hW ev ?_
        obtain ⟨hc, hT⟩ := hT
        obtain ⟨a29, ev, hT⟩ := hT
        refine c_fgetG dX11_name_90 f_TallySlate_Reader_130 hc (by decide) (by decide) hW ev ?_
        refine x_iload_n dX11_name_93 rfl rfl ?_
        refine x_lload_n dX11_name_94 rfl rfl ?_
        obtain ⟨hc, hT⟩ := hT
        obtain ⟨hb, hz, hT⟩ := hT
        refine c_flastG dX11_name_95 hc hb hz hW hF ?_
        intro f30 ef30 h hW hF
        replace hT := hT f30 ef30
        refine x_aload_n dX11_name_96 rfl rfl rfl ?_
        obtain ⟨hc, hT⟩ := hT
        obtain ⟨a31, ev, hT⟩ := hT
        refine c_fgetG dX11_name_97 f_TallySlate_Reader_100 hc (by decide) (by decide) hW ev ?_
        refine x_aload_n dX11_name_100 rfl rfl rfl ?_
        obtain ⟨hc, hT⟩ := hT
        obtain ⟨a32, ev, hT⟩ := hT
        refine c_fgetG dX11_name_101 f_TallySlate_Reader_100 hc (by decide) (by decide) hW ev ?_
        obtain ⟨hc, hT⟩ := hT
        obtain ⟨v33, ev, hT⟩ := hT
        refine c_fgetG dX11_name_104 f_TallySlate_Reader_134 hc (by decide) (by decide) hW ev ?_
        refine x_iload_n dX11_name_107 rfl rfl ?_
        refine x_iconst (v := 1) dX11_name_108 rfl ?_
        refine x_iadd dX11_name_109 ?_
        refine x_mmax dX11_name_110 q1073 q669 q181 mq_max (Nat.le_of_ble_eq_true rfl) rfl ?_
        obtain ⟨hc, hz, hT⟩ := hT
        refine c_fputG dX11_name_113 f_TallySlate_Reader_134 hc (by decide) (by decide) hz (Or.inl rfl) rfl rfl hW hF ?_
        intro f34 ef34 h hW hF
        replace hT := hT f34 ef34
        refine x_aload_n dX11_name_116 rfl rfl rfl ?_
        obtain ⟨hc, ev, hT⟩ := hT
        refine c_fgetG dX11_name_117 f_TallySlate_Reader_23 hc (by decide) (by decide) hW ev ?_
        obtain ⟨-, -, cc, hcc, -⟩ := hW.ob 2 (by decide)
        refine c_invV (vs := []) dX11_name_120 oX2_next q610 q609 hcc q611 (Or.inl rfl) rfl rfl (Nat.le_of_ble_eq_true rfl) rfl hW hF hT ?_ ?_
        · intro _ s35 f36 hT h hW hF
          obtain ⟨rfl, hT⟩ := hT
          refine x_bipush (v := 8) dX11_name_123 rfl ?_
          refine x_iload_n dX11_name_125 rfl rfl ?_
          refine x_iadd dX11_name_126 ?_
          exact x_iret dX11_name_127 rfl rfl ⟨_, _, hW, hF, Or.inl ⟨_, rfl, hT⟩⟩
        · intro k s35 f36 hT h a hW hx hF
          exact c_out (rfl) hW hx hF hT
      · replace hT := hT.2 c
        refine x_aload_n dX11_name_70 rfl rfl rfl ?_
        obtain ⟨hc, ev, hT⟩ := hT
        refine c_fgetG dX11_name_71 f_TallySlate_Reader_23 hc (by decide) (by decide) hW ev ?_
        refine x_iconst (v := 3) dX11_name_74 rfl ?_
        refine x_aload_n dX11_name_75 rfl rfl rfl ?_
        obtain ⟨hc, ev, hT⟩ := hT
        refine c_fgetG dX11_name_76 f_TallySlate_Reader_23 hc (by decide) (by decide) hW ev ?_
        refine c_getI (v := (s.1 21)) dX11_name_79 f_TallySlate_Reader_45 (by decide) (by decide) rfl hW rfl ?_
        obtain ⟨-, -, cc, hcc, -⟩ := hW.ob 2 (by decide)
        refine c_invV (vs := [.int 3, .int (s.1 21)]) dX11_name_82 oX2_wrong q564 q772 hcc q565 (Or.inl rfl) rfl rfl (Nat.le_of_ble_eq_true rfl) rfl hW hF hT ?_ ?_
        · intro _ s37 f38 hT h hW hF
          obtain ⟨rfl, hT⟩ := hT
          refine x_athrow dX11_name_85 ?_
          exact c_out (rfl) hW (Or.inr (Or.inl ⟨rfl, rfl⟩)) hF hT
        · intro k s37 f38 hT h a hW hx hF
          exact c_out (rfl) hW hx hF hT
    · replace hT := hT.2 c
      refine x_iinc (lo' := [some (.ref b0), some (.long b1), none, some (.int (b3 + 1))]) dX11_name_58 rfl (show _ = (b3 + 1) from rfl) rfl ?_
      refine x_goto (tgt := 33) dX11_name_61 rfl ?_
      exact hT f0 h hW hF
set_option maxHeartbeats 16000000 in
theorem vR11_isOf_0 {l : Launch} {E : EN} {w : CO} {d : Nat} {s : CS} {f : RH} {Q : KO → CS → RH → Prop} {x0 : Nat} {x1 : Int32}  (hT : (oc f x0 11 ∧ vl f x0 147 = .ref (w.1 2) ∧ (((s.1 20) = 3 → ((x1 = 0 → (oc f x0 11 ∧ vl f x0 147 = .ref (w.1 2) ∧ (((s.1 22) = 38 → Q (.inl (some (.int 1))) s f) ∧ (¬ (s.1 22) = 38 → (oc f x0 11 ∧ vl f x0 147 = .ref (w.1 2) ∧ ((¬ (s.1 22) = 124 → Q (.inl (some (.int 0))) s f) ∧ ((s.1 22) = 124 → Q (.inl (some (.int 1))) s f))))))) ∧ (¬ (x1 = 0) → ((x1 = 1 → (oc f x0 11 ∧ vl f x0 147 = .ref (w.1 2) ∧ (((s.1 22) = 317 → Q (.inl (some (.int 1))) s f) ∧ (¬ (s.1 22) = 317 → (oc f x0 11 ∧ vl f x0 147 = .ref (w.1 2) ∧ (((s.1 22) = 289 → Q (.inl (some (.int 1))) s f) ∧ (¬ (s.1 22) = 289 → (oc f x0 11 ∧ vl f x0 147 = .ref (w.1 2) ∧ (((s.1 22) = 316 → Q (.inl (some (.int 1))) s f) ∧ (¬ (s.1 22) = 316 → (oc f x0 11 ∧ vl f x0 147 = .ref (w.1 2) ∧ (((s.1 22) = 318 → Q (.inl (some (.int 1))) s f) ∧ (¬ (s.1 22) = 318 → (oc f x0 11 ∧ vl f x0 147 = .ref (w.1 2) ∧ (((s.1 22) = 60 → Q (.inl (some (.int 1))) s f) ∧ (¬ (s.1 22) = 60 → (oc f x0 11 ∧ vl f x0 147 = .ref (w.1 2) ∧ ((¬ (s.1 22) = 62 → Q (.inl (some (.int 0))) s f) ∧ ((s.1 22) = 62 → Q (.inl (some (.int 1))) s f))))))))))))))))))) ∧ (¬ (x1 = 1) → ((x1 = 2 → (oc f x0 11 ∧ vl f x0 147 = .ref (w.1 2) ∧ (((s.1 22) = 43 → Q (.inl (some (.int 1))) s f) ∧ (¬ (s.1 22) = 43 → (oc f x0 11 ∧ vl f x0 147 = .ref (w.1 2) ∧ ((¬ (s.1 22) = 45 → Q (.inl (some (.int 0))) s f) ∧ ((s.1 22) = 45 → Q (.inl (some (.int 1))) s f))))))) ∧ (¬ (x1 = 2) → ((oc f x0 11 ∧ vl f x0 147 = .ref (w.1 2) ∧ (((s.1 22) = 42 → Q (.inl (some (.int 1))) s f) ∧ (¬ (s.1 22) = 42 → (oc f x0 11 ∧ vl f x0 147 = .ref (w.1 2) ∧ (((s.1 22) = 47 → Q (.inl (some (.int 1))) s f) ∧ (¬ (s.1 22) = 47 → (oc f x0 11 ∧ vl f x0 147 = .ref (w.1 2) ∧ ((¬ (s.1 22) = 37 → Q (.inl (some (.int 0))) s f) ∧ ((s.1 22) = 37 → Q (.inl (some (.int 1))) s f))))))))))))))))) ∧ (¬ (s.1 20) = 3 → Q (.inl (some (.int 0))) s f)))) : ExC l E w d MX11_isOf 0 [some (.ref x0), some (.int x1)] [] s f Q := by
  intro f0 h hW hF
  refine x_aload_n dX11_isOf_0 rfl rfl rfl ?_
  obtain ⟨hc, ev, hT⟩ := hT
  refine c_fgetG dX11_isOf_1 f_TallySlate_Reader_23 hc (by decide) (by decide) hW ev ?_
  refine c_getI (v := (s.1 20)) dX11_isOf_4 f_TallySlate_Reader_41 (by decide) (by decide) rfl hW rfl ?_
  refine x_iconst (v := 3) dX11_isOf_7 rfl ?_
  refine x_icmp_eq (tgt := 13) dX11_isOf_8 rfl (fun c => ?_) (fun c => ?_)
  · replace hT := hT.1 c
    refine x_iload_n dX11_isOf_13 rfl rfl ?_
    by_cases c : x1 = 0
    · replace hT := hT.1 c
      refine x_tableIn (tgt := 40) (off := 26) dX11_isOf_14 (by rw [c]; decide) (by rw [c]; decide) (by rw [c]; rfl) rfl ?_
      refine x_aload_n dX11_isOf_40 rfl rfl rfl ?_
      obtain ⟨hc, ev, hT⟩ := hT
      refine c_fgetG dX11_isOf_41 f_TallySlate_Reader_23 hc (by decide) (by decide) hW ev ?_
      refine c_getI (v := (s.1 22)) dX11_isOf_44 f_TallySlate_Reader_276 (by decide) (by decide) rfl hW rfl ?_
      refine x_bipush (v := 38) dX11_isOf_47 rfl ?_
      refine x_icmp_eq (tgt := 64) dX11_isOf_49 rfl (fun c => ?_) (fun c => ?_)
      · replace hT := hT.1 c
        refine x_iconst (v := 1) dX11_isOf_64 rfl ?_
        refine x_goto (tgt := 69) dX11_isOf_65 rfl ?_
        exact x_iret dX11_isOf_69 rfl rfl ⟨_, _, hW, hF, Or.inl ⟨_, rfl, hT⟩⟩
      · replace hT := hT.2 c
        refine x_aload_n dX11_isOf_52 rfl rfl rfl ?_
        obtain ⟨hc, ev, hT⟩ := hT
        refine c_fgetG dX11_isOf_53 f_TallySlate_Reader_23 hc (by decide) (by decide) hW ev ?_
        refine c_getI (v := (s.1 22)) dX11_isOf_56 f_TallySlate_Reader_276 (by decide) (by decide) rfl hW rfl ?_
        refine x_bipush (v := 124) dX11_isOf_59 rfl ?_
        refine x_icmp_ne (tgt := 68) dX11_isOf_61 rfl (fun c => ?_) (fun c => ?_)
        · replace hT := hT.1 c
          refine x_iconst (v := 0) dX11_isOf_68 rfl ?_
          exact x_iret dX11_isOf_69 rfl rfl ⟨_, _, hW, hF, Or.inl ⟨_, rfl, hT⟩⟩
        · replace hT := hT.2 c
          refine x_iconst (v := 1) dX11_isOf_64 rfl ?_
          refine x_goto (tgt := 69) dX11_isOf_65 rfl ?_
          exact x_iret dX11_isOf_69 rfl rfl ⟨_, _, hW, hF, Or.inl ⟨_, rfl, hT⟩⟩
    · replace hT := hT.2 c
      have cs0 := c
      by_cases c : x1 = 1
      · replace hT := hT.1 c
        refine x_tableIn (tgt := 70) (off := 56) dX11_isOf_14 (by rw [c]; decide) (by rw [c]; decide) (by rw [c]; rfl) rfl ?_
        refine x_aload_n dX11_isOf_70 rfl rfl rfl ?_
        obtain ⟨hc, ev, hT⟩ := hT
        refine c_fgetG dX11_isOf_71 f_TallySlate_Reader_23 hc (by decide) (by decide) hW ev ?_
        refine c_getI (v := (s.1 22)) dX11_isOf_74 f_TallySlate_Reader_276 (by decide) (by decide) rfl hW rfl ?_
        refine x_sipush (v := 317) dX11_isOf_77 rfl ?_
        refine x_icmp_eq (tgt := 146) dX11_isOf_80 rfl (fun c => ?_) (fun c => ?_)
        · replace hT := hT.1 c
          refine x_iconst (v := 1) dX11_isOf_146 rfl ?_
          refine x_goto (tgt := 151) dX11_isOf_147 rfl ?_
          exact x_iret dX11_isOf_151 rfl rfl ⟨_, _, hW, hF, Or.inl ⟨_, rfl, hT⟩⟩
        · replace hT := hT.2 c
          refine x_aload_n dX11_isOf_83 rfl rfl rfl ?_
          obtain ⟨hc, ev, hT⟩ := hT
          refine c_fgetG dX11_isOf_84 f_TallySlate_Reader_23 hc (by decide) (by decide) hW ev ?_
          refine c_getI (v := (s.1 22)) dX11_isOf_87 f_TallySlate_Reader_276 (by decide) (by decide) rfl hW rfl ?_
          refine x_sipush (v := 289) dX11_isOf_90 rfl ?_
          refine x_icmp_eq (tgt := 146) dX11_isOf_93 rfl (fun c => ?_) (fun c => ?_)
          · replace hT := hT.1 c
            refine x_iconst (v := 1) dX11_isOf_146 rfl ?_
            refine x_goto (tgt := 151) dX11_isOf_147 rfl ?_
            exact x_iret dX11_isOf_151 rfl rfl ⟨_, _, hW, hF, Or.inl ⟨_, rfl, hT⟩⟩
          · replace hT := hT.2 c
            refine x_aload_n dX11_isOf_96 rfl rfl rfl ?_
            obtain ⟨hc, ev, hT⟩ := hT
            refine c_fgetG dX11_isOf_97 f_TallySlate_Reader_23 hc (by decide) (by decide) hW ev ?_
            refine c_getI (v := (s.1 22)) dX11_isOf_100 f_TallySlate_Reader_276 (by decide) (by decide) rfl hW rfl ?_
            refine x_sipush (v := 316) dX11_isOf_103 rfl ?_
            refine x_icmp_eq (tgt := 146) dX11_isOf_106 rfl (fun c => ?_) (fun c => ?_)
            · replace hT := hT.1 c
              refine x_iconst (v := 1) dX11_isOf_146 rfl ?_
              refine x_goto (tgt := 151) dX11_isOf_147 rfl ?_
              exact x_iret dX11_isOf_151 rfl rfl ⟨_, _, hW, hF, Or.inl ⟨_, rfl, hT⟩⟩
            · replace hT := hT.2 c
              refine x_aload_n dX11_isOf_109 rfl rfl rfl ?_
              obtain ⟨hc, ev, hT⟩ := hT
              refine c_fgetG dX11_isOf_110 f_TallySlate_Reader_23 hc (by decide) (by decide) hW ev ?_
              refine c_getI (v := (s.1 22)) dX11_isOf_113 f_TallySlate_Reader_276 (by decide) (by decide) rfl hW rfl ?_
              refine x_sipush (v := 318) dX11_isOf_116 rfl ?_
              refine x_icmp_eq (tgt := 146) dX11_isOf_119 rfl (fun c => ?_) (fun c => ?_)
              · replace hT := hT.1 c
                refine x_iconst (v := 1) dX11_isOf_146 rfl ?_
                refine x_goto (tgt := 151) dX11_isOf_147 rfl ?_
                exact x_iret dX11_isOf_151 rfl rfl ⟨_, _, hW, hF, Or.inl ⟨_, rfl, hT⟩⟩
              · replace hT := hT.2 c
                refine x_aload_n dX11_isOf_122 rfl rfl rfl ?_
                obtain ⟨hc, ev, hT⟩ := hT
                refine c_fgetG dX11_isOf_123 f_TallySlate_Reader_23 hc (by decide) (by decide) hW ev ?_
                refine c_getI (v := (s.1 22)) dX11_isOf_126 f_TallySlate_Reader_276 (by decide) (by decide) rfl hW rfl ?_
                refine x_bipush (v := 60) dX11_isOf_129 rfl ?_
                refine x_icmp_eq (tgt := 146) dX11_isOf_131 rfl (fun c => ?_) (fun c => ?_)
                · replace hT := hT.1 c
                  refine x_iconst (v := 1) dX11_isOf_146 rfl ?_
                  refine x_goto (tgt := 151) dX11_isOf_147 rfl ?_
                  exact x_iret dX11_isOf_151 rfl rfl ⟨_, _, hW, hF, Or.inl ⟨_, rfl, hT⟩⟩
                · replace hT := hT.2 c
                  refine x_aload_n dX11_isOf_134 rfl rfl rfl ?_
                  obtain ⟨hc, ev, hT⟩ := hT
                  refine c_fgetG dX11_isOf_135 f_TallySlate_Reader_23 hc (by decide) (by decide) hW ev ?_
                  refine c_getI (v := (s.1 22)) dX11_isOf_138 f_TallySlate_Reader_276 (by decide) (by decide) rfl hW rfl ?_
                  refine x_bipush (v := 62) dX11_isOf_141 rfl ?_
                  refine x_icmp_ne (tgt := 150) dX11_isOf_143 rfl (fun c => ?_) (fun c => ?_)
                  · replace hT := hT.1 c
                    refine x_iconst (v := 0) dX11_isOf_150 rfl ?_
                    exact x_iret dX11_isOf_151 rfl rfl ⟨_, _, hW, hF, Or.inl ⟨_, rfl, hT⟩⟩
                  · replace hT := hT.2 c
                    refine x_iconst (v := 1) dX11_isOf_146 rfl ?_
                    refine x_goto (tgt := 151) dX11_isOf_147 rfl ?_
                    exact x_iret dX11_isOf_151 rfl rfl ⟨_, _, hW, hF, Or.inl ⟨_, rfl, hT⟩⟩
      · replace hT := hT.2 c
        have cs1 := c
        by_cases c : x1 = 2
        · replace hT := hT.1 c
          refine x_tableIn (tgt := 152) (off := 138) dX11_isOf_14 (by rw [c]; decide) (by rw [c]; decide) (by rw [c]; rfl) rfl ?_
          refine x_aload_n dX11_isOf_152 rfl rfl rfl ?_
          obtain ⟨hc, ev, hT⟩ := hT
          refine c_fgetG dX11_isOf_153 f_TallySlate_Reader_23 hc (by decide) (by decide) hW ev ?_
          refine c_getI (v := (s.1 22)) dX11_isOf_156 f_TallySlate_Reader_276 (by decide) (by decide) rfl hW rfl ?_
          refine x_bipush (v := 43) dX11_isOf_159 rfl ?_
          refine x_icmp_eq (tgt := 176) dX11_isOf_161 rfl (fun c => ?_) (fun c => ?_)
          · replace hT := hT.1 c
            refine x_iconst (v := 1) dX11_isOf_176 rfl ?_
            refine x_goto (tgt := 181) dX11_isOf_177 rfl ?_
            exact x_iret dX11_isOf_181 rfl rfl ⟨_, _, hW, hF, Or.inl ⟨_, rfl, hT⟩⟩
          · replace hT := hT.2 c
            refine x_aload_n dX11_isOf_164 rfl rfl rfl ?_
            obtain ⟨hc, ev, hT⟩ := hT
            refine c_fgetG dX11_isOf_165 f_TallySlate_Reader_23 hc (by decide) (by decide) hW ev ?_
            refine c_getI (v := (s.1 22)) dX11_isOf_168 f_TallySlate_Reader_276 (by decide) (by decide) rfl hW rfl ?_
            refine x_bipush (v := 45) dX11_isOf_171 rfl ?_
            refine x_icmp_ne (tgt := 180) dX11_isOf_173 rfl (fun c => ?_) (fun c => ?_)
            · replace hT := hT.1 c
              refine x_iconst (v := 0) dX11_isOf_180 rfl ?_
              exact x_iret dX11_isOf_181 rfl rfl ⟨_, _, hW, hF, Or.inl ⟨_, rfl, hT⟩⟩
            · replace hT := hT.2 c
              refine x_iconst (v := 1) dX11_isOf_176 rfl ?_
              refine x_goto (tgt := 181) dX11_isOf_177 rfl ?_
              exact x_iret dX11_isOf_181 rfl rfl ⟨_, _, hW, hF, Or.inl ⟨_, rfl, hT⟩⟩
        · replace hT := hT.2 c
          have cs2 := c
          refine x_tableD (tgt := 182) [0, 1, 2] dX11_isOf_14 (List.forall_mem_cons.mpr ⟨fun h => cs0 (i32_of (h.trans (show (0 : Int) = (0 : Int32).toInt from by decide))), List.forall_mem_cons.mpr ⟨fun h => cs1 (i32_of (h.trans (show (1 : Int) = (1 : Int32).toInt from by decide))), List.forall_mem_cons.mpr ⟨fun h => cs2 (i32_of (h.trans (show (2 : Int) = (2 : Int32).toInt from by decide))), fun _ h => absurd h List.not_mem_nil⟩⟩⟩) (by decide) (by decide) rfl ?_
          refine x_aload_n dX11_isOf_182 rfl rfl rfl ?_
          obtain ⟨hc, ev, hT⟩ := hT
          refine c_fgetG dX11_isOf_183 f_TallySlate_Reader_23 hc (by decide) (by decide) hW ev ?_
          refine c_getI (v := (s.1 22)) dX11_isOf_186 f_TallySlate_Reader_276 (by decide) (by decide) rfl hW rfl ?_
          refine x_bipush (v := 42) dX11_isOf_189 rfl ?_
          refine x_icmp_eq (tgt := 218) dX11_isOf_191 rfl (fun c => ?_) (fun c => ?_)
          · replace hT := hT.1 c
            refine x_iconst (v := 1) dX11_isOf_218 rfl ?_
            refine x_goto (tgt := 223) dX11_isOf_219 rfl ?_
            exact x_iret dX11_isOf_223 rfl rfl ⟨_, _, hW, hF, Or.inl ⟨_, rfl, hT⟩⟩
          · replace hT := hT.2 c
            refine x_aload_n dX11_isOf_194 rfl rfl rfl ?_
            obtain ⟨hc, ev, hT⟩ := hT
            refine c_fgetG dX11_isOf_195 f_TallySlate_Reader_23 hc (by decide) (by decide) hW ev ?_
            refine c_getI (v := (s.1 22)) dX11_isOf_198 f_TallySlate_Reader_276 (by decide) (by decide) rfl hW rfl ?_
            refine x_bipush (v := 47) dX11_isOf_201 rfl ?_
            refine x_icmp_eq (tgt := 218) dX11_isOf_203 rfl (fun c => ?_) (fun c => ?_)
            · replace hT := hT.1 c
              refine x_iconst (v := 1) dX11_isOf_218 rfl ?_
              refine x_goto (tgt := 223) dX11_isOf_219 rfl ?_
              exact x_iret dX11_isOf_223 rfl rfl ⟨_, _, hW, hF, Or.inl ⟨_, rfl, hT⟩⟩
            · replace hT := hT.2 c
              refine x_aload_n dX11_isOf_206 rfl rfl rfl ?_
              obtain ⟨hc, ev, hT⟩ := hT
              refine c_fgetG dX11_isOf_207 f_TallySlate_Reader_23 hc (by decide) (by decide) hW ev ?_
              refine c_getI (v := (s.1 22)) dX11_isOf_210 f_TallySlate_Reader_276 (by decide) (by decide) rfl hW rfl ?_
              refine x_bipush (v := 37) dX11_isOf_213 rfl ?_
              refine x_icmp_ne (tgt := 222) dX11_isOf_215 rfl (fun c => ?_) (fun c => ?_)
              · replace hT := hT.1 c
                refine x_iconst (v := 0) dX11_isOf_222 rfl ?_
                exact x_iret dX11_isOf_223 rfl rfl ⟨_, _, hW, hF, Or.inl ⟨_, rfl, hT⟩⟩
              · replace hT := hT.2 c
                refine x_iconst (v := 1) dX11_isOf_218 rfl ?_
                refine x_goto (tgt := 223) dX11_isOf_219 rfl ?_
                exact x_iret dX11_isOf_223 rfl rfl ⟨_, _, hW, hF, Or.inl ⟨_, rfl, hT⟩⟩
  · replace hT := hT.2 c
    refine x_iconst (v := 0) dX11_isOf_11 rfl ?_
    exact x_iret dX11_isOf_12 rfl rfl ⟨_, _, hW, hF, Or.inl ⟨_, rfl, hT⟩⟩
theorem eR11_isOf {l : Launch} {E : EN} {w : CO} {d : Nat} {s : CS} {f : RH} {Q : KO → CS → RH → Prop} {x0 : Nat} {x1 : Int32}  (hst : l.stackTraces = false) (hT : (oc f x0 11 ∧ vl f x0 147 = .ref (w.1 2) ∧ (((s.1 20) = 3 → ((x1 = 0 → (oc f x0 11 ∧ vl f x0 147 = .ref (w.1 2) ∧ (((s.1 22) = 38 → Q (.inl (some (.int 1))) s f) ∧ (¬ (s.1 22) = 38 → (oc f x0 11 ∧ vl f x0 147 = .ref (w.1 2) ∧ ((¬ (s.1 22) = 124 → Q (.inl (some (.int 0))) s f) ∧ ((s.1 22) = 124 → Q (.inl (some (.int 1))) s f))))))) ∧ (¬ (x1 = 0) → ((x1 = 1 → (oc f x0 11 ∧ vl f x0 147 = .ref (w.1 2) ∧ (((s.1 22) = 317 → Q (.inl (some (.int 1))) s f) ∧ (¬ (s.1 22) = 317 → (oc f x0 11 ∧ vl f x0 147 = .ref (w.1 2) ∧ (((s.1 22) = 289 → Q (.inl (some (.int 1))) s f) ∧ (¬ (s.1 22) = 289 → (oc f x0 11 ∧ vl f x0 147 = .ref (w.1 2) ∧ (((s.1 22) = 316 → Q (.inl (some (.int 1))) s f) ∧ (¬ (s.1 22) = 316 → (oc f x0 11 ∧ vl f x0 147 = .ref (w.1 2) ∧ (((s.1 22) = 318 → Q (.inl (some (.int 1))) s f) ∧ (¬ (s.1 22) = 318 → (oc f x0 11 ∧ vl f x0 147 = .ref (w.1 2) ∧ (((s.1 22) = 60 → Q (.inl (some (.int 1))) s f) ∧ (¬ (s.1 22) = 60 → (oc f x0 11 ∧ vl f x0 147 = .ref (w.1 2) ∧ ((¬ (s.1 22) = 62 → Q (.inl (some (.int 0))) s f) ∧ ((s.1 22) = 62 → Q (.inl (some (.int 1))) s f))))))))))))))))))) ∧ (¬ (x1 = 1) → ((x1 = 2 → (oc f x0 11 ∧ vl f x0 147 = .ref (w.1 2) ∧ (((s.1 22) = 43 → Q (.inl (some (.int 1))) s f) ∧ (¬ (s.1 22) = 43 → (oc f x0 11 ∧ vl f x0 147 = .ref (w.1 2) ∧ ((¬ (s.1 22) = 45 → Q (.inl (some (.int 0))) s f) ∧ ((s.1 22) = 45 → Q (.inl (some (.int 1))) s f))))))) ∧ (¬ (x1 = 2) → ((oc f x0 11 ∧ vl f x0 147 = .ref (w.1 2) ∧ (((s.1 22) = 42 → Q (.inl (some (.int 1))) s f) ∧ (¬ (s.1 22) = 42 → (oc f x0 11 ∧ vl f x0 147 = .ref (w.1 2) ∧ (((s.1 22) = 47 → Q (.inl (some (.int 1))) s f) ∧ (¬ (s.1 22) = 47 → (oc f x0 11 ∧ vl f x0 147 = .ref (w.1 2) ∧ ((¬ (s.1 22) = 37 → Q (.inl (some (.int 0))) s f) ∧ ((s.1 22) = 37 → Q (.inl (some (.int 1))) s f))))))))))))))))) ∧ (¬ (s.1 20) = 3 → Q (.inl (some (.int 0))) s f)))) : EvC l E w d MX11_isOf [.ref x0, .int x1] s f Q :=
  EvC.of hst (by decide) (Nat.le_of_ble_eq_true rfl) (vR11_isOf_0  hT)
set_option maxHeartbeats 16000000 in
theorem vR11_loop_0 {l : Launch} {E : EN} {w : CO} {d : Nat} {s : CS} {f : RH} {Q : KO → CS → RH → Prop} {x0 : Nat}  (hT : (rmF E f 1 3 ∧ ∀ (a1 : Nat) (f2 : RH), a1 = f.1 → f2 = fnew f 24 → (EvC l E w d MX26_init [.ref a1] s f2 (fun o s3 f4 => KP o (fun r => r = none ∧ (oc f4 x0 11 ∧ vl f4 x0 147 = .ref (w.1 2) ∧ (EvC l E w d MX2_next [.ref (w.1 2)] s3 f4 (fun o s5 f6 => KP o (fun r => r = none ∧ (oc f6 x0 11 ∧ vl f6 x0 147 = .ref (w.1 2) ∧ (EvC l E w d MX2_take [.ref (w.1 2), .int 40] s5 f6 (fun o s7 f8 => KP o (fun r => r = none ∧ (oc f8 x0 11 ∧ EvC l E w d MX11_expression [.ref x0] s7 f8 (fun o s9 f10 => KP o (fun r => ∃ a11 : Nat, r = some (.ref a11) ∧ (oc f10 a1 24 ∧ f10.2.2.2 ≤ a1 ∧ ∀ f12 : RH, f12 = fset f10 a1 185 (.ref a11) → (oc f12 x0 11 ∧ vl f12 x0 147 = .ref (w.1 2) ∧ (EvC l E w d MX2_take [.ref (w.1 2), .int 41] s9 f12 (fun o s13 f14 => KP o (fun r => r = none ∧ (oc f14 x0 11 ∧ EvC l E w d MX11_block [.ref x0] s13 f14 (fun o s15 f16 => KP o (fun r => ∃ a17 : Nat, r = some (.ref a17) ∧ (oc f16 a1 24 ∧ f16.2.2.2 ≤ a1 ∧ ∀ f18 : RH, f18 = fset f16 a1 186 (.ref a17) → Q (.inl (some (.ref a1))) s15 f18)) (fun k => Q (.inr k) s15 f16)))) (fun k => Q (.inr k) s13 f14)))))) (fun k => Q (.inr k) s9 f10)))) (fun k => Q (.inr k) s7 f8))))) (fun k => Q (.inr k) s5 f6))))) (fun k => Q (.inr k) s3 f4))))) : ExC l E w (d + 1) MX11_loop 0 [some (.ref x0), none] [] s f Q := by
  intro f0 h hW hF
  obtain ⟨hr, hT⟩ := hT
  refine c_newG (k := 24) dX11_loop_0 (by decide) q1135 q199 hr hW hF ?_
  intro a1 f2 ea1 ef2 h hW hF
  replace hT := hT a1 f2 ea1 ef2
  refine x_dup dX11_loop_3 rfl ?_
  refine c_invI (b := a1) (vs := []) dX11_loop_4 oX26_init rfl rfl rfl q1138 (Or.inr ⟨_, q1137⟩) rfl rfl (Nat.le_of_ble_eq_true rfl) rfl hW hF hT ?_ ?_
  · intro _ s3 f4 hT h hW hF
    obtain ⟨rfl, hT⟩ := hT
    refine x_astore_n (lo' := [some (.ref x0), some (.ref a1)]) dX11_loop_7 rfl (Nat.le_of_ble_eq_true rfl) rfl rfl ?_
    refine x_aload_n dX11_loop_8 rfl rfl rfl ?_
    obtain ⟨hc, ev, hT⟩ := hT
    refine c_fgetG dX11_loop_9 f_TallySlate_Reader_23 hc (by decide) (by decide) hW ev ?_
    obtain ⟨-, -, cc, hcc, -⟩ := hW.ob 2 (by decide)
    refine c_invV (vs := []) dX11_loop_12 oX2_next q610 q609 hcc q611 (Or.inl rfl) rfl rfl (Nat.le_of_ble_eq_true rfl) rfl hW hF hT ?_ ?_
    · intro _ s5 f6 hT h hW hF
      obtain ⟨rfl, hT⟩ := hT
      refine x_aload_n dX11_loop_15 rfl rfl rfl ?_
      obtain ⟨hc, ev, hT⟩ := hT
      refine c_fgetG dX11_loop_16 f_TallySlate_Reader_23 hc (by decide) (by decide) hW ev ?_
      refine x_bipush (v := 40) dX11_loop_19 rfl ?_
      obtain ⟨-, -, cc, hcc, -⟩ := hW.ob 2 (by decide)
      refine c_invV (vs := [.int 40]) dX11_loop_21 oX2_take q816 q815 hcc q817 (Or.inl rfl) rfl rfl (Nat.le_of_ble_eq_true rfl) rfl hW hF hT ?_ ?_
      · intro _ s7 f8 hT h hW hF
        obtain ⟨rfl, hT⟩ := hT
        refine x_aload_n dX11_loop_24 rfl rfl rfl ?_
        refine x_aload_n dX11_loop_25 rfl rfl rfl ?_
        obtain ⟨hc, hT⟩ := hT
        obtain ⟨cc, hcc⟩ := hW.ocell hc
        refine c_invV (vs := []) dX11_loop_26 oX11_expression q893 q891 hcc qs14 (Or.inl rfl) rfl rfl (Nat.le_of_ble_eq_true rfl) rfl hW hF hT ?_ ?_
        · intro _ s9 f10 hT h hW hF
          obtain ⟨a11, rfl, hT⟩ := hT
          obtain ⟨hc, hz, hT⟩ := hT
          refine c_fputG dX11_loop_29 f_TallySlate_Reader_228 hc (by decide) (by decide) hz (Or.inl rfl) rfl rfl hW hF ?_
          intro f12 ef12 h hW hF
          replace hT := hT f12 ef12
          refine x_aload_n dX11_loop_32 rfl rfl rfl ?_
          obtain ⟨hc, ev, hT⟩ := hT
          refine c_fgetG dX11_loop_33 f_TallySlate_Reader_23 hc (by decide) (by decide) hW ev ?_
          refine x_bipush (v := 41) dX11_loop_36 rfl ?_
          obtain ⟨-, -, cc, hcc, -⟩ := hW.ob 2 (by decide)
          refine c_invV (vs := [.int 41]) dX11_loop_38 oX2_take q816 q815 hcc q817 (Or.inl rfl) rfl rfl (Nat.le_of_ble_eq_true rfl) rfl hW hF hT ?_ ?_
          · intro _ s13 f14 hT h hW hF
            obtain ⟨rfl, hT⟩ := hT
            refine x_aload_n dX11_loop_41 rfl rfl rfl ?_
            refine x_aload_n dX11_loop_42 rfl rfl rfl ?_
            obtain ⟨hc, hT⟩ := hT
            obtain ⟨cc, hcc⟩ := hW.ocell hc
            refine c_invV (vs := []) dX11_loop_43 oX11_block q831 q829 hcc qs11 (Or.inl rfl) rfl rfl (Nat.le_of_ble_eq_true rfl) rfl hW hF hT ?_ ?_
            · intro _ s15 f16 hT h hW hF
              obtain ⟨a17, rfl, hT⟩ := hT
              obtain ⟨hc, hz, hT⟩ := hT
              refine c_fputG dX11_loop_46 f_TallySlate_Reader_229 hc (by decide) (by decide) hz (Or.inl rfl) rfl rfl hW hF ?_
              intro f18 ef18 h hW hF
              replace hT := hT f18 ef18
              refine x_aload_n dX11_loop_49 rfl rfl rfl ?_
              exact x_aret dX11_loop_50 rfl (by first | exact Or.inl ⟨_, rfl⟩ | exact Or.inr ⟨_, rfl⟩) rfl ⟨_, _, hW, hF, Or.inl ⟨_, rfl, hT⟩⟩
            · intro k s15 f16 hT h a hW hx hF
              exact c_out (rfl) hW hx hF hT
          · intro k s13 f14 hT h a hW hx hF
            exact c_out (rfl) hW hx hF hT
        · intro k s9 f10 hT h a hW hx hF
          exact c_out (rfl) hW hx hF hT
      · intro k s7 f8 hT h a hW hx hF
        exact c_out (rfl) hW hx hF hT
    · intro k s5 f6 hT h a hW hx hF
      exact c_out (rfl) hW hx hF hT
  · intro k s3 f4 hT h a hW hx hF
    exact c_out (rfl) hW hx hF hT
theorem eR11_loop {l : Launch} {E : EN} {w : CO} {d : Nat} {s : CS} {f : RH} {Q : KO → CS → RH → Prop} {x0 : Nat}  (hst : l.stackTraces = false) (hT : (rmF E f 1 3 ∧ ∀ (a1 : Nat) (f2 : RH), a1 = f.1 → f2 = fnew f 24 → (EvC l E w d MX26_init [.ref a1] s f2 (fun o s3 f4 => KP o (fun r => r = none ∧ (oc f4 x0 11 ∧ vl f4 x0 147 = .ref (w.1 2) ∧ (EvC l E w d MX2_next [.ref (w.1 2)] s3 f4 (fun o s5 f6 => KP o (fun r => r = none ∧ (oc f6 x0 11 ∧ vl f6 x0 147 = .ref (w.1 2) ∧ (EvC l E w d MX2_take [.ref (w.1 2), .int 40] s5 f6 (fun o s7 f8 => KP o (fun r => r = none ∧ (oc f8 x0 11 ∧ EvC l E w d MX11_expression [.ref x0] s7 f8 (fun o s9 f10 => KP o (fun r => ∃ a11 : Nat, r = some (.ref a11) ∧ (oc f10 a1 24 ∧ f10.2.2.2 ≤ a1 ∧ ∀ f12 : RH, f12 = fset f10 a1 185 (.ref a11) → (oc f12 x0 11 ∧ vl f12 x0 147 = .ref (w.1 2) ∧ (EvC l E w d MX2_take [.ref (w.1 2), .int 41] s9 f12 (fun o s13 f14 => KP o (fun r => r = none ∧ (oc f14 x0 11 ∧ EvC l E w d MX11_block [.ref x0] s13 f14 (fun o s15 f16 => KP o (fun r => ∃ a17 : Nat, r = some (.ref a17) ∧ (oc f16 a1 24 ∧ f16.2.2.2 ≤ a1 ∧ ∀ f18 : RH, f18 = fset f16 a1 186 (.ref a17) → Q (.inl (some (.ref a1))) s15 f18)) (fun k => Q (.inr k) s15 f16)))) (fun k => Q (.inr k) s13 f14)))))) (fun k => Q (.inr k) s9 f10)))) (fun k => Q (.inr k) s7 f8))))) (fun k => Q (.inr k) s5 f6))))) (fun k => Q (.inr k) s3 f4))))) : EvC l E w (d + 1) MX11_loop [.ref x0] s f Q :=
  EvC.of hst (by decide) (Nat.le_of_ble_eq_true rfl) (vR11_loop_0  hT)
set_option maxHeartbeats 16000000 in
theorem vR11_walk_0 {l : Launch} {E : EN} {w : CO} {d : Nat} {s : CS} {f : RH} {Q : KO → CS → RH → Prop} {x0 : Nat}  (hT : (rmF E f 1 4 ∧ ∀ (a1 : Nat) (f2 : RH), a1 = f.1 → f2 = fnew f 25 → (EvC l E w d MX27_init [.ref a1] s f2 (fun o s3 f4 => KP o (fun r => r = none ∧ (oc f4 x0 11 ∧ vl f4 x0 147 = .ref (w.1 2) ∧ (EvC l E w d MX2_next [.ref (w.1 2)] s3 f4 (fun o s5 f6 => KP o (fun r => r = none ∧ (oc f6 x0 11 ∧ EvC l E w d MX11_name [.ref x0] s5 f6 (fun o s7 f8 => KP o (fun r => ∃ v9 : Int32, r = some (.int v9) ∧ (oc f8 a1 25 ∧ f8.2.2.2 ≤ a1 ∧ ∀ f10 : RH, f10 = fset f8 a1 187 (.int v9) → (oc f10 x0 11 ∧ EvC l E w d MX11_take [.ref x0, .ref (eSC E 50)] s7 f10 (fun o s11 f12 => KP o (fun r => r = none ∧ (oc f12 x0 11 ∧ EvC l E w d MX11_expression [.ref x0] s11 f12 (fun o s13 f14 => KP o (fun r => ∃ a15 : Nat, r = some (.ref a15) ∧ (oc f14 a1 25 ∧ f14.2.2.2 ≤ a1 ∧ ∀ f16 : RH, f16 = fset f14 a1 188 (.ref a15) → (oc f16 x0 11 ∧ EvC l E w d MX11_block [.ref x0] s13 f16 (fun o s17 f18 => KP o (fun r => ∃ a19 : Nat, r = some (.ref a19) ∧ (oc f18 a1 25 ∧ f18.2.2.2 ≤ a1 ∧ ∀ f20 : RH, f20 = fset f18 a1 189 (.ref a19) → Q (.inl (some (.ref a1))) s17 f20)) (fun k => Q (.inr k) s17 f18))))) (fun k => Q (.inr k) s13 f14)))) (fun k => Q (.inr k) s11 f12))))) (fun k => Q (.inr k) s7 f8)))) (fun k => Q (.inr k) s5 f6))))) (fun k => Q (.inr k) s3 f4))))) : ExC l E w (d + 1) MX11_walk 0 [some (.ref x0), none] [] s f Q := by
  intro f0 h hW hF
  obtain ⟨hr, hT⟩ := hT
  refine c_newG (k := 25) dX11_walk_0 (by decide) q1156 q200 hr hW hF ?_
  intro a1 f2 ea1 ef2 h hW hF
  replace hT := hT a1 f2 ea1 ef2
  refine x_dup dX11_walk_3 rfl ?_
  refine c_invI (b := a1) (vs := []) dX11_walk_4 oX27_init rfl rfl rfl q1159 (Or.inr ⟨_, q1158⟩) rfl rfl (Nat.le_of_ble_eq_true rfl) rfl hW hF hT ?_ ?_
  · intro _ s3 f4 hT h hW hF
    obtain ⟨rfl, hT⟩ := hT
    refine x_astore_n (lo' := [some (.ref x0), some (.ref a1)]) dX11_walk_7 rfl (Nat.le_of_ble_eq_true rfl) rfl rfl ?_
    refine x_aload_n dX11_walk_8 rfl rfl rfl ?_
    obtain ⟨hc, ev, hT⟩ := hT
    refine c_fgetG dX11_walk_9 f_TallySlate_Reader_23 hc (by decide) (by decide) hW ev ?_
    obtain ⟨-, -, cc, hcc, -⟩ := hW.ob 2 (by decide)
    refine c_invV (vs := []) dX11_walk_12 oX2_next q610 q609 hcc q611 (Or.inl rfl) rfl rfl (Nat.le_of_ble_eq_true rfl) rfl hW hF hT ?_ ?_
    · intro _ s5 f6 hT h hW hF
      obtain ⟨rfl, hT⟩ := hT
      refine x_aload_n dX11_walk_15 rfl rfl rfl ?_
      refine x_aload_n dX11_walk_16 rfl rfl rfl ?_
      obtain ⟨hc, hT⟩ := hT
      obtain ⟨cc, hcc⟩ := hW.ocell hc
      refine c_invV (vs := []) dX11_walk_17 oX11_name q1071 q1069 hcc qs25 (Or.inl rfl) rfl rfl (Nat.le_of_ble_eq_true rfl) rfl hW hF hT ?_ ?_
      · intro _ s7 f8 hT h hW hF
        obtain ⟨v9, rfl, hT⟩ := hT
        obtain ⟨hc, hz, hT⟩ := hT
        refine c_fputG dX11_walk_20 f_TallySlate_Reader_235 hc (by decide) (by decide) hz (Or.inl rfl) rfl rfl hW hF ?_
        intro f10 ef10 h hW hF
        replace hT := hT f10 ef10
        refine x_aload_n dX11_walk_23 rfl rfl rfl ?_
        refine x_ldcS (i := 50) dX11_walk_24 rfl ?_
        obtain ⟨hc, hT⟩ := hT
        obtain ⟨cc, hcc⟩ := hW.ocell hc
        refine c_invV (vs := [.ref (eSC E 50)]) dX11_walk_26 oX11_take q1179 q1177 hcc qs29 (Or.inl rfl) rfl rfl (Nat.le_of_ble_eq_true rfl) rfl hW hF hT ?_ ?_
        · intro _ s11 f12 hT h hW hF
          obtain ⟨rfl, hT⟩ := hT
          refine x_aload_n dX11_walk_29 rfl rfl rfl ?_
          refine x_aload_n dX11_walk_30 rfl rfl rfl ?_
          obtain ⟨hc, hT⟩ := hT
          obtain ⟨cc, hcc⟩ := hW.ocell hc
          refine c_invV (vs := []) dX11_walk_31 oX11_expression q893 q891 hcc qs14 (Or.inl rfl) rfl rfl (Nat.le_of_ble_eq_true rfl) rfl hW hF hT ?_ ?_
          · intro _ s13 f14 hT h hW hF
            obtain ⟨a15, rfl, hT⟩ := hT
            obtain ⟨hc, hz, hT⟩ := hT
            refine c_fputG dX11_walk_34 f_TallySlate_Reader_243 hc (by decide) (by decide) hz (Or.inl rfl) rfl rfl hW hF ?_
            intro f16 ef16 h hW hF
            replace hT := hT f16 ef16
            refine x_aload_n dX11_walk_37 rfl rfl rfl ?_
            refine x_aload_n dX11_walk_38 rfl rfl rfl ?_
            obtain ⟨hc, hT⟩ := hT
            obtain ⟨cc, hcc⟩ := hW.ocell hc
            refine c_invV (vs := []) dX11_walk_39 oX11_block q831 q829 hcc qs11 (Or.inl rfl) rfl rfl (Nat.le_of_ble_eq_true rfl) rfl hW hF hT ?_ ?_
            · intro _ s17 f18 hT h hW hF
              obtain ⟨a19, rfl, hT⟩ := hT
              obtain ⟨hc, hz, hT⟩ := hT
              refine c_fputG dX11_walk_42 f_TallySlate_Reader_246 hc (by decide) (by decide) hz (Or.inl rfl) rfl rfl hW hF ?_
              intro f20 ef20 h hW hF
              replace hT := hT f20 ef20
              refine x_aload_n dX11_walk_45 rfl rfl rfl ?_
              exact x_aret dX11_walk_46 rfl (by first | exact Or.inl ⟨_, rfl⟩ | exact Or.inr ⟨_, rfl⟩) rfl ⟨_, _, hW, hF, Or.inl ⟨_, rfl, hT⟩⟩
            · intro k s17 f18 hT h a hW hx hF
              exact c_out (rfl) hW hx hF hT
          · intro k s13 f14 hT h a hW hx hF
            exact c_out (rfl) hW hx hF hT
        · intro k s11 f12 hT h a hW hx hF
          exact c_out (rfl) hW hx hF hT
      · intro k s7 f8 hT h a hW hx hF
        exact c_out (rfl) hW hx hF hT
    · intro k s5 f6 hT h a hW hx hF
      exact c_out (rfl) hW hx hF hT
  · intro k s3 f4 hT h a hW hx hF
    exact c_out (rfl) hW hx hF hT
theorem eR11_walk {l : Launch} {E : EN} {w : CO} {d : Nat} {s : CS} {f : RH} {Q : KO → CS → RH → Prop} {x0 : Nat}  (hst : l.stackTraces = false) (hT : (rmF E f 1 4 ∧ ∀ (a1 : Nat) (f2 : RH), a1 = f.1 → f2 = fnew f 25 → (EvC l E w d MX27_init [.ref a1] s f2 (fun o s3 f4 => KP o (fun r => r = none ∧ (oc f4 x0 11 ∧ vl f4 x0 147 = .ref (w.1 2) ∧ (EvC l E w d MX2_next [.ref (w.1 2)] s3 f4 (fun o s5 f6 => KP o (fun r => r = none ∧ (oc f6 x0 11 ∧ EvC l E w d MX11_name [.ref x0] s5 f6 (fun o s7 f8 => KP o (fun r => ∃ v9 : Int32, r = some (.int v9) ∧ (oc f8 a1 25 ∧ f8.2.2.2 ≤ a1 ∧ ∀ f10 : RH, f10 = fset f8 a1 187 (.int v9) → (oc f10 x0 11 ∧ EvC l E w d MX11_take [.ref x0, .ref (eSC E 50)] s7 f10 (fun o s11 f12 => KP o (fun r => r = none ∧ (oc f12 x0 11 ∧ EvC l E w d MX11_expression [.ref x0] s11 f12 (fun o s13 f14 => KP o (fun r => ∃ a15 : Nat, r = some (.ref a15) ∧ (oc f14 a1 25 ∧ f14.2.2.2 ≤ a1 ∧ ∀ f16 : RH, f16 = fset f14 a1 188 (.ref a15) → (oc f16 x0 11 ∧ EvC l E w d MX11_block [.ref x0] s13 f16 (fun o s17 f18 => KP o (fun r => ∃ a19 : Nat, r = some (.ref a19) ∧ (oc f18 a1 25 ∧ f18.2.2.2 ≤ a1 ∧ ∀ f20 : RH, f20 = fset f18 a1 189 (.ref a19) → Q (.inl (some (.ref a1))) s17 f20)) (fun k => Q (.inr k) s17 f18))))) (fun k => Q (.inr k) s13 f14)))) (fun k => Q (.inr k) s11 f12))))) (fun k => Q (.inr k) s7 f8)))) (fun k => Q (.inr k) s5 f6))))) (fun k => Q (.inr k) s3 f4))))) : EvC l E w (d + 1) MX11_walk [.ref x0] s f Q :=
  EvC.of hst (by decide) (Nat.le_of_ble_eq_true rfl) (vR11_walk_0  hT)
theorem vR11_take_0 {l : Launch} {E : EN} {w : CO} {d : Nat} {s : CS} {f : RH} {Q : KO → CS → RH → Prop} {x0 : Nat} {x1 : Nat}  (hT : (oc f x0 11 ∧ vl f x0 147 = .ref (w.1 2) ∧ (EvC l E w d MX2_isWord [.ref (w.1 2), .ref x1] s f (fun o s1 f2 => KP o (fun r => ∃ v3 : Int32, r = some (.int v3) ∧ ((¬ v3 = 0 → (oc f2 x0 11 ∧ vl f2 x0 147 = .ref (w.1 2) ∧ (EvC l E w d MX2_next [.ref (w.1 2)] s1 f2 (fun o s4 f5 => KP o (fun r => r = none ∧ Q (.inl none) s4 f5) (fun k => Q (.inr k) s4 f5))))) ∧ (v3 = 0 → (oc f2 x0 11 ∧ vl f2 x0 147 = .ref (w.1 2) ∧ (oc f2 x0 11 ∧ vl f2 x0 147 = .ref (w.1 2) ∧ (EvC l E w d MX2_wrong [.ref (w.1 2), .int 2, .int (s1.1 21)] s1 f2 (fun o s6 f7 => KP o (fun r => r = some (.ref (w.1 1)) ∧ Q (.inr 1) s6 f7) (fun k => Q (.inr k) s6 f7)))))))) (fun k => Q (.inr k) s1 f2))))) : ExC l E w (d + 1) MX11_take 0 [some (.ref x0), some (.ref x1)] [] s f Q := by
  intro f0 h hW hF
  refine x_aload_n dX11_take_0 rfl rfl rfl ?_
  obtain ⟨hc, ev, hT⟩ := hT
  refine c_fgetG dX11_take_1 f_TallySlate_Reader_23 hc (by decide) (by decide) hW ev ?_
  refine x_aload_n dX11_take_4 rfl rfl rfl ?_
  obtain ⟨-, -, cc, hcc, -⟩ := hW.ob 2 (by decide)
  refine c_invV (vs := [.ref x1]) dX11_take_5 oX2_isWord q728 q727 hcc q729 (Or.inl rfl) rfl rfl (Nat.le_of_ble_eq_true rfl) rfl hW hF hT ?_ ?_
  · intro _ s1 f2 hT h hW hF
    obtain ⟨v3, rfl, hT⟩ := hT
    refine x_if_ne (tgt := 27) dX11_take_8 rfl (fun c => ?_) (fun c => ?_)
    · replace hT := hT.1 c
      refine x_aload_n dX11_take_27 rfl rfl rfl ?_
      obtain ⟨hc, ev, hT⟩ := hT
      refine c_fgetG dX11_take_28 f_TallySlate_Reader_23 hc (by decide) (by decide) hW ev ?_
      obtain ⟨-, -, cc, hcc, -⟩ := hW.ob 2 (by decide)
      refine c_invV (vs := []) dX11_take_31 oX2_next q610 q609 hcc q611 (Or.inl rfl) rfl rfl (Nat.le_of_ble_eq_true rfl) rfl hW hF hT ?_ ?_
      · intro _ s4 f5 hT h hW hF
        obtain ⟨rfl, hT⟩ := hT
        exact x_vret dX11_take_34 rfl ⟨_, _, hW, hF, Or.inl ⟨_, rfl, hT⟩⟩
      · intro k s4 f5 hT h a hW hx hF
        exact c_out (rfl) hW hx hF hT
    · replace hT := hT.2 c
      refine x_aload_n dX11_take_11 rfl rfl rfl ?_
      obtain ⟨hc, ev, hT⟩ := hT
      refine c_fgetG dX11_take_12 f_TallySlate_Reader_23 hc (by decide) (by decide) hW ev ?_
      refine x_iconst (v := 2) dX11_take_15 rfl ?_
      refine x_aload_n dX11_take_16 rfl rfl rfl ?_
      obtain ⟨hc, ev, hT⟩ := hT
      refine c_fgetG dX11_take_17 f_TallySlate_Reader_23 hc (by decide) (by decide) hW ev ?_
      refine c_getI (v := (s1.1 21)) dX11_take_20 f_TallySlate_Reader_45 (by decide) (by decide) rfl hW rfl ?_
      obtain ⟨-, -, cc, hcc, -⟩ := hW.ob 2 (by decide)
      refine c_invV (vs := [.int 2, .int (s1.1 21)]) dX11_take_23 oX2_wrong q564 q772 hcc q565 (Or.inl rfl) rfl rfl (Nat.le_of_ble_eq_true rfl) rfl hW hF hT ?_ ?_
      · intro _ s6 f7 hT h hW hF
        obtain ⟨rfl, hT⟩ := hT
        refine x_athrow dX11_take_26 ?_
        exact c_out (rfl) hW (Or.inr (Or.inl ⟨rfl, rfl⟩)) hF hT
      · intro k s6 f7 hT h a hW hx hF
        exact c_out (rfl) hW hx hF hT
  · intro k s1 f2 hT h a hW hx hF
    exact c_out (rfl) hW hx hF hT
theorem eR11_take {l : Launch} {E : EN} {w : CO} {d : Nat} {s : CS} {f : RH} {Q : KO → CS → RH → Prop} {x0 : Nat} {x1 : Nat}  (hst : l.stackTraces = false) (hT : (oc f x0 11 ∧ vl f x0 147 = .ref (w.1 2) ∧ (EvC l E w d MX2_isWord [.ref (w.1 2), .ref x1] s f (fun o s1 f2 => KP o (fun r => ∃ v3 : Int32, r = some (.int v3) ∧ ((¬ v3 = 0 → (oc f2 x0 11 ∧ vl f2 x0 147 = .ref (w.1 2) ∧ (EvC l E w d MX2_next [.ref (w.1 2)] s1 f2 (fun o s4 f5 => KP o (fun r => r = none ∧ Q (.inl none) s4 f5) (fun k => Q (.inr k) s4 f5))))) ∧ (v3 = 0 → (oc f2 x0 11 ∧ vl f2 x0 147 = .ref (w.1 2) ∧ (oc f2 x0 11 ∧ vl f2 x0 147 = .ref (w.1 2) ∧ (EvC l E w d MX2_wrong [.ref (w.1 2), .int 2, .int (s1.1 21)] s1 f2 (fun o s6 f7 => KP o (fun r => r = some (.ref (w.1 1)) ∧ Q (.inr 1) s6 f7) (fun k => Q (.inr k) s6 f7)))))))) (fun k => Q (.inr k) s1 f2))))) : EvC l E w (d + 1) MX11_take [.ref x0, .ref x1] s f Q :=
  EvC.of hst (by decide) (Nat.le_of_ble_eq_true rfl) (vR11_take_0  hT)
theorem vR11_plain_0 {l : Launch} {E : EN} {w : CO} {d : Nat} {s : CS} {f : RH} {Q : KO → CS → RH → Prop} {x0 : Nat} {x1 : Int32}  (hT : (rmF E f 1 3 ∧ ∀ (a1 : Nat) (f2 : RH), a1 = f.1 → f2 = fnew f 26 → (EvC l E w d MX28_init [.ref a1, .int x1] s f2 (fun o s3 f4 => KP o (fun r => r = none ∧ (oc f4 x0 11 ∧ vl f4 x0 147 = .ref (w.1 2) ∧ (EvC l E w d MX2_next [.ref (w.1 2)] s3 f4 (fun o s5 f6 => KP o (fun r => r = none ∧ (oc f6 x0 11 ∧ EvC l E w d MX11_expression [.ref x0] s5 f6 (fun o s7 f8 => KP o (fun r => ∃ a9 : Nat, r = some (.ref a9) ∧ (oc f8 a1 26 ∧ f8.2.2.2 ≤ a1 ∧ ∀ f10 : RH, f10 = fset f8 a1 191 (.ref a9) → (oc f10 x0 11 ∧ vl f10 x0 147 = .ref (w.1 2) ∧ (EvC l E w d MX2_take [.ref (w.1 2), .int 59] s7 f10 (fun o s11 f12 => KP o (fun r => r = none ∧ Q (.inl (some (.ref a1))) s11 f12) (fun k => Q (.inr k) s11 f12)))))) (fun k => Q (.inr k) s7 f8)))) (fun k => Q (.inr k) s5 f6))))) (fun k => Q (.inr k) s3 f4))))) : ExC l E w (d + 1) MX11_plain 0 [some (.ref x0), some (.int x1), none] [] s f Q := by
  intro f0 h hW hF
  obtain ⟨hr, hT⟩ := hT
  refine c_newG (k := 26) dX11_plain_0 (by decide) q1186 q201 hr hW hF ?_
  intro a1 f2 ea1 ef2 h hW hF
  replace hT := hT a1 f2 ea1 ef2
  refine x_dup dX11_plain_3 rfl ?_
  refine x_iload_n dX11_plain_4 rfl rfl ?_
  refine c_invI (b := a1) (vs := [.int x1]) dX11_plain_5 oX28_init rfl rfl rfl q1189 (Or.inl q1188) rfl rfl (Nat.le_of_ble_eq_true rfl) rfl hW hF hT ?_ ?_
  · intro _ s3 f4 hT h hW hF
    obtain ⟨rfl, hT⟩ := hT
    refine x_astore_n (lo' := [some (.ref x0), some (.int x1), some (.ref a1)]) dX11_plain_8 rfl (Nat.le_of_ble_eq_true rfl) rfl rfl ?_
    refine x_aload_n dX11_plain_9 rfl rfl rfl ?_
    obtain ⟨hc, ev, hT⟩ := hT
    refine c_fgetG dX11_plain_10 f_TallySlate_Reader_23 hc (by decide) (by decide) hW ev ?_
    obtain ⟨-, -, cc, hcc, -⟩ := hW.ob 2 (by decide)
    refine c_invV (vs := []) dX11_plain_13 oX2_next q610 q609 hcc q611 (Or.inl rfl) rfl rfl (Nat.le_of_ble_eq_true rfl) rfl hW hF hT ?_ ?_
    · intro _ s5 f6 hT h hW hF
      obtain ⟨rfl, hT⟩ := hT
      refine x_aload_n dX11_plain_16 rfl rfl rfl ?_
      refine x_aload_n dX11_plain_17 rfl rfl rfl ?_
      obtain ⟨hc, hT⟩ := hT
      obtain ⟨cc, hcc⟩ := hW.ocell hc
      refine c_invV (vs := []) dX11_plain_18 oX11_expression q893 q891 hcc qs14 (Or.inl rfl) rfl rfl (Nat.le_of_ble_eq_true rfl) rfl hW hF hT ?_ ?_
      · intro _ s7 f8 hT h hW hF
        obtain ⟨a9, rfl, hT⟩ := hT
        obtain ⟨hc, hz, hT⟩ := hT
        refine c_fputG dX11_plain_21 f_TallySlate_Reader_204 hc (by decide) (by decide) hz (Or.inl rfl) rfl rfl hW hF ?_
        intro f10 ef10 h hW hF
        replace hT := hT f10 ef10
        refine x_aload_n dX11_plain_24 rfl rfl rfl ?_
        obtain ⟨hc, ev, hT⟩ := hT
        refine c_fgetG dX11_plain_25 f_TallySlate_Reader_23 hc (by decide) (by decide) hW ev ?_
        refine x_bipush (v := 59) dX11_plain_28 rfl ?_
        obtain ⟨-, -, cc, hcc, -⟩ := hW.ob 2 (by decide)
        refine c_invV (vs := [.int 59]) dX11_plain_30 oX2_take q816 q815 hcc q817 (Or.inl rfl) rfl rfl (Nat.le_of_ble_eq_true rfl) rfl hW hF hT ?_ ?_
        · intro _ s11 f12 hT h hW hF
          obtain ⟨rfl, hT⟩ := hT
          refine x_aload_n dX11_plain_33 rfl rfl rfl ?_
          exact x_aret dX11_plain_34 rfl (by first | exact Or.inl ⟨_, rfl⟩ | exact Or.inr ⟨_, rfl⟩) rfl ⟨_, _, hW, hF, Or.inl ⟨_, rfl, hT⟩⟩
        · intro k s11 f12 hT h a hW hx hF
          exact c_out (rfl) hW hx hF hT
      · intro k s7 f8 hT h a hW hx hF
        exact c_out (rfl) hW hx hF hT
    · intro k s5 f6 hT h a hW hx hF
      exact c_out (rfl) hW hx hF hT
  · intro k s3 f4 hT h a hW hx hF
    exact c_out (rfl) hW hx hF hT
theorem eR11_plain {l : Launch} {E : EN} {w : CO} {d : Nat} {s : CS} {f : RH} {Q : KO → CS → RH → Prop} {x0 : Nat} {x1 : Int32}  (hst : l.stackTraces = false) (hT : (rmF E f 1 3 ∧ ∀ (a1 : Nat) (f2 : RH), a1 = f.1 → f2 = fnew f 26 → (EvC l E w d MX28_init [.ref a1, .int x1] s f2 (fun o s3 f4 => KP o (fun r => r = none ∧ (oc f4 x0 11 ∧ vl f4 x0 147 = .ref (w.1 2) ∧ (EvC l E w d MX2_next [.ref (w.1 2)] s3 f4 (fun o s5 f6 => KP o (fun r => r = none ∧ (oc f6 x0 11 ∧ EvC l E w d MX11_expression [.ref x0] s5 f6 (fun o s7 f8 => KP o (fun r => ∃ a9 : Nat, r = some (.ref a9) ∧ (oc f8 a1 26 ∧ f8.2.2.2 ≤ a1 ∧ ∀ f10 : RH, f10 = fset f8 a1 191 (.ref a9) → (oc f10 x0 11 ∧ vl f10 x0 147 = .ref (w.1 2) ∧ (EvC l E w d MX2_take [.ref (w.1 2), .int 59] s7 f10 (fun o s11 f12 => KP o (fun r => r = none ∧ Q (.inl (some (.ref a1))) s11 f12) (fun k => Q (.inr k) s11 f12)))))) (fun k => Q (.inr k) s7 f8)))) (fun k => Q (.inr k) s5 f6))))) (fun k => Q (.inr k) s3 f4))))) : EvC l E w (d + 1) MX11_plain [.ref x0, .int x1] s f Q :=
  EvC.of hst (by decide) (Nat.le_of_ble_eq_true rfl) (vR11_plain_0  hT)
set_option maxHeartbeats 16000000 in
theorem vR11_attempt_0 {l : Launch} {E : EN} {w : CO} {d : Nat} {s : CS} {f : RH} {Q : KO → CS → RH → Prop} {x0 : Nat}  (hT : (rmF E f 1 5 ∧ ∀ (a1 : Nat) (f2 : RH), a1 = f.1 → f2 = fnew f 27 → (EvC l E w d MX29_init [.ref a1] s f2 (fun o s3 f4 => KP o (fun r => r = none ∧ (oc f4 x0 11 ∧ vl f4 x0 147 = .ref (w.1 2) ∧ (EvC l E w d MX2_next [.ref (w.1 2)] s3 f4 (fun o s5 f6 => KP o (fun r => r = none ∧ (oc f6 x0 11 ∧ EvC l E w d MX11_block [.ref x0] s5 f6 (fun o s7 f8 => KP o (fun r => ∃ a9 : Nat, r = some (.ref a9) ∧ (oc f8 a1 27 ∧ f8.2.2.2 ≤ a1 ∧ ∀ f10 : RH, f10 = fset f8 a1 194 (.ref a9) → (oc f10 x0 11 ∧ vl f10 x0 147 = .ref (w.1 2) ∧ (oc f10 a1 27 ∧ f10.2.2.2 ≤ a1 ∧ ∀ f11 : RH, f11 = fset f10 a1 193 (.int (s7.1 21)) → (oc f11 x0 11 ∧ EvC l E w d MX11_take [.ref x0, .ref (eSC E 51)] s7 f11 (fun o s12 f13 => KP o (fun r => r = none ∧ (oc f13 x0 11 ∧ EvC l E w d MX11_name [.ref x0] s12 f13 (fun o s14 f15 => KP o (fun r => ∃ v16 : Int32, r = some (.int v16) ∧ (oc f15 a1 27 ∧ f15.2.2.2 ≤ a1 ∧ ∀ f17 : RH, f17 = fset f15 a1 192 (.int v16) → (oc f17 x0 11 ∧ EvC l E w d MX11_block [.ref x0] s14 f17 (fun o s18 f19 => KP o (fun r => ∃ a20 : Nat, r = some (.ref a20) ∧ (oc f19 a1 27 ∧ f19.2.2.2 ≤ a1 ∧ ∀ f21 : RH, f21 = fset f19 a1 195 (.ref a20) → Q (.inl (some (.ref a1))) s18 f21)) (fun k => Q (.inr k) s18 f19))))) (fun k => Q (.inr k) s14 f15)))) (fun k => Q (.inr k) s12 f13))))))) (fun k => Q (.inr k) s7 f8)))) (fun k => Q (.inr k) s5 f6))))) (fun k => Q (.inr k) s3 f4))))) : ExC l E w (d + 1) MX11_attempt 0 [some (.ref x0), none] [] s f Q := by
  intro f0 h hW hF
  obtain ⟨hr, hT⟩ := hT
  refine c_newG (k := 27) dX11_attempt_0 (by decide) q1208 q202 hr hW hF ?_
  intro a1 f2 ea1 ef2 h hW hF
  replace hT := hT a1 f2 ea1 ef2
  refine x_dup dX11_attempt_3 rfl ?_
  refine c_invI (b := a1) (vs := []) dX11_attempt_4 oX29_init rfl rfl rfl q1211 (Or.inr ⟨_, q1210⟩) rfl rfl (Nat.le_of_ble_eq_true rfl) rfl hW hF hT ?_ ?_
  · intro _ s3 f4 hT h hW hF
    obtain ⟨rfl, hT⟩ := hT
    refine x_astore_n (lo' := [some (.ref x0), some (.ref a1)]) dX11_attempt_7 rfl (Nat.le_of_ble_eq_true rfl) rfl rfl ?_
    refine x_aload_n dX11_attempt_8 rfl rfl rfl ?_
    obtain ⟨hc, ev, hT⟩ := hT
    refine c_fgetG dX11_attempt_9 f_TallySlate_Reader_23 hc (by decide) (by decide) hW ev ?_
    obtain ⟨-, -, cc, hcc, -⟩ := hW.ob 2 (by decide)
    refine c_invV (vs := []) dX11_attempt_12 oX2_next q610 q609 hcc q611 (Or.inl rfl) rfl rfl (Nat.le_of_ble_eq_true rfl) rfl hW hF hT ?_ ?_
    · intro _ s5 f6 hT h hW hF
      obtain ⟨rfl, hT⟩ := hT
      refine x_aload_n dX11_attempt_15 rfl rfl rfl ?_
      refine x_aload_n dX11_attempt_16 rfl rfl rfl ?_
      obtain ⟨hc, hT⟩ := hT
      obtain ⟨cc, hcc⟩ := hW.ocell hc
      refine c_invV (vs := []) dX11_attempt_17 oX11_block q831 q829 hcc qs11 (Or.inl rfl) rfl rfl (Nat.le_of_ble_eq_true rfl) rfl hW hF hT ?_ ?_
      · intro _ s7 f8 hT h hW hF
        obtain ⟨a9, rfl, hT⟩ := hT
        obtain ⟨hc, hz, hT⟩ := hT
        refine c_fputG dX11_attempt_20 f_TallySlate_Reader_250 hc (by decide) (by decide) hz (Or.inl rfl) rfl rfl hW hF ?_
        intro f10 ef10 h hW hF
        replace hT := hT f10 ef10
        refine x_aload_n dX11_attempt_23 rfl rfl rfl ?_
        refine x_aload_n dX11_attempt_24 rfl rfl rfl ?_
        obtain ⟨hc, ev, hT⟩ := hT
        refine c_fgetG dX11_attempt_25 f_TallySlate_Reader_23 hc (by decide) (by decide) hW ev ?_
        refine c_getI (v := (s7.1 21)) dX11_attempt_28 f_TallySlate_Reader_45 (by decide) (by decide) rfl hW rfl ?_
        obtain ⟨hc, hz, hT⟩ := hT
        refine c_fputG dX11_attempt_31 f_TallySlate_Reader_251 hc (by decide) (by decide) hz (Or.inl rfl) rfl rfl hW hF ?_
        intro f11 ef11 h hW hF
        replace hT := hT f11 ef11
        refine x_aload_n dX11_attempt_34 rfl rfl rfl ?_
        refine x_ldcS (i := 51) dX11_attempt_35 rfl ?_
        obtain ⟨hc, hT⟩ := hT
        obtain ⟨cc, hcc⟩ := hW.ocell hc
        refine c_invV (vs := [.ref (eSC E 51)]) dX11_attempt_37 oX11_take q1179 q1177 hcc qs29 (Or.inl rfl) rfl rfl (Nat.le_of_ble_eq_true rfl) rfl hW hF hT ?_ ?_
        · intro _ s12 f13 hT h hW hF
          obtain ⟨rfl, hT⟩ := hT
          refine x_aload_n dX11_attempt_40 rfl rfl rfl ?_
          refine x_aload_n dX11_attempt_41 rfl rfl rfl ?_
          obtain ⟨hc, hT⟩ := hT
          obtain ⟨cc, hcc⟩ := hW.ocell hc
          refine c_invV (vs := []) dX11_attempt_42 oX11_name q1071 q1069 hcc qs25 (Or.inl rfl) rfl rfl (Nat.le_of_ble_eq_true rfl) rfl hW hF hT ?_ ?_
          · intro _ s14 f15 hT h hW hF
            obtain ⟨v16, rfl, hT⟩ := hT
            obtain ⟨hc, hz, hT⟩ := hT
            refine c_fputG dX11_attempt_45 f_TallySlate_Reader_256 hc (by decide) (by decide) hz (Or.inl rfl) rfl rfl hW hF ?_
            intro f17 ef17 h hW hF
            replace hT := hT f17 ef17
            refine x_aload_n dX11_attempt_48 rfl rfl rfl ?_
            refine x_aload_n dX11_attempt_49 rfl rfl rfl ?_
            obtain ⟨hc, hT⟩ := hT
            obtain ⟨cc, hcc⟩ := hW.ocell hc
            refine c_invV (vs := []) dX11_attempt_50 oX11_block q831 q829 hcc qs11 (Or.inl rfl) rfl rfl (Nat.le_of_ble_eq_true rfl) rfl hW hF hT ?_ ?_
            · intro _ s18 f19 hT h hW hF
              obtain ⟨a20, rfl, hT⟩ := hT
              obtain ⟨hc, hz, hT⟩ := hT
              refine c_fputG dX11_attempt_53 f_TallySlate_Reader_257 hc (by decide) (by decide) hz (Or.inl rfl) rfl rfl hW hF ?_
              intro f21 ef21 h hW hF
              replace hT := hT f21 ef21
              refine x_aload_n dX11_attempt_56 rfl rfl rfl ?_
              exact x_aret dX11_attempt_57 rfl (by first | exact Or.inl ⟨_, rfl⟩ | exact Or.inr ⟨_, rfl⟩) rfl ⟨_, _, hW, hF, Or.inl ⟨_, rfl, hT⟩⟩
            · intro k s18 f19 hT h a hW hx hF
              exact c_out (rfl) hW hx hF hT
          · intro k s14 f15 hT h a hW hx hF
            exact c_out (rfl) hW hx hF hT
        · intro k s12 f13 hT h a hW hx hF
          exact c_out (rfl) hW hx hF hT
      · intro k s7 f8 hT h a hW hx hF
        exact c_out (rfl) hW hx hF hT
    · intro k s5 f6 hT h a hW hx hF
      exact c_out (rfl) hW hx hF hT
  · intro k s3 f4 hT h a hW hx hF
    exact c_out (rfl) hW hx hF hT
theorem eR11_attempt {l : Launch} {E : EN} {w : CO} {d : Nat} {s : CS} {f : RH} {Q : KO → CS → RH → Prop} {x0 : Nat}  (hst : l.stackTraces = false) (hT : (rmF E f 1 5 ∧ ∀ (a1 : Nat) (f2 : RH), a1 = f.1 → f2 = fnew f 27 → (EvC l E w d MX29_init [.ref a1] s f2 (fun o s3 f4 => KP o (fun r => r = none ∧ (oc f4 x0 11 ∧ vl f4 x0 147 = .ref (w.1 2) ∧ (EvC l E w d MX2_next [.ref (w.1 2)] s3 f4 (fun o s5 f6 => KP o (fun r => r = none ∧ (oc f6 x0 11 ∧ EvC l E w d MX11_block [.ref x0] s5 f6 (fun o s7 f8 => KP o (fun r => ∃ a9 : Nat, r = some (.ref a9) ∧ (oc f8 a1 27 ∧ f8.2.2.2 ≤ a1 ∧ ∀ f10 : RH, f10 = fset f8 a1 194 (.ref a9) → (oc f10 x0 11 ∧ vl f10 x0 147 = .ref (w.1 2) ∧ (oc f10 a1 27 ∧ f10.2.2.2 ≤ a1 ∧ ∀ f11 : RH, f11 = fset f10 a1 193 (.int (s7.1 21)) → (oc f11 x0 11 ∧ EvC l E w d MX11_take [.ref x0, .ref (eSC E 51)] s7 f11 (fun o s12 f13 => KP o (fun r => r = none ∧ (oc f13 x0 11 ∧ EvC l E w d MX11_name [.ref x0] s12 f13 (fun o s14 f15 => KP o (fun r => ∃ v16 : Int32, r = some (.int v16) ∧ (oc f15 a1 27 ∧ f15.2.2.2 ≤ a1 ∧ ∀ f17 : RH, f17 = fset f15 a1 192 (.int v16) → (oc f17 x0 11 ∧ EvC l E w d MX11_block [.ref x0] s14 f17 (fun o s18 f19 => KP o (fun r => ∃ a20 : Nat, r = some (.ref a20) ∧ (oc f19 a1 27 ∧ f19.2.2.2 ≤ a1 ∧ ∀ f21 : RH, f21 = fset f19 a1 195 (.ref a20) → Q (.inl (some (.ref a1))) s18 f21)) (fun k => Q (.inr k) s18 f19))))) (fun k => Q (.inr k) s14 f15)))) (fun k => Q (.inr k) s12 f13))))))) (fun k => Q (.inr k) s7 f8)))) (fun k => Q (.inr k) s5 f6))))) (fun k => Q (.inr k) s3 f4))))) : EvC l E w (d + 1) MX11_attempt [.ref x0] s f Q :=
  EvC.of hst (by decide) (Nat.le_of_ble_eq_true rfl) (vR11_attempt_0  hT)
theorem vR11_alone_0 {l : Launch} {E : EN} {w : CO} {d : Nat} {s : CS} {f : RH} {Q : KO → CS → RH → Prop} {x0 : Nat}  (hT : (rmF E f 1 3 ∧ ∀ (a1 : Nat) (f2 : RH), a1 = f.1 → f2 = fnew f 26 → (EvC l E w d MX28_init [.ref a1, .int 4] s f2 (fun o s3 f4 => KP o (fun r => r = none ∧ (oc f4 x0 11 ∧ EvC l E w d MX11_call [.ref x0] s3 f4 (fun o s5 f6 => KP o (fun r => ∃ a7 : Nat, r = some (.ref a7) ∧ (oc f6 a1 26 ∧ f6.2.2.2 ≤ a1 ∧ ∀ f8 : RH, f8 = fset f6 a1 191 (.ref a7) → (oc f8 x0 11 ∧ vl f8 x0 147 = .ref (w.1 2) ∧ (EvC l E w d MX2_take [.ref (w.1 2), .int 59] s5 f8 (fun o s9 f10 => KP o (fun r => r = none ∧ Q (.inl (some (.ref a1))) s9 f10) (fun k => Q (.inr k) s9 f10)))))) (fun k => Q (.inr k) s5 f6)))) (fun k => Q (.inr k) s3 f4))))) : ExC l E w (d + 1) MX11_alone 0 [some (.ref x0), none] [] s f Q := by
  intro f0 h hW hF
  obtain ⟨hr, hT⟩ := hT
  refine c_newG (k := 26) dX11_alone_0 (by decide) q1186 q201 hr hW hF ?_
  intro a1 f2 ea1 ef2 h hW hF
  replace hT := hT a1 f2 ea1 ef2
  refine x_dup dX11_alone_3 rfl ?_
  refine x_iconst (v := 4) dX11_alone_4 rfl ?_
  refine c_invI (b := a1) (vs := [.int 4]) dX11_alone_5 oX28_init rfl rfl rfl q1189 (Or.inl q1188) rfl rfl (Nat.le_of_ble_eq_true rfl) rfl hW hF hT ?_ ?_
  · intro _ s3 f4 hT h hW hF
    obtain ⟨rfl, hT⟩ := hT
    refine x_astore_n (lo' := [some (.ref x0), some (.ref a1)]) dX11_alone_8 rfl (Nat.le_of_ble_eq_true rfl) rfl rfl ?_
    refine x_aload_n dX11_alone_9 rfl rfl rfl ?_
    refine x_aload_n dX11_alone_10 rfl rfl rfl ?_
    obtain ⟨hc, hT⟩ := hT
    obtain ⟨cc, hcc⟩ := hW.ocell hc
    refine c_invV (vs := []) dX11_alone_11 oX11_call q1005 q1003 hcc qs21 (Or.inl rfl) rfl rfl (Nat.le_of_ble_eq_true rfl) rfl hW hF hT ?_ ?_
    · intro _ s5 f6 hT h hW hF
      obtain ⟨a7, rfl, hT⟩ := hT
      obtain ⟨hc, hz, hT⟩ := hT
      refine c_fputG dX11_alone_14 f_TallySlate_Reader_204 hc (by decide) (by decide) hz (Or.inl rfl) rfl rfl hW hF ?_
      intro f8 ef8 h hW hF
      replace hT := hT f8 ef8
      refine x_aload_n dX11_alone_17 rfl rfl rfl ?_
      obtain ⟨hc, ev, hT⟩ := hT
      refine c_fgetG dX11_alone_18 f_TallySlate_Reader_23 hc (by decide) (by decide) hW ev ?_
      refine x_bipush (v := 59) dX11_alone_21 rfl ?_
      obtain ⟨-, -, cc, hcc, -⟩ := hW.ob 2 (by decide)
      refine c_invV (vs := [.int 59]) dX11_alone_23 oX2_take q816 q815 hcc q817 (Or.inl rfl) rfl rfl (Nat.le_of_ble_eq_true rfl) rfl hW hF hT ?_ ?_
      · intro _ s9 f10 hT h hW hF
        obtain ⟨rfl, hT⟩ := hT
        refine x_aload_n dX11_alone_26 rfl rfl rfl ?_
        exact x_aret dX11_alone_27 rfl (by first | exact Or.inl ⟨_, rfl⟩ | exact Or.inr ⟨_, rfl⟩) rfl ⟨_, _, hW, hF, Or.inl ⟨_, rfl, hT⟩⟩
      · intro k s9 f10 hT h a hW hx hF
        exact c_out (rfl) hW hx hF hT
    · intro k s5 f6 hT h a hW hx hF
      exact c_out (rfl) hW hx hF hT
  · intro k s3 f4 hT h a hW hx hF
    exact c_out (rfl) hW hx hF hT
theorem eR11_alone {l : Launch} {E : EN} {w : CO} {d : Nat} {s : CS} {f : RH} {Q : KO → CS → RH → Prop} {x0 : Nat}  (hst : l.stackTraces = false) (hT : (rmF E f 1 3 ∧ ∀ (a1 : Nat) (f2 : RH), a1 = f.1 → f2 = fnew f 26 → (EvC l E w d MX28_init [.ref a1, .int 4] s f2 (fun o s3 f4 => KP o (fun r => r = none ∧ (oc f4 x0 11 ∧ EvC l E w d MX11_call [.ref x0] s3 f4 (fun o s5 f6 => KP o (fun r => ∃ a7 : Nat, r = some (.ref a7) ∧ (oc f6 a1 26 ∧ f6.2.2.2 ≤ a1 ∧ ∀ f8 : RH, f8 = fset f6 a1 191 (.ref a7) → (oc f8 x0 11 ∧ vl f8 x0 147 = .ref (w.1 2) ∧ (EvC l E w d MX2_take [.ref (w.1 2), .int 59] s5 f8 (fun o s9 f10 => KP o (fun r => r = none ∧ Q (.inl (some (.ref a1))) s9 f10) (fun k => Q (.inr k) s9 f10)))))) (fun k => Q (.inr k) s5 f6)))) (fun k => Q (.inr k) s3 f4))))) : EvC l E w (d + 1) MX11_alone [.ref x0] s f Q :=
  EvC.of hst (by decide) (Nat.le_of_ble_eq_true rfl) (vR11_alone_0  hT)
set_option maxHeartbeats 16000000 in
theorem vR11_assign_0 {l : Launch} {E : EN} {w : CO} {d : Nat} {s : CS} {f : RH} {Q : KO → CS → RH → Prop} {x0 : Nat}  (hT : (rmF E f 1 8 ∧ ∀ (a1 : Nat) (f2 : RH), a1 = f.1 → f2 = fnew f 28 → (EvC l E w d MX30_init [.ref a1] s f2 (fun o s3 f4 => KP o (fun r => r = none ∧ (oc f4 x0 11 ∧ vl f4 x0 147 = .ref (w.1 2) ∧ (oc f4 a1 28 ∧ f4.2.2.2 ≤ a1 ∧ ∀ f5 : RH, f5 = fset f4 a1 197 (.int (s3.1 21)) → (oc f5 x0 11 ∧ EvC l E w d MX11_name [.ref x0] s3 f5 (fun o s6 f7 => KP o (fun r => ∃ v8 : Int32, r = some (.int v8) ∧ (oc f7 a1 28 ∧ f7.2.2.2 ≤ a1 ∧ ∀ f9 : RH, f9 = fset f7 a1 196 (.int v8) → (oc f9 x0 11 ∧ vl f9 x0 147 = .ref (w.1 2) ∧ (EvC l E w d MX2_is [.ref (w.1 2), .int 91] s6 f9 (fun o s10 f11 => KP o (fun r => ∃ v12 : Int32, r = some (.int v12) ∧ ((v12 = 0 → (oc f11 a1 28 ∧ (∃ v13 : Value, vl f11 a1 200 = v13 ∧ isR v13 = true ∧ ((v13 = .null → (oc f11 x0 11 ∧ vl f11 x0 147 = .ref (w.1 2) ∧ (EvC l E w d MX2_take [.ref (w.1 2), .int 61] s10 f11 (fun o s15 f16 => KP o (fun r => r = none ∧ (oc f16 x0 11 ∧ EvC l E w d MX11_expression [.ref x0] s15 f16 (fun o s17 f18 => KP o (fun r => ∃ a19 : Nat, r = some (.ref a19) ∧ (oc f18 a1 28 ∧ f18.2.2.2 ≤ a1 ∧ ∀ f20 : RH, f20 = fset f18 a1 202 (.ref a19) → (oc f20 x0 11 ∧ vl f20 x0 147 = .ref (w.1 2) ∧ (EvC l E w d MX2_take [.ref (w.1 2), .int 59] s17 f20 (fun o s21 f22 => KP o (fun r => r = none ∧ Q (.inl (some (.ref a1))) s21 f22) (fun k => Q (.inr k) s21 f22)))))) (fun k => Q (.inr k) s17 f18)))) (fun k => Q (.inr k) s15 f16))))) ∧ (∀ a14 : Nat, v13 = .ref a14 → (oc f11 x0 11 ∧ vl f11 x0 147 = .ref (w.1 2) ∧ (EvC l E w d MX2_is [.ref (w.1 2), .int 91] s10 f11 (fun o s24 f25 => KP o (fun r => ∃ v26 : Int32, r = some (.int v26) ∧ ((v26 = 0 → (oc f25 x0 11 ∧ vl f25 x0 147 = .ref (w.1 2) ∧ (EvC l E w d MX2_take [.ref (w.1 2), .int 61] s24 f25 (fun o s27 f28 => KP o (fun r => r = none ∧ (oc f28 x0 11 ∧ EvC l E w d MX11_expression [.ref x0] s27 f28 (fun o s29 f30 => KP o (fun r => ∃ a31 : Nat, r = some (.ref a31) ∧ (oc f30 a1 28 ∧ f30.2.2.2 ≤ a1 ∧ ∀ f32 : RH, f32 = fset f30 a1 202 (.ref a31) → (oc f32 x0 11 ∧ vl f32 x0 147 = .ref (w.1 2) ∧ (EvC l E w d MX2_take [.ref (w.1 2), .int 59] s29 f32 (fun o s33 f34 => KP o (fun r => r = none ∧ Q (.inl (some (.ref a1))) s33 f34) (fun k => Q (.inr k) s33 f34)))))) (fun k => Q (.inr k) s29 f30)))) (fun k => Q (.inr k) s27 f28))))) ∧ (¬ v26 = 0 → (oc f25 x0 11 ∧ vl f25 x0 147 = .ref (w.1 2) ∧ (oc f25 a1 28 ∧ f25.2.2.2 ≤ a1 ∧ ∀ f36 : RH, f36 = fset f25 a1 199 (.int (s24.1 21)) → (oc f36 x0 11 ∧ vl f36 x0 147 = .ref (w.1 2) ∧ (EvC l E w d MX2_take [.ref (w.1 2), .int 91] s24 f36 (fun o s37 f38 => KP o (fun r => r = none ∧ (oc f38 x0 11 ∧ EvC l E w d MX11_expression [.ref x0] s37 f38 (fun o s39 f40 => KP o (fun r => ∃ a41 : Nat, r = some (.ref a41) ∧ (oc f40 a1 28 ∧ f40.2.2.2 ≤ a1 ∧ ∀ f42 : RH, f42 = fset f40 a1 201 (.ref a41) → (oc f42 x0 11 ∧ vl f42 x0 147 = .ref (w.1 2) ∧ (EvC l E w d MX2_take [.ref (w.1 2), .int 93] s39 f42 (fun o s43 f44 => KP o (fun r => r = none ∧ (oc f44 x0 11 ∧ vl f44 x0 147 = .ref (w.1 2) ∧ (EvC l E w d MX2_take [.ref (w.1 2), .int 61] s43 f44 (fun o s45 f46 => KP o (fun r => r = none ∧ (oc f46 x0 11 ∧ EvC l E w d MX11_expression [.ref x0] s45 f46 (fun o s47 f48 => KP o (fun r => ∃ a49 : Nat, r = some (.ref a49) ∧ (oc f48 a1 28 ∧ f48.2.2.2 ≤ a1 ∧ ∀ f50 : RH, f50 = fset f48 a1 202 (.ref a49) → (oc f50 x0 11 ∧ vl f50 x0 147 = .ref (w.1 2) ∧ (EvC l E w d MX2_take [.ref (w.1 2), .int 59] s47 f50 (fun o s51 f52 => KP o (fun r => r = none ∧ Q (.inl (some (.ref a1))) s51 f52) (fun k => Q (.inr k) s51 f52)))))) (fun k => Q (.inr k) s47 f48)))) (fun k => Q (.inr k) s45 f46))))) (fun k => Q (.inr k) s43 f44)))))) (fun k => Q (.inr k) s39 f40)))) (fun k => Q (.inr k) s37 f38))))))))) (fun k => Q (.inr k) s24 f25))))))))) ∧ (¬ v12 = 0 → (oc f11 x0 11 ∧ vl f11 x0 147 = .ref (w.1 2) ∧ (oc f11 a1 28 ∧ f11.2.2.2 ≤ a1 ∧ ∀ f55 : RH, f55 = fset f11 a1 198 (.int (s10.1 21)) → (oc f55 x0 11 ∧ vl f55 x0 147 = .ref (w.1 2) ∧ (EvC l E w d MX2_take [.ref (w.1 2), .int 91] s10 f55 (fun o s56 f57 => KP o (fun r => r = none ∧ (oc f57 x0 11 ∧ EvC l E w d MX11_expression [.ref x0] s56 f57 (fun o s58 f59 => KP o (fun r => ∃ a60 : Nat, r = some (.ref a60) ∧ (oc f59 a1 28 ∧ f59.2.2.2 ≤ a1 ∧ ∀ f61 : RH, f61 = fset f59 a1 200 (.ref a60) → (oc f61 x0 11 ∧ vl f61 x0 147 = .ref (w.1 2) ∧ (EvC l E w d MX2_take [.ref (w.1 2), .int 93] s58 f61 (fun o s62 f63 => KP o (fun r => r = none ∧ (oc f63 a1 28 ∧ (∃ v64 : Value, vl f63 a1 200 = v64 ∧ isR v64 = true ∧ ((v64 = .null → (oc f63 x0 11 ∧ vl f63 x0 147 = .ref (w.1 2) ∧ (EvC l E w d MX2_take [.ref (w.1 2), .int 61] s62 f63 (fun o s66 f67 => KP o (fun r => r = none ∧ (oc f67 x0 11 ∧ EvC l E w d MX11_expression [.ref x0] s66 f67 (fun o s68 f69 => KP o (fun r => ∃ a70 : Nat, r = some (.ref a70) ∧ (oc f69 a1 28 ∧ f69.2.2.2 ≤ a1 ∧ ∀ f71 : RH, f71 = fset f69 a1 202 (.ref a70) → (oc f71 x0 11 ∧ vl f71 x0 147 = .ref (w.1 2) ∧ (EvC l E w d MX2_take [.ref (w.1 2), .int 59] s68 f71 (fun o s72 f73 => KP o (fun r => r = none ∧ Q (.inl (some (.ref a1))) s72 f73) (fun k => Q (.inr k) s72 f73)))))) (fun k => Q (.inr k) s68 f69)))) (fun k => Q (.inr k) s66 f67))))) ∧ (∀ a65 : Nat, v64 = .ref a65 → (oc f63 x0 11 ∧ vl f63 x0 147 = .ref (w.1 2) ∧ (EvC l E w d MX2_is [.ref (w.1 2), .int 91] s62 f63 (fun o s75 f76 => KP o (fun r => ∃ v77 : Int32, r = some (.int v77) ∧ ((v77 = 0 → (oc f76 x0 11 ∧ vl f76 x0 147 = .ref (w.1 2) ∧ (EvC l E w d MX2_take [.ref (w.1 2), .int 61] s75 f76 (fun o s78 f79 => KP o (fun r => r = none ∧ (oc f79 x0 11 ∧ EvC l E w d MX11_expression [.ref x0] s78 f79 (fun o s80 f81 => KP o (fun r => ∃ a82 : Nat, r = some (.ref a82) ∧ (oc f81 a1 28 ∧ f81.2.2.2 ≤ a1 ∧ ∀ f83 : RH, f83 = fset f81 a1 202 (.ref a82) → (oc f83 x0 11 ∧ vl f83 x0 147 = .ref (w.1 2) ∧ (EvC l E w d MX2_take [.ref (w.1 2), .int 59] s80 f83 (fun o s84 f85 => KP o (fun r => r = none ∧ Q (.inl (some (.ref a1))) s84 f85) (fun k => Q (.inr k) s84 f85)))))) (fun k => Q (.inr k) s80 f81)))) (fun k => Q (.inr k) s78 f79))))) ∧ (¬ v77 = 0 → (oc f76 x0 11 ∧ vl f76 x0 147 = .ref (w.1 2) ∧ (oc f76 a1 28 ∧ f76.2.2.2 ≤ a1 ∧ ∀ f87 : RH, f87 = fset f76 a1 199 (.int (s75.1 21)) → (oc f87 x0 11 ∧ vl f87 x0 147 = .ref (w.1 2) ∧ (EvC l E w d MX2_take [.ref (w.1 2), .int 91] s75 f87 (fun o s88 f89 => KP o (fun r => r = none ∧ (oc f89 x0 11 ∧ EvC l E w d MX11_expression [.ref x0] s88 f89 (fun o s90 f91 => KP o (fun r => ∃ a92 : Nat, r = some (.ref a92) ∧ (oc f91 a1 28 ∧ f91.2.2.2 ≤ a1 ∧ ∀ f93 : RH, f93 = fset f91 a1 201 (.ref a92) → (oc f93 x0 11 ∧ vl f93 x0 147 = .ref (w.1 2) ∧ (EvC l E w d MX2_take [.ref (w.1 2), .int 93] s90 f93 (fun o s94 f95 => KP o (fun r => r = none ∧ (oc f95 x0 11 ∧ vl f95 x0 147 = .ref (w.1 2) ∧ (EvC l E w d MX2_take [.ref (w.1 2), .int 61] s94 f95 (fun o s96 f97 => KP o (fun r => r = none ∧ (oc f97 x0 11 ∧ EvC l E w d MX11_expression [.ref x0] s96 f97 (fun o s98 f99 => KP o (fun r => ∃ a100 : Nat, r = some (.ref a100) ∧ (oc f99 a1 28 ∧ f99.2.2.2 ≤ a1 ∧ ∀ f101 : RH, f101 = fset f99 a1 202 (.ref a100) → (oc f101 x0 11 ∧ vl f101 x0 147 = .ref (w.1 2) ∧ (EvC l E w d MX2_take [.ref (w.1 2), .int 59] s98 f101 (fun o s102 f103 => KP o (fun r => r = none ∧ Q (.inl (some (.ref a1))) s102 f103) (fun k => Q (.inr k) s102 f103)))))) (fun k => Q (.inr k) s98 f99)))) (fun k => Q (.inr k) s96 f97))))) (fun k => Q (.inr k) s94 f95)))))) (fun k => Q (.inr k) s90 f91)))) (fun k => Q (.inr k) s88 f89))))))))) (fun k => Q (.inr k) s75 f76))))))))) (fun k => Q (.inr k) s62 f63)))))) (fun k => Q (.inr k) s58 f59)))) (fun k => Q (.inr k) s56 f57))))))))) (fun k => Q (.inr k) s10 f11)))))) (fun k => Q (.inr k) s6 f7)))))) (fun k => Q (.inr k) s3 f4))))) : ExC l E w (d + 1) MX11_assign 0 [some (.ref x0), none] [] s f Q := by
  intro f0 h hW hF
  obtain ⟨hr, hT⟩ := hT
  refine c_newG (k := 28) dX11_assign_0 (by decide) q1241 q203 hr hW hF ?_
  intro a1 f2 ea1 ef2 h hW hF
  replace hT := hT a1 f2 ea1 ef2
  refine x_dup dX11_assign_3 rfl ?_
  refine c_invI (b := a1) (vs := []) dX11_assign_4 oX30_init rfl rfl rfl q1244 (Or.inr ⟨_, q1243⟩) rfl rfl (Nat.le_of_ble_eq_true rfl) rfl hW hF hT ?_ ?_
  · intro _ s3 f4 hT h hW hF
    obtain ⟨rfl, hT⟩ := hT
    refine x_astore_n (lo' := [some (.ref x0), some (.ref a1)]) dX11_assign_7 rfl (Nat.le_of_ble_eq_true rfl) rfl rfl ?_
    refine x_aload_n dX11_assign_8 rfl rfl rfl ?_
    refine x_aload_n dX11_assign_9 rfl rfl rfl ?_
    obtain ⟨hc, ev, hT⟩ := hT
    refine c_fgetG dX11_assign_10 f_TallySlate_Reader_23 hc (by decide) (by decide) hW ev ?_
    refine c_getI (v := (s3.1 21)) dX11_assign_13 f_TallySlate_Reader_45 (by decide) (by decide) rfl hW rfl ?_
    obtain ⟨hc, hz, hT⟩ := hT
    refine c_fputG dX11_assign_16 f_TallySlate_Reader_261 hc (by decide) (by decide) hz (Or.inl rfl) rfl rfl hW hF ?_
    intro f5 ef5 h hW hF
    replace hT := hT f5 ef5
    refine x_aload_n dX11_assign_19 rfl rfl rfl ?_
    refine x_aload_n dX11_assign_20 rfl rfl rfl ?_
    obtain ⟨hc, hT⟩ := hT
    obtain ⟨cc, hcc⟩ := hW.ocell hc
    refine c_invV (vs := []) dX11_assign_21 oX11_name q1071 q1069 hcc qs25 (Or.inl rfl) rfl rfl (Nat.le_of_ble_eq_true rfl) rfl hW hF hT ?_ ?_
    · intro _ s6 f7 hT h hW hF
      obtain ⟨v8, rfl, hT⟩ := hT
      obtain ⟨hc, hz, hT⟩ := hT
      refine c_fputG dX11_assign_24 f_TallySlate_Reader_262 hc (by decide) (by decide) hz (Or.inl rfl) rfl rfl hW hF ?_
      intro f9 ef9 h hW hF
      replace hT := hT f9 ef9
      refine x_aload_n dX11_assign_27 rfl rfl rfl ?_
      obtain ⟨hc, ev, hT⟩ := hT
      refine c_fgetG dX11_assign_28 f_TallySlate_Reader_23 hc (by decide) (by decide) hW ev ?_
      refine x_bipush (v := 91) dX11_assign_31 rfl ?_
      obtain ⟨-, -, cc, hcc, -⟩ := hW.ob 2 (by decide)
      refine c_invV (vs := [.int 91]) dX11_assign_33 oX2_is q820 q824 hcc q821 (Or.inl rfl) rfl rfl (Nat.le_of_ble_eq_true rfl) rfl hW hF hT ?_ ?_
      · intro _ s10 f11 hT h hW hF
        obtain ⟨v12, rfl, hT⟩ := hT
        refine x_if_eq (tgt := 76) dX11_assign_36 rfl (fun c => ?_) (fun c => ?_)
        · replace hT := hT.1 c
          refine x_aload_n dX11_assign_76 rfl rfl rfl ?_
          obtain ⟨hc, hT⟩ := hT
          obtain ⟨v13, ev, iv13, hT⟩ := hT
          refine c_fgetG dX11_assign_77 f_TallySlate_Reader_266 hc (by decide) (by decide) hW ev ?_
          refine x_ifnull (tgt := 132) dX11_assign_80 rfl iv13 (fun e => ?_) (fun a14 e => ?_)
          · subst e
            replace hT := hT.1 rfl
            refine x_aload_n dX11_assign_132 rfl rfl rfl ?_
            obtain ⟨hc, ev, hT⟩ := hT
            refine c_fgetG dX11_assign_133 f_TallySlate_Reader_23 hc (by decide) (by decide) hW ev ?_
            refine x_bipush (v := 61) dX11_assign_136 rfl ?_
            obtain ⟨-, -, cc, hcc, -⟩ := hW.ob 2 (by decide)
            refine c_invV (vs := [.int 61]) dX11_assign_138 oX2_take q816 q815 hcc q817 (Or.inl rfl) rfl rfl (Nat.le_of_ble_eq_true rfl) rfl hW hF hT ?_ ?_
            · intro _ s15 f16 hT h hW hF
              obtain ⟨rfl, hT⟩ := hT
              refine x_aload_n dX11_assign_141 rfl rfl rfl ?_
              refine x_aload_n dX11_assign_142 rfl rfl rfl ?_
              obtain ⟨hc, hT⟩ := hT
              obtain ⟨cc, hcc⟩ := hW.ocell hc
              refine c_invV (vs := []) dX11_assign_143 oX11_expression q893 q891 hcc qs14 (Or.inl rfl) rfl rfl (Nat.le_of_ble_eq_true rfl) rfl hW hF hT ?_ ?_
              · intro _ s17 f18 hT h hW hF
                obtain ⟨a19, rfl, hT⟩ := hT
                obtain ⟨hc, hz, hT⟩ := hT
                refine c_fputG dX11_assign_146 f_TallySlate_Reader_275 hc (by decide) (by decide) hz (Or.inl rfl) rfl rfl hW hF ?_
                intro f20 ef20 h hW hF
                replace hT := hT f20 ef20
                refine x_aload_n dX11_assign_149 rfl rfl rfl ?_
                obtain ⟨hc, ev, hT⟩ := hT
                refine c_fgetG dX11_assign_150 f_TallySlate_Reader_23 hc (by decide) (by decide) hW ev ?_
                refine x_bipush (v := 59) dX11_assign_153 rfl ?_
                obtain ⟨-, -, cc, hcc, -⟩ := hW.ob 2 (by decide)
                refine c_invV (vs := [.int 59]) dX11_assign_155 oX2_take q816 q815 hcc q817 (Or.inl rfl) rfl rfl (Nat.le_of_ble_eq_true rfl) rfl hW hF hT ?_ ?_
                · intro _ s21 f22 hT h hW hF
                  obtain ⟨rfl, hT⟩ := hT
                  refine x_aload_n dX11_assign_158 rfl rfl rfl ?_
                  exact x_aret dX11_assign_159 rfl (by first | exact Or.inl ⟨_, rfl⟩ | exact Or.inr ⟨_, rfl⟩) rfl ⟨_, _, hW, hF, Or.inl ⟨_, rfl, hT⟩⟩
                · intro k s21 f22 hT h a hW hx hF
                  exact c_out (rfl) hW hx hF hT
              · intro k s17 f18 hT h a hW hx hF
                exact c_out (rfl) hW hx hF hT
            · intro k s15 f16 hT h a hW hx hF
              exact c_out (rfl) hW hx hF hT
          · subst e
            replace hT := hT.2 a14 rfl
            refine x_aload_n dX11_assign_83 rfl rfl rfl ?_
            obtain ⟨hc, ev, hT⟩ := hT
            refine c_fgetG dX11_assign_84 f_TallySlate_Reader_23 hc (by decide) (by decide) hW ev ?_
            refine x_bipush (v := 91) dX11_assign_87 rfl ?_
            obtain ⟨-, -, cc, hcc, -⟩ := hW.ob 2 (by decide)
            refine c_invV (vs := [.int 91]) dX11_assign_89 oX2_is q820 q824 hcc q821 (Or.inl rfl) rfl rfl (Nat.le_of_ble_eq_true rfl) rfl hW hF hT ?_ ?_
            · intro _ s24 f25 hT h hW hF
              obtain ⟨v26, rfl, hT⟩ := hT
              refine x_if_eq (tgt := 132) dX11_assign_92 rfl (fun c => ?_) (fun c => ?_)
              · replace hT := hT.1 c
                refine x_aload_n dX11_assign_132 rfl rfl rfl ?_
                obtain ⟨hc, ev, hT⟩ := hT
                refine c_fgetG dX11_assign_133 f_TallySlate_Reader_23 hc (by decide) (by decide) hW ev ?_
                refine x_bipush (v := 61) dX11_assign_136 rfl ?_
                obtain ⟨-, -, cc, hcc, -⟩ := hW.ob 2 (by decide)
                refine c_invV (vs := [.int 61]) dX11_assign_138 oX2_take q816 q815 hcc q817 (Or.inl rfl) rfl rfl (Nat.le_of_ble_eq_true rfl) rfl hW hF hT ?_ ?_
                · intro _ s27 f28 hT h hW hF
                  obtain ⟨rfl, hT⟩ := hT
                  refine x_aload_n dX11_assign_141 rfl rfl rfl ?_
                  refine x_aload_n dX11_assign_142 rfl rfl rfl ?_
                  obtain ⟨hc, hT⟩ := hT
                  obtain ⟨cc, hcc⟩ := hW.ocell hc
                  refine c_invV (vs := []) dX11_assign_143 oX11_expression q893 q891 hcc qs14 (Or.inl rfl) rfl rfl (Nat.le_of_ble_eq_true rfl) rfl hW hF hT ?_ ?_
                  · intro _ s29 f30 hT h hW hF
                    obtain ⟨a31, rfl, hT⟩ := hT
                    obtain ⟨hc, hz, hT⟩ := hT
                    refine c_fputG dX11_assign_146 f_TallySlate_Reader_275 hc (by decide) (by decide) hz (Or.inl rfl) rfl rfl hW hF ?_
                    intro f32 ef32 h hW hF
                    replace hT := hT f32 ef32
                    refine x_aload_n dX11_assign_149 rfl rfl rfl ?_
                    obtain ⟨hc, ev, hT⟩ := hT
                    refine c_fgetG dX11_assign_150 f_TallySlate_Reader_23 hc (by decide) (by decide) hW ev ?_
                    refine x_bipush (v := 59) dX11_assign_153 rfl ?_
                    obtain ⟨-, -, cc, hcc, -⟩ := hW.ob 2 (by decide)
                    refine c_invV (vs := [.int 59]) dX11_assign_155 oX2_take q816 q815 hcc q817 (Or.inl rfl) rfl rfl (Nat.le_of_ble_eq_true rfl) rfl hW hF hT ?_ ?_
                    · intro _ s33 f34 hT h hW hF
                      obtain ⟨rfl, hT⟩ := hT
                      refine x_aload_n dX11_assign_158 rfl rfl rfl ?_
                      exact x_aret dX11_assign_159 rfl (by first | exact Or.inl ⟨_, rfl⟩ | exact Or.inr ⟨_, rfl⟩) rfl ⟨_, _, hW, hF, Or.inl ⟨_, rfl, hT⟩⟩
                    · intro k s33 f34 hT h a hW hx hF
                      exact c_out (rfl) hW hx hF hT
                  · intro k s29 f30 hT h a hW hx hF
                    exact c_out (rfl) hW hx hF hT
                · intro k s27 f28 hT h a hW hx hF
                  exact c_out (rfl) hW hx hF hT
              · replace hT := hT.2 c
                refine x_aload_n dX11_assign_95 rfl rfl rfl ?_
                refine x_aload_n dX11_assign_96 rfl rfl rfl ?_
                obtain ⟨hc, ev, hT⟩ := hT
                refine c_fgetG dX11_assign_97 f_TallySlate_Reader_23 hc (by decide) (by decide) hW ev ?_
                refine c_getI (v := (s24.1 21)) dX11_assign_100 f_TallySlate_Reader_45 (by decide) (by decide) rfl hW rfl ?_
                obtain ⟨hc, hz, hT⟩ := hT
                refine c_fputG dX11_assign_103 f_TallySlate_Reader_269 hc (by decide) (by decide) hz (Or.inl rfl) rfl rfl hW hF ?_
                intro f36 ef36 h hW hF
                replace hT := hT f36 ef36
                refine x_aload_n dX11_assign_106 rfl rfl rfl ?_
                obtain ⟨hc, ev, hT⟩ := hT
                refine c_fgetG dX11_assign_107 f_TallySlate_Reader_23 hc (by decide) (by decide) hW ev ?_
                refine x_bipush (v := 91) dX11_assign_110 rfl ?_
                obtain ⟨-, -, cc, hcc, -⟩ := hW.ob 2 (by decide)
                refine c_invV (vs := [.int 91]) dX11_assign_112 oX2_take q816 q815 hcc q817 (Or.inl rfl) rfl rfl (Nat.le_of_ble_eq_true rfl) rfl hW hF hT ?_ ?_
                · intro _ s37 f38 hT h hW hF
                  obtain ⟨rfl, hT⟩ := hT
                  refine x_aload_n dX11_assign_115 rfl rfl rfl ?_
                  refine x_aload_n dX11_assign_116 rfl rfl rfl ?_
                  obtain ⟨hc, hT⟩ := hT
                  obtain ⟨cc, hcc⟩ := hW.ocell hc
                  refine c_invV (vs := []) dX11_assign_117 oX11_expression q893 q891 hcc qs14 (Or.inl rfl) rfl rfl (Nat.le_of_ble_eq_true rfl) rfl hW hF hT ?_ ?_
                  · intro _ s39 f40 hT h hW hF
                    obtain ⟨a41, rfl, hT⟩ := hT
                    obtain ⟨hc, hz, hT⟩ := hT
                    refine c_fputG dX11_assign_120 f_TallySlate_Reader_272 hc (by decide) (by decide) hz (Or.inl rfl) rfl rfl hW hF ?_
                    intro f42 ef42 h hW hF
                    replace hT := hT f42 ef42
                    refine x_aload_n dX11_assign_123 rfl rfl rfl ?_
                    obtain ⟨hc, ev, hT⟩ := hT
                    refine c_fgetG dX11_assign_124 f_TallySlate_Reader_23 hc (by decide) (by decide) hW ev ?_
                    refine x_bipush (v := 93) dX11_assign_127 rfl ?_
                    obtain ⟨-, -, cc, hcc, -⟩ := hW.ob 2 (by decide)
                    refine c_invV (vs := [.int 93]) dX11_assign_129 oX2_take q816 q815 hcc q817 (Or.inl rfl) rfl rfl (Nat.le_of_ble_eq_true rfl) rfl hW hF hT ?_ ?_
                    · intro _ s43 f44 hT h hW hF
                      obtain ⟨rfl, hT⟩ := hT
                      refine x_aload_n dX11_assign_132 rfl rfl rfl ?_
                      obtain ⟨hc, ev, hT⟩ := hT
                      refine c_fgetG dX11_assign_133 f_TallySlate_Reader_23 hc (by decide) (by decide) hW ev ?_
                      refine x_bipush (v := 61) dX11_assign_136 rfl ?_
                      obtain ⟨-, -, cc, hcc, -⟩ := hW.ob 2 (by decide)
                      refine c_invV (vs := [.int 61]) dX11_assign_138 oX2_take q816 q815 hcc q817 (Or.inl rfl) rfl rfl (Nat.le_of_ble_eq_true rfl) rfl hW hF hT ?_ ?_
                      · intro _ s45 f46 hT h hW hF
                        obtain ⟨rfl, hT⟩ := hT
                        refine x_aload_n dX11_assign_141 rfl rfl rfl ?_
                        refine x_aload_n dX11_assign_142 rfl rfl rfl ?_
                        obtain ⟨hc, hT⟩ := hT
                        obtain ⟨cc, hcc⟩ := hW.ocell hc
                        refine c_invV (vs := []) dX11_assign_143 oX11_expression q893 q891 hcc qs14 (Or.inl rfl) rfl rfl (Nat.le_of_ble_eq_true rfl) rfl hW hF hT ?_ ?_
                        · intro _ s47 f48 hT h hW hF
                          obtain ⟨a49, rfl, hT⟩ := hT
                          obtain ⟨hc, hz, hT⟩ := hT
                          refine c_fputG dX11_assign_146 f_TallySlate_Reader_275 hc (by decide) (by decide) hz (Or.inl rfl) rfl rfl hW hF ?_
                          intro f50 ef50 h hW hF
                          replace hT := hT f50 ef50
                          refine x_aload_n dX11_assign_149 rfl rfl rfl ?_
                          obtain ⟨hc, ev, hT⟩ := hT
                          refine c_fgetG dX11_assign_150 f_TallySlate_Reader_23 hc (by decide) (by decide) hW ev ?_
                          refine x_bipush (v := 59) dX11_assign_153 rfl ?_
                          obtain ⟨-, -, cc, hcc, -⟩ := hW.ob 2 (by decide)
                          refine c_invV (vs := [.int 59]) dX11_assign_155 oX2_take q816 q815 hcc q817 (Or.inl rfl) rfl rfl (Nat.le_of_ble_eq_true rfl) rfl hW hF hT ?_ ?_
                          · intro _ s51 f52 hT h hW hF
                            obtain ⟨rfl, hT⟩ := hT
                            refine x_aload_n dX11_assign_158 rfl rfl rfl ?_
                            exact x_aret dX11_assign_159 rfl (by first | exact Or.inl ⟨_, rfl⟩ | exact Or.inr ⟨_, rfl⟩) rfl ⟨_, _, hW, hF, Or.inl ⟨_, rfl, hT⟩⟩
                          · intro k s51 f52 hT h a hW hx hF
                            exact c_out (rfl) hW hx hF hT
                        · intro k s47 f48 hT h a hW hx hF
                          exact c_out (rfl) hW hx hF hT
                      · intro k s45 f46 hT h a hW hx hF
                        exact c_out (rfl) hW hx hF hT
                    · intro k s43 f44 hT h a hW hx hF
                      exact c_out (rfl) hW hx hF hT
                  · intro k s39 f40 hT h a hW hx hF
                    exact c_out (rfl) hW hx hF hT
                · intro k s37 f38 hT h a hW hx hF
                  exact c_out (rfl) hW hx hF hT
            · intro k s24 f25 hT h a hW hx hF
              exact c_out (rfl) hW hx hF hT
        · replace hT := hT.2 c
          refine x_aload_n dX11_assign_39 rfl rfl rfl ?_
          refine x_aload_n dX11_assign_40 rfl rfl rfl ?_
          obtain ⟨hc, ev, hT⟩ := hT
          refine c_fgetG dX11_assign_41 f_TallySlate_Reader_23 hc (by decide) (by decide) hW ev ?_
          refine c_getI (v := (s10.1 21)) dX11_assign_44 f_TallySlate_Reader_45 (by decide) (by decide) rfl hW rfl ?_
          obtain ⟨hc, hz, hT⟩ := hT
          refine c_fputG dX11_assign_47 f_TallySlate_Reader_263 hc (by decide) (by decide) hz (Or.inl rfl) rfl rfl hW hF ?_
          intro f55 ef55 h hW hF
          replace hT := hT f55 ef55
          refine x_aload_n dX11_assign_50 rfl rfl rfl ?_
          obtain ⟨hc, ev, hT⟩ := hT
          refine c_fgetG dX11_assign_51 f_TallySlate_Reader_23 hc (by decide) (by decide) hW ev ?_
          refine x_bipush (v := 91) dX11_assign_54 rfl ?_
          obtain ⟨-, -, cc, hcc, -⟩ := hW.ob 2 (by decide)
          refine c_invV (vs := [.int 91]) dX11_assign_56 oX2_take q816 q815 hcc q817 (Or.inl rfl) rfl rfl (Nat.le_of_ble_eq_true rfl) rfl hW hF hT ?_ ?_
          · intro _ s56 f57 hT h hW hF
            obtain ⟨rfl, hT⟩ := hT
            refine x_aload_n dX11_assign_59 rfl rfl rfl ?_
            refine x_aload_n dX11_assign_60 rfl rfl rfl ?_
            obtain ⟨hc, hT⟩ := hT
            obtain ⟨cc, hcc⟩ := hW.ocell hc
            refine c_invV (vs := []) dX11_assign_61 oX11_expression q893 q891 hcc qs14 (Or.inl rfl) rfl rfl (Nat.le_of_ble_eq_true rfl) rfl hW hF hT ?_ ?_
            · intro _ s58 f59 hT h hW hF
              obtain ⟨a60, rfl, hT⟩ := hT
              obtain ⟨hc, hz, hT⟩ := hT
              refine c_fputG dX11_assign_64 f_TallySlate_Reader_266 hc (by decide) (by decide) hz (Or.inl rfl) rfl rfl hW hF ?_
              intro f61 ef61 h hW hF
              replace hT := hT f61 ef61
              refine x_aload_n dX11_assign_67 rfl rfl rfl ?_
              obtain ⟨hc, ev, hT⟩ := hT
              refine c_fgetG dX11_assign_68 f_TallySlate_Reader_23 hc (by decide) (by decide) hW ev ?_
              refine x_bipush (v := 93) dX11_assign_71 rfl ?_
              obtain ⟨-, -, cc, hcc, -⟩ := hW.ob 2 (by decide)
              refine c_invV (vs := [.int 93]) dX11_assign_73 oX2_take q816 q815 hcc q817 (Or.inl rfl) rfl rfl (Nat.le_of_ble_eq_true rfl) rfl hW hF hT ?_ ?_
              · intro _ s62 f63 hT h hW hF
                obtain ⟨rfl, hT⟩ := hT
                refine x_aload_n dX11_assign_76 rfl rfl rfl ?_
                obtain ⟨hc, hT⟩ := hT
                obtain ⟨v64, ev, iv64, hT⟩ := hT
                refine c_fgetG dX11_assign_77 f_TallySlate_Reader_266 hc (by decide) (by decide) hW ev ?_
                refine x_ifnull (tgt := 132) dX11_assign_80 rfl iv64 (fun e => ?_) (fun a65 e => ?_)
                · subst e
                  replace hT := hT.1 rfl
                  refine x_aload_n dX11_assign_132 rfl rfl rfl ?_
                  obtain ⟨hc, ev, hT⟩ := hT
                  refine c_fgetG dX11_assign_133 f_TallySlate_Reader_23 hc (by decide) (by decide) hW ev ?_
                  refine x_bipush (v := 61) dX11_assign_136 rfl ?_
                  obtain ⟨-, -, cc, hcc, -⟩ := hW.ob 2 (by decide)
                  refine c_invV (vs := [.int 61]) dX11_assign_138 oX2_take q816 q815 hcc q817 (Or.inl rfl) rfl rfl (Nat.le_of_ble_eq_true rfl) rfl hW hF hT ?_ ?_
                  · intro _ s66 f67 hT h hW hF
                    obtain ⟨rfl, hT⟩ := hT
                    refine x_aload_n dX11_assign_141 rfl rfl rfl ?_
                    refine x_aload_n dX11_assign_142 rfl rfl rfl ?_
                    obtain ⟨hc, hT⟩ := hT
                    obtain ⟨cc, hcc⟩ := hW.ocell hc
                    refine c_invV (vs := []) dX11_assign_143 oX11_expression q893 q891 hcc qs14 (Or.inl rfl) rfl rfl (Nat.le_of_ble_eq_true rfl) rfl hW hF hT ?_ ?_
                    · intro _ s68 f69 hT h hW hF
                      obtain ⟨a70, rfl, hT⟩ := hT
                      obtain ⟨hc, hz, hT⟩ := hT
                      refine c_fputG dX11_assign_146 f_TallySlate_Reader_275 hc (by decide) (by decide) hz (Or.inl rfl) rfl rfl hW hF ?_
                      intro f71 ef71 h hW hF
                      replace hT := hT f71 ef71
                      refine x_aload_n dX11_assign_149 rfl rfl rfl ?_
                      obtain ⟨hc, ev, hT⟩ := hT
                      refine c_fgetG dX11_assign_150 f_TallySlate_Reader_23 hc (by decide) (by decide) hW ev ?_
                      refine x_bipush (v := 59) dX11_assign_153 rfl ?_
                      obtain ⟨-, -, cc, hcc, -⟩ := hW.ob 2 (by decide)
                      refine c_invV (vs := [.int 59]) dX11_assign_155 oX2_take q816 q815 hcc q817 (Or.inl rfl) rfl rfl (Nat.le_of_ble_eq_true rfl) rfl hW hF hT ?_ ?_
                      · intro _ s72 f73 hT h hW hF
                        obtain ⟨rfl, hT⟩ := hT
                        refine x_aload_n dX11_assign_158 rfl rfl rfl ?_
                        exact x_aret dX11_assign_159 rfl (by first | exact Or.inl ⟨_, rfl⟩ | exact Or.inr ⟨_, rfl⟩) rfl ⟨_, _, hW, hF, Or.inl ⟨_, rfl, hT⟩⟩
                      · intro k s72 f73 hT h a hW hx hF
                        exact c_out (rfl) hW hx hF hT
                    · intro k s68 f69 hT h a hW hx hF
                      exact c_out (rfl) hW hx hF hT
                  · intro k s66 f67 hT h a hW hx hF
                    exact c_out (rfl) hW hx hF hT
                · subst e
                  replace hT := hT.2 a65 rfl
                  refine x_aload_n dX11_assign_83 rfl rfl rfl ?_
                  obtain ⟨hc, ev, hT⟩ := hT
                  refine c_fgetG dX11_assign_84 f_TallySlate_Reader_23 hc (by decide) (by decide) hW ev ?_
                  refine x_bipush (v := 91) dX11_assign_87 rfl ?_
                  obtain ⟨-, -, cc, hcc, -⟩ := hW.ob 2 (by decide)
                  refine c_invV (vs := [.int 91]) dX11_assign_89 oX2_is q820 q824 hcc q821 (Or.inl rfl) rfl rfl (Nat.le_of_ble_eq_true rfl) rfl hW hF hT ?_ ?_
                  · intro _ s75 f76 hT h hW hF
                    obtain ⟨v77, rfl, hT⟩ := hT
                    refine x_if_eq (tgt := 132) dX11_assign_92 rfl (fun c => ?_) (fun c => ?_)
                    · replace hT := hT.1 c
                      refine x_aload_n dX11_assign_132 rfl rfl rfl ?_
                      obtain ⟨hc, ev, hT⟩ := hT
                      refine c_fgetG dX11_assign_133 f_TallySlate_Reader_23 hc (by decide) (by decide) hW ev ?_
                      refine x_bipush (v := 61) dX11_assign_136 rfl ?_
                      obtain ⟨-, -, cc, hcc, -⟩ := hW.ob 2 (by decide)
                      refine c_invV (vs := [.int 61]) dX11_assign_138 oX2_take q816 q815 hcc q817 (Or.inl rfl) rfl rfl (Nat.le_of_ble_eq_true rfl) rfl hW hF hT ?_ ?_
                      · intro _ s78 f79 hT h hW hF
                        obtain ⟨rfl, hT⟩ := hT
                        refine x_aload_n dX11_assign_141 rfl rfl rfl ?_
                        refine x_aload_n dX11_assign_142 rfl rfl rfl ?_
                        obtain ⟨hc, hT⟩ := hT
                        obtain ⟨cc, hcc⟩ := hW.ocell hc
                        refine c_invV (vs := []) dX11_assign_143 oX11_expression q893 q891 hcc qs14 (Or.inl rfl) rfl rfl (Nat.le_of_ble_eq_true rfl) rfl hW hF hT ?_ ?_
                        · intro _ s80 f81 hT h hW hF
                          obtain ⟨a82, rfl, hT⟩ := hT
                          obtain ⟨hc, hz, hT⟩ := hT
                          refine c_fputG dX11_assign_146 f_TallySlate_Reader_275 hc (by decide) (by decide) hz (Or.inl rfl) rfl rfl hW hF ?_
                          intro f83 ef83 h hW hF
                          replace hT := hT f83 ef83
                          refine x_aload_n dX11_assign_149 rfl rfl rfl ?_
                          obtain ⟨hc, ev, hT⟩ := hT
                          refine c_fgetG dX11_assign_150 f_TallySlate_Reader_23 hc (by decide) (by decide) hW ev ?_
                          refine x_bipush (v := 59) dX11_assign_153 rfl ?_
                          obtain ⟨-, -, cc, hcc, -⟩ := hW.ob 2 (by decide)
                          refine c_invV (vs := [.int 59]) dX11_assign_155 oX2_take q816 q815 hcc q817 (Or.inl rfl) rfl rfl (Nat.le_of_ble_eq_true rfl) rfl hW hF hT ?_ ?_
                          · intro _ s84 f85 hT h hW hF
                            obtain ⟨rfl, hT⟩ := hT
                            refine x_aload_n dX11_assign_158 rfl rfl rfl ?_
                            exact x_aret dX11_assign_159 rfl (by first | exact Or.inl ⟨_, rfl⟩ | exact Or.inr ⟨_, rfl⟩) rfl ⟨_, _, hW, hF, Or.inl ⟨_, rfl, hT⟩⟩
                          · intro k s84 f85 hT h a hW hx hF
                            exact c_out (rfl) hW hx hF hT
                        · intro k s80 f81 hT h a hW hx hF
                          exact c_out (rfl) hW hx hF hT
                      · intro k s78 f79 hT h a hW hx hF
                        exact c_out (rfl) hW hx hF hT
                    · replace hT := hT.2 c
                      refine x_aload_n dX11_assign_95 rfl rfl rfl ?_
                      refine x_aload_n dX11_assign_96 rfl rfl rfl ?_
                      obtain ⟨hc, ev, hT⟩ := hT
                      refine c_fgetG dX11_assign_97 f_TallySlate_Reader_23 hc (by decide) (by decide) hW ev ?_
                      refine c_getI (v := (s75.1 21)) dX11_assign_100 f_TallySlate_Reader_45 (by decide) (by decide) rfl hW rfl ?_
                      obtain ⟨hc, hz, hT⟩ := hT
                      refine c_fputG dX11_assign_103 f_TallySlate_Reader_269 hc (by decide) (by decide) hz (Or.inl rfl) rfl rfl hW hF ?_
                      intro f87 ef87 h hW hF
                      replace hT := hT f87 ef87
                      refine x_aload_n dX11_assign_106 rfl rfl rfl ?_
                      obtain ⟨hc, ev, hT⟩ := hT
                      refine c_fgetG dX11_assign_107 f_TallySlate_Reader_23 hc (by decide) (by decide) hW ev ?_
                      refine x_bipush (v := 91) dX11_assign_110 rfl ?_
                      obtain ⟨-, -, cc, hcc, -⟩ := hW.ob 2 (by decide)
                      refine c_invV (vs := [.int 91]) dX11_assign_112 oX2_take q816 q815 hcc q817 (Or.inl rfl) rfl rfl (Nat.le_of_ble_eq_true rfl) rfl hW hF hT ?_ ?_
                      · intro _ s88 f89 hT h hW hF
                        obtain ⟨rfl, hT⟩ := hT
                        refine x_aload_n dX11_assign_115 rfl rfl rfl ?_
                        refine x_aload_n dX11_assign_116 rfl rfl rfl ?_
                        obtain ⟨hc, hT⟩ := hT
                        obtain ⟨cc, hcc⟩ := hW.ocell hc
                        refine c_invV (vs := []) dX11_assign_117 oX11_expression q893 q891 hcc qs14 (Or.inl rfl) rfl rfl (Nat.le_of_ble_eq_true rfl) rfl hW hF hT ?_ ?_
                        · intro _ s90 f91 hT h hW hF
                          obtain ⟨a92, rfl, hT⟩ := hT
                          obtain ⟨hc, hz, hT⟩ := hT
                          refine c_fputG dX11_assign_120 f_TallySlate_Reader_272 hc (by decide) (by decide) hz (Or.inl rfl) rfl rfl hW hF ?_
                          intro f93 ef93 h hW hF
                          replace hT := hT f93 ef93
                          refine x_aload_n dX11_assign_123 rfl rfl rfl ?_
                          obtain ⟨hc, ev, hT⟩ := hT
                          refine c_fgetG dX11_assign_124 f_TallySlate_Reader_23 hc (by decide) (by decide) hW ev ?_
                          refine x_bipush (v := 93) dX11_assign_127 rfl ?_
                          obtain ⟨-, -, cc, hcc, -⟩ := hW.ob 2 (by decide)
                          refine c_invV (vs := [.int 93]) dX11_assign_129 oX2_take q816 q815 hcc q817 (Or.inl rfl) rfl rfl (Nat.le_of_ble_eq_true rfl) rfl hW hF hT ?_ ?_
                          · intro _ s94 f95 hT h hW hF
                            obtain ⟨rfl, hT⟩ := hT
                            refine x_aload_n dX11_assign_132 rfl rfl rfl ?_
                            obtain ⟨hc, ev, hT⟩ := hT
                            refine c_fgetG dX11_assign_133 f_TallySlate_Reader_23 hc (by decide) (by decide) hW ev ?_
                            refine x_bipush (v := 61) dX11_assign_136 rfl ?_
                            obtain ⟨-, -, cc, hcc, -⟩ := hW.ob 2 (by decide)
                            refine c_invV (vs := [.int 61]) dX11_assign_138 oX2_take q816 q815 hcc q817 (Or.inl rfl) rfl rfl (Nat.le_of_ble_eq_true rfl) rfl hW hF hT ?_ ?_
                            · intro _ s96 f97 hT h hW hF
                              obtain ⟨rfl, hT⟩ := hT
                              refine x_aload_n dX11_assign_141 rfl rfl rfl ?_
                              refine x_aload_n dX11_assign_142 rfl rfl rfl ?_
                              obtain ⟨hc, hT⟩ := hT
                              obtain ⟨cc, hcc⟩ := hW.ocell hc
                              refine c_invV (vs := []) dX11_assign_143 oX11_expression q893 q891 hcc qs14 (Or.inl rfl) rfl rfl (Nat.le_of_ble_eq_true rfl) rfl hW hF hT ?_ ?_
                              · intro _ s98 f99 hT h hW hF
                                obtain ⟨a100, rfl, hT⟩ := hT
                                obtain ⟨hc, hz, hT⟩ := hT
                                refine c_fputG dX11_assign_146 f_TallySlate_Reader_275 hc (by decide) (by decide) hz (Or.inl rfl) rfl rfl hW hF ?_
                                intro f101 ef101 h hW hF
                                replace hT := hT f101 ef101
                                refine x_aload_n dX11_assign_149 rfl rfl rfl ?_
                                obtain ⟨hc, ev, hT⟩ := hT
                                refine c_fgetG dX11_assign_150 f_TallySlate_Reader_23 hc (by decide) (by decide) hW ev ?_
                                refine x_bipush (v := 59) dX11_assign_153 rfl ?_
                                obtain ⟨-, -, cc, hcc, -⟩ := hW.ob 2 (by decide)
                                refine c_invV (vs := [.int 59]) dX11_assign_155 oX2_take q816 q815 hcc q817 (Or.inl rfl) rfl rfl (Nat.le_of_ble_eq_true rfl) rfl hW hF hT ?_ ?_
                                · intro _ s102 f103 hT h hW hF
                                  obtain ⟨rfl, hT⟩ := hT
                                  refine x_aload_n dX11_assign_158 rfl rfl rfl ?_
                                  exact x_aret dX11_assign_159 rfl (by first | exact Or.inl ⟨_, rfl⟩ | exact Or.inr ⟨_, rfl⟩) rfl ⟨_, _, hW, hF, Or.inl ⟨_, rfl, hT⟩⟩
                                · intro k s102 f103 hT h a hW hx hF
                                  exact c_out (rfl) hW hx hF hT
                              · intro k s98 f99 hT h a hW hx hF
                                exact c_out (rfl) hW hx hF hT
                            · intro k s96 f97 hT h a hW hx hF
                              exact c_out (rfl) hW hx hF hT
                          · intro k s94 f95 hT h a hW hx hF
                            exact c_out (rfl) hW hx hF hT
                        · intro k s90 f91 hT h a hW hx hF
                          exact c_out (rfl) hW hx hF hT
                      · intro k s88 f89 hT h a hW hx hF
                        exact c_out (rfl) hW hx hF hT
                  · intro k s75 f76 hT h a hW hx hF
                    exact c_out (rfl) hW hx hF hT
              · intro k s62 f63 hT h a hW hx hF
                exact c_out (rfl) hW hx hF hT
            · intro k s58 f59 hT h a hW hx hF
              exact c_out (rfl) hW hx hF hT
          · intro k s56 f57 hT h a hW hx hF
            exact c_out (rfl) hW hx hF hT
      · intro k s10 f11 hT h a hW hx hF
        exact c_out (rfl) hW hx hF hT
    · intro k s6 f7 hT h a hW hx hF
      exact c_out (rfl) hW hx hF hT
  · intro k s3 f4 hT h a hW hx hF
    exact c_out (rfl) hW hx hF hT
theorem eR11_assign {l : Launch} {E : EN} {w : CO} {d : Nat} {s : CS} {f : RH} {Q : KO → CS → RH → Prop} {x0 : Nat}  (hst : l.stackTraces = false) (hT : (rmF E f 1 8 ∧ ∀ (a1 : Nat) (f2 : RH), a1 = f.1 → f2 = fnew f 28 → (EvC l E w d MX30_init [.ref a1] s f2 (fun o s3 f4 => KP o (fun r => r = none ∧ (oc f4 x0 11 ∧ vl f4 x0 147 = .ref (w.1 2) ∧ (oc f4 a1 28 ∧ f4.2.2.2 ≤ a1 ∧ ∀ f5 : RH, f5 = fset f4 a1 197 (.int (s3.1 21)) → (oc f5 x0 11 ∧ EvC l E w d MX11_name [.ref x0] s3 f5 (fun o s6 f7 => KP o (fun r => ∃ v8 : Int32, r = some (.int v8) ∧ (oc f7 a1 28 ∧ f7.2.2.2 ≤ a1 ∧ ∀ f9 : RH, f9 = fset f7 a1 196 (.int v8) → (oc f9 x0 11 ∧ vl f9 x0 147 = .ref (w.1 2) ∧ (EvC l E w d MX2_is [.ref (w.1 2), .int 91] s6 f9 (fun o s10 f11 => KP o (fun r => ∃ v12 : Int32, r = some (.int v12) ∧ ((v12 = 0 → (oc f11 a1 28 ∧ (∃ v13 : Value, vl f11 a1 200 = v13 ∧ isR v13 = true ∧ ((v13 = .null → (oc f11 x0 11 ∧ vl f11 x0 147 = .ref (w.1 2) ∧ (EvC l E w d MX2_take [.ref (w.1 2), .int 61] s10 f11 (fun o s15 f16 => KP o (fun r => r = none ∧ (oc f16 x0 11 ∧ EvC l E w d MX11_expression [.ref x0] s15 f16 (fun o s17 f18 => KP o (fun r => ∃ a19 : Nat, r = some (.ref a19) ∧ (oc f18 a1 28 ∧ f18.2.2.2 ≤ a1 ∧ ∀ f20 : RH, f20 = fset f18 a1 202 (.ref a19) → (oc f20 x0 11 ∧ vl f20 x0 147 = .ref (w.1 2) ∧ (EvC l E w d MX2_take [.ref (w.1 2), .int 59] s17 f20 (fun o s21 f22 => KP o (fun r => r = none ∧ Q (.inl (some (.ref a1))) s21 f22) (fun k => Q (.inr k) s21 f22)))))) (fun k => Q (.inr k) s17 f18)))) (fun k => Q (.inr k) s15 f16))))) ∧ (∀ a14 : Nat, v13 = .ref a14 → (oc f11 x0 11 ∧ vl f11 x0 147 = .ref (w.1 2) ∧ (EvC l E w d MX2_is [.ref (w.1 2), .int 91] s10 f11 (fun o s24 f25 => KP o (fun r => ∃ v26 : Int32, r = some (.int v26) ∧ ((v26 = 0 → (oc f25 x0 11 ∧ vl f25 x0 147 = .ref (w.1 2) ∧ (EvC l E w d MX2_take [.ref (w.1 2), .int 61] s24 f25 (fun o s27 f28 => KP o (fun r => r = none ∧ (oc f28 x0 11 ∧ EvC l E w d MX11_expression [.ref x0] s27 f28 (fun o s29 f30 => KP o (fun r => ∃ a31 : Nat, r = some (.ref a31) ∧ (oc f30 a1 28 ∧ f30.2.2.2 ≤ a1 ∧ ∀ f32 : RH, f32 = fset f30 a1 202 (.ref a31) → (oc f32 x0 11 ∧ vl f32 x0 147 = .ref (w.1 2) ∧ (EvC l E w d MX2_take [.ref (w.1 2), .int 59] s29 f32 (fun o s33 f34 => KP o (fun r => r = none ∧ Q (.inl (some (.ref a1))) s33 f34) (fun k => Q (.inr k) s33 f34)))))) (fun k => Q (.inr k) s29 f30)))) (fun k => Q (.inr k) s27 f28))))) ∧ (¬ v26 = 0 → (oc f25 x0 11 ∧ vl f25 x0 147 = .ref (w.1 2) ∧ (oc f25 a1 28 ∧ f25.2.2.2 ≤ a1 ∧ ∀ f36 : RH, f36 = fset f25 a1 199 (.int (s24.1 21)) → (oc f36 x0 11 ∧ vl f36 x0 147 = .ref (w.1 2) ∧ (EvC l E w d MX2_take [.ref (w.1 2), .int 91] s24 f36 (fun o s37 f38 => KP o (fun r => r = none ∧ (oc f38 x0 11 ∧ EvC l E w d MX11_expression [.ref x0] s37 f38 (fun o s39 f40 => KP o (fun r => ∃ a41 : Nat, r = some (.ref a41) ∧ (oc f40 a1 28 ∧ f40.2.2.2 ≤ a1 ∧ ∀ f42 : RH, f42 = fset f40 a1 201 (.ref a41) → (oc f42 x0 11 ∧ vl f42 x0 147 = .ref (w.1 2) ∧ (EvC l E w d MX2_take [.ref (w.1 2), .int 93] s39 f42 (fun o s43 f44 => KP o (fun r => r = none ∧ (oc f44 x0 11 ∧ vl f44 x0 147 = .ref (w.1 2) ∧ (EvC l E w d MX2_take [.ref (w.1 2), .int 61] s43 f44 (fun o s45 f46 => KP o (fun r => r = none ∧ (oc f46 x0 11 ∧ EvC l E w d MX11_expression [.ref x0] s45 f46 (fun o s47 f48 => KP o (fun r => ∃ a49 : Nat, r = some (.ref a49) ∧ (oc f48 a1 28 ∧ f48.2.2.2 ≤ a1 ∧ ∀ f50 : RH, f50 = fset f48 a1 202 (.ref a49) → (oc f50 x0 11 ∧ vl f50 x0 147 = .ref (w.1 2) ∧ (EvC l E w d MX2_take [.ref (w.1 2), .int 59] s47 f50 (fun o s51 f52 => KP o (fun r => r = none ∧ Q (.inl (some (.ref a1))) s51 f52) (fun k => Q (.inr k) s51 f52)))))) (fun k => Q (.inr k) s47 f48)))) (fun k => Q (.inr k) s45 f46))))) (fun k => Q (.inr k) s43 f44)))))) (fun k => Q (.inr k) s39 f40)))) (fun k => Q (.inr k) s37 f38))))))))) (fun k => Q (.inr k) s24 f25))))))))) ∧ (¬ v12 = 0 → (oc f11 x0 11 ∧ vl f11 x0 147 = .ref (w.1 2) ∧ (oc f11 a1 28 ∧ f11.2.2.2 ≤ a1 ∧ ∀ f55 : RH, f55 = fset f11 a1 198 (.int (s10.1 21)) → (oc f55 x0 11 ∧ vl f55 x0 147 = .ref (w.1 2) ∧ (EvC l E w d MX2_take [.ref (w.1 2), .int 91] s10 f55 (fun o s56 f57 => KP o (fun r => r = none ∧ (oc f57 x0 11 ∧ EvC l E w d MX11_expression [.ref x0] s56 f57 (fun o s58 f59 => KP o (fun r => ∃ a60 : Nat, r = some (.ref a60) ∧ (oc f59 a1 28 ∧ f59.2.2.2 ≤ a1 ∧ ∀ f61 : RH, f61 = fset f59 a1 200 (.ref a60) → (oc f61 x0 11 ∧ vl f61 x0 147 = .ref (w.1 2) ∧ (EvC l E w d MX2_take [.ref (w.1 2), .int 93] s58 f61 (fun o s62 f63 => KP o (fun r => r = none ∧ (oc f63 a1 28 ∧ (∃ v64 : Value, vl f63 a1 200 = v64 ∧ isR v64 = true ∧ ((v64 = .null → (oc f63 x0 11 ∧ vl f63 x0 147 = .ref (w.1 2) ∧ (EvC l E w d MX2_take [.ref (w.1 2), .int 61] s62 f63 (fun o s66 f67 => KP o (fun r => r = none ∧ (oc f67 x0 11 ∧ EvC l E w d MX11_expression [.ref x0] s66 f67 (fun o s68 f69 => KP o (fun r => ∃ a70 : Nat, r = some (.ref a70) ∧ (oc f69 a1 28 ∧ f69.2.2.2 ≤ a1 ∧ ∀ f71 : RH, f71 = fset f69 a1 202 (.ref a70) → (oc f71 x0 11 ∧ vl f71 x0 147 = .ref (w.1 2) ∧ (EvC l E w d MX2_take [.ref (w.1 2), .int 59] s68 f71 (fun o s72 f73 => KP o (fun r => r = none ∧ Q (.inl (some (.ref a1))) s72 f73) (fun k => Q (.inr k) s72 f73)))))) (fun k => Q (.inr k) s68 f69)))) (fun k => Q (.inr k) s66 f67))))) ∧ (∀ a65 : Nat, v64 = .ref a65 → (oc f63 x0 11 ∧ vl f63 x0 147 = .ref (w.1 2) ∧ (EvC l E w d MX2_is [.ref (w.1 2), .int 91] s62 f63 (fun o s75 f76 => KP o (fun r => ∃ v77 : Int32, r = some (.int v77) ∧ ((v77 = 0 → (oc f76 x0 11 ∧ vl f76 x0 147 = .ref (w.1 2) ∧ (EvC l E w d MX2_take [.ref (w.1 2), .int 61] s75 f76 (fun o s78 f79 => KP o (fun r => r = none ∧ (oc f79 x0 11 ∧ EvC l E w d MX11_expression [.ref x0] s78 f79 (fun o s80 f81 => KP o (fun r => ∃ a82 : Nat, r = some (.ref a82) ∧ (oc f81 a1 28 ∧ f81.2.2.2 ≤ a1 ∧ ∀ f83 : RH, f83 = fset f81 a1 202 (.ref a82) → (oc f83 x0 11 ∧ vl f83 x0 147 = .ref (w.1 2) ∧ (EvC l E w d MX2_take [.ref (w.1 2), .int 59] s80 f83 (fun o s84 f85 => KP o (fun r => r = none ∧ Q (.inl (some (.ref a1))) s84 f85) (fun k => Q (.inr k) s84 f85)))))) (fun k => Q (.inr k) s80 f81)))) (fun k => Q (.inr k) s78 f79))))) ∧ (¬ v77 = 0 → (oc f76 x0 11 ∧ vl f76 x0 147 = .ref (w.1 2) ∧ (oc f76 a1 28 ∧ f76.2.2.2 ≤ a1 ∧ ∀ f87 : RH, f87 = fset f76 a1 199 (.int (s75.1 21)) → (oc f87 x0 11 ∧ vl f87 x0 147 = .ref (w.1 2) ∧ (EvC l E w d MX2_take [.ref (w.1 2), .int 91] s75 f87 (fun o s88 f89 => KP o (fun r => r = none ∧ (oc f89 x0 11 ∧ EvC l E w d MX11_expression [.ref x0] s88 f89 (fun o s90 f91 => KP o (fun r => ∃ a92 : Nat, r = some (.ref a92) ∧ (oc f91 a1 28 ∧ f91.2.2.2 ≤ a1 ∧ ∀ f93 : RH, f93 = fset f91 a1 201 (.ref a92) → (oc f93 x0 11 ∧ vl f93 x0 147 = .ref (w.1 2) ∧ (EvC l E w d MX2_take [.ref (w.1 2), .int 93] s90 f93 (fun o s94 f95 => KP o (fun r => r = none ∧ (oc f95 x0 11 ∧ vl f95 x0 147 = .ref (w.1 2) ∧ (EvC l E w d MX2_take [.ref (w.1 2), .int 61] s94 f95 (fun o s96 f97 => KP o (fun r => r = none ∧ (oc f97 x0 11 ∧ EvC l E w d MX11_expression [.ref x0] s96 f97 (fun o s98 f99 => KP o (fun r => ∃ a100 : Nat, r = some (.ref a100) ∧ (oc f99 a1 28 ∧ f99.2.2.2 ≤ a1 ∧ ∀ f101 : RH, f101 = fset f99 a1 202 (.ref a100) → (oc f101 x0 11 ∧ vl f101 x0 147 = .ref (w.1 2) ∧ (EvC l E w d MX2_take [.ref (w.1 2), .int 59] s98 f101 (fun o s102 f103 => KP o (fun r => r = none ∧ Q (.inl (some (.ref a1))) s102 f103) (fun k => Q (.inr k) s102 f103)))))) (fun k => Q (.inr k) s98 f99)))) (fun k => Q (.inr k) s96 f97))))) (fun k => Q (.inr k) s94 f95)))))) (fun k => Q (.inr k) s90 f91)))) (fun k => Q (.inr k) s88 f89))))))))) (fun k => Q (.inr k) s75 f76))))))))) (fun k => Q (.inr k) s62 f63)))))) (fun k => Q (.inr k) s58 f59)))) (fun k => Q (.inr k) s56 f57))))))))) (fun k => Q (.inr k) s10 f11)))))) (fun k => Q (.inr k) s6 f7)))))) (fun k => Q (.inr k) s3 f4))))) : EvC l E w (d + 1) MX11_assign [.ref x0] s f Q :=
  EvC.of hst (by decide) (Nat.le_of_ble_eq_true rfl) (vR11_assign_0  hT)
theorem vR11_resolve_0 {l : Launch} {E : EN} {w : CO} {d : Nat} {s : CS} {f : RH} {Q : KO → CS → RH → Prop} {x0 : Nat} {x1 : Nat}  (hT : ExC l E w (d + 1) MX11_resolve 2 [some (.ref x0), some (.ref x1), some (.int 0)] [] s f Q) : ExC l E w (d + 1) MX11_resolve 0 [some (.ref x0), some (.ref x1), none] [] s f Q := by
  intro f0 h hW hF
  refine x_iconst (v := 0) dX11_resolve_0 rfl ?_
  refine x_istore_n (lo' := [some (.ref x0), some (.ref x1), some (.int 0)]) dX11_resolve_1 rfl (Nat.le_of_ble_eq_true rfl) rfl ?_
  exact hT f0 h hW hF
theorem eR11_resolve {l : Launch} {E : EN} {w : CO} {d : Nat} {s : CS} {f : RH} {Q : KO → CS → RH → Prop} {x0 : Nat} {x1 : Nat}  (hst : l.stackTraces = false) (hT : ExC l E w (d + 1) MX11_resolve 2 [some (.ref x0), some (.ref x1), some (.int 0)] [] s f Q) : EvC l E w (d + 1) MX11_resolve [.ref x0, .ref x1] s f Q :=
  EvC.of hst (by decide) (Nat.le_of_ble_eq_true rfl) (vR11_resolve_0  hT)
set_option maxHeartbeats 16000000 in
theorem vR11_resolve_2 {l : Launch} {E : EN} {w : CO} {d : Nat} {s : CS} {f : RH} {Q : KO → CS → RH → Prop} {b0 : Nat} {b1 : Nat} {b2 : Int32}  (hT : (oc f b0 11 ∧ (∃ v1 : Int32, vl f b0 149 = .int v1 ∧ ((v1 ≤ b2 → (oc f b1 19 ∧ (∃ v2 : Value, vl f b1 178 = v2 ∧ isR v2 = true ∧ ((v2 = .null → (oc f b0 11 ∧ vl f b0 147 = .ref (w.1 2) ∧ (oc f b1 19 ∧ (∃ v4 : Int32, vl f b1 176 = .int v4 ∧ (EvC l E w d MX2_wrong [.ref (w.1 2), .int 6, .int v4] s f (fun o s5 f6 => KP o (fun r => r = some (.ref (w.1 1)) ∧ Q (.inr 1) s5 f6) (fun k => Q (.inr k) s5 f6))))))) ∧ (∀ a3 : Nat, v2 = .ref a3 → (oc f b1 19 ∧ (∃ v7 : Value, vl f b1 178 = v7 ∧ isR v7 = true ∧ (∃ a8 : Nat, v7 = .ref a8 ∧ (oc f a8 12 ∧ (∃ v9 : Int32, vl f a8 155 = .int v9 ∧ (oc f b1 19 ∧ (∃ v10 : Int32, vl f b1 177 = .int v10 ∧ ((v9 = v10 → Q (.inl none) s f) ∧ (¬ v9 = v10 → (oc f b0 11 ∧ vl f b0 147 = .ref (w.1 2) ∧ (oc f b1 19 ∧ (∃ v11 : Int32, vl f b1 176 = .int v11 ∧ (EvC l E w d MX2_wrong [.ref (w.1 2), .int 6, .int v11] s f (fun o s12 f13 => KP o (fun r => r = some (.ref (w.1 1)) ∧ Q (.inr 1) s12 f13) (fun k => Q (.inr k) s12 f13)))))))))))))))))))) ∧ (¬ v1 ≤ b2 → (oc f b0 11 ∧ (∃ a14 : Nat, vl f b0 148 = .ref a14 ∧ (∃ t15 : Nat, 4 ≤ t15 ∧ (tg f a14 = some (.inr t15) ∧ inB b2 (ln f a14) ∧ (∃ a16 : Nat, vl f a14 b2.toNatClampNeg = .ref a16 ∧ (oc f a16 12 ∧ (∃ v17 : Int64, vl f a16 153 = .long v17 ∧ (oc f b1 19 ∧ (∃ v18 : Int64, vl f b1 175 = .long v18 ∧ ((¬ (lg_cmp v17 v18) = 0 → ExC l E w (d + 1) MX11_resolve 2 [some (.ref b0), some (.ref b1), some (.int (b2 + 1))] [] s f Q) ∧ ((lg_cmp v17 v18) = 0 → (oc f b0 11 ∧ (∃ a19 : Nat, vl f b0 148 = .ref a19 ∧ (∃ t20 : Nat, 4 ≤ t20 ∧ (tg f a19 = some (.inr t20) ∧ inB b2 (ln f a19) ∧ (∃ a21 : Nat, vl f a19 b2.toNatClampNeg = .ref a21 ∧ (oc f b1 19 ∧ f.2.2.2 ≤ b1 ∧ ∀ f22 : RH, f22 = fset f b1 178 (.ref a21) → ExC l E w (d + 1) MX11_resolve 2 [some (.ref b0), some (.ref b1), some (.int (b2 + 1))] [] s f22 Q)))))))))))))))))))))) : ExC l E w (d + 1) MX11_resolve 2 [some (.ref b0), some (.ref b1), some (.int b2)] [] s f Q := by
  intro f0 h hW hF
  refine x_iload_n dX11_resolve_2 rfl rfl ?_
  refine x_aload_n dX11_resolve_3 rfl rfl rfl ?_
  obtain ⟨hc, hT⟩ := hT
  obtain ⟨v1, ev, hT⟩ := hT
  refine c_fgetG dX11_resolve_4 f_TallySlate_Reader_59 hc (by decide) (by decide) hW ev ?_
  refine x_icmp_ge (tgt := 43) dX11_resolve_7 rfl (fun c => ?_) (fun c => ?_)
  · replace hT := hT.1 c
    refine x_aload_n dX11_resolve_43 rfl rfl rfl ?_
    obtain ⟨hc, hT⟩ := hT
    obtain ⟨v2, ev, iv2, hT⟩ := hT
    refine c_fgetG dX11_resolve_44 f_TallySlate_Reader_67 hc (by decide) (by decide) hW ev ?_
    refine x_ifnull (tgt := 64) dX11_resolve_47 rfl iv2 (fun e => ?_) (fun a3 e => ?_)
    · subst e
      replace hT := hT.1 rfl
      refine x_aload_n dX11_resolve_64 rfl rfl rfl ?_
      obtain ⟨hc, ev, hT⟩ := hT
      refine c_fgetG dX11_resolve_65 f_TallySlate_Reader_23 hc (by decide) (by decide) hW ev ?_
      refine x_bipush (v := 6) dX11_resolve_68 rfl ?_
      refine x_aload_n dX11_resolve_70 rfl rfl rfl ?_
      obtain ⟨hc, hT⟩ := hT
      obtain ⟨v4, ev, hT⟩ := hT
      refine c_fgetG dX11_resolve_71 f_TallySlate_Reader_76 hc (by decide) (by decide) hW ev ?_
      obtain ⟨-, -, cc, hcc, -⟩ := hW.ob 2 (by decide)
      refine c_invV (vs := [.int 6, .int v4]) dX11_resolve_74 oX2_wrong q564 q772 hcc q565 (Or.inl rfl) rfl rfl (Nat.le_of_ble_eq_true rfl) rfl hW hF hT ?_ ?_
      · intro _ s5 f6 hT h hW hF
        obtain ⟨rfl, hT⟩ := hT
        refine x_athrow dX11_resolve_77 ?_
        exact c_out (rfl) hW (Or.inr (Or.inl ⟨rfl, rfl⟩)) hF hT
      · intro k s5 f6 hT h a hW hx hF
        exact c_out (rfl) hW hx hF hT
    · subst e
      replace hT := hT.2 a3 rfl
      refine x_aload_n dX11_resolve_50 rfl rfl rfl ?_
      obtain ⟨hc, hT⟩ := hT
      obtain ⟨v7, ev, iv7, hT⟩ := hT
      refine c_fgetG dX11_resolve_51 f_TallySlate_Reader_67 hc (by decide) (by decide) hW ev ?_
      obtain ⟨a8, rfl, hT⟩ := hT
      obtain ⟨hc, hT⟩ := hT
      obtain ⟨v9, ev, hT⟩ := hT
      refine c_fgetG dX11_resolve_54 f_TallySlate_Reader_70 hc (by decide) (by decide) hW ev ?_
      refine x_aload_n dX11_resolve_57 rfl rfl rfl ?_
      obtain ⟨hc, hT⟩ := hT
      obtain ⟨v10, ev, hT⟩ := hT
      refine c_fgetG dX11_resolve_58 f_TallySlate_Reader_73 hc (by decide) (by decide) hW ev ?_
      refine x_icmp_eq (tgt := 78) dX11_resolve_61 rfl (fun c => ?_) (fun c => ?_)
      · replace hT := hT.1 c
        exact x_vret dX11_resolve_78 rfl ⟨_, _, hW, hF, Or.inl ⟨_, rfl, hT⟩⟩
      · replace hT := hT.2 c
        refine x_aload_n dX11_resolve_64 rfl rfl rfl ?_
        obtain ⟨hc, ev, hT⟩ := hT
        refine c_fgetG dX11_resolve_65 f_TallySlate_Reader_23 hc (by decide) (by decide) hW ev ?_
        refine x_bipush (v := 6) dX11_resolve_68 rfl ?_
        refine x_aload_n dX11_resolve_70 rfl rfl rfl ?_
        obtain ⟨hc, hT⟩ := hT
        obtain ⟨v11, ev, hT⟩ := hT
        refine c_fgetG dX11_resolve_71 f_TallySlate_Reader_76 hc (by decide) (by decide) hW ev ?_
        obtain ⟨-, -, cc, hcc, -⟩ := hW.ob 2 (by decide)
        refine c_invV (vs := [.int 6, .int v11]) dX11_resolve_74 oX2_wrong q564 q772 hcc q565 (Or.inl rfl) rfl rfl (Nat.le_of_ble_eq_true rfl) rfl hW hF hT ?_ ?_
        · intro _ s12 f13 hT h hW hF
          obtain ⟨rfl, hT⟩ := hT
          refine x_athrow dX11_resolve_77 ?_
          exact c_out (rfl) hW (Or.inr (Or.inl ⟨rfl, rfl⟩)) hF hT
        · intro k s12 f13 hT h a hW hx hF
          exact c_out (rfl) hW hx hF hT
  · replace hT := hT.2 c
    refine x_aload_n dX11_resolve_10 rfl rfl rfl ?_
    obtain ⟨hc, hT⟩ := hT
    obtain ⟨a14, ev, hT⟩ := hT
    refine c_fgetG dX11_resolve_11 f_TallySlate_Reader_11 hc (by decide) (by decide) hW ev ?_
    refine x_iload_n dX11_resolve_14 rfl rfl ?_
    obtain ⟨t15, ht2, hc, hT⟩ := hT
    obtain ⟨hb, hT⟩ := hT
    obtain ⟨a16, ev, hT⟩ := hT
    refine c_faald dX11_resolve_15 hc ht2 hb hW ev ?_
    obtain ⟨hc, hT⟩ := hT
    obtain ⟨v17, ev, hT⟩ := hT
    refine c_fgetG dX11_resolve_16 f_TallySlate_Reader_62 hc (by decide) (by decide) hW ev ?_
    refine x_aload_n dX11_resolve_19 rfl rfl rfl ?_
    obtain ⟨hc, hT⟩ := hT
    obtain ⟨v18, ev, hT⟩ := hT
    refine c_fgetG dX11_resolve_20 f_TallySlate_Reader_66 hc (by decide) (by decide) hW ev ?_
    refine x_lcmp dX11_resolve_23 ?_
    refine x_if_ne (tgt := 37) dX11_resolve_24 rfl (fun c => ?_) (fun c => ?_)
    · replace hT := hT.1 c
      refine x_iinc (lo' := [some (.ref b0), some (.ref b1), some (.int (b2 + 1))]) dX11_resolve_37 rfl (show _ = (b2 + 1) from rfl) rfl ?_
      refine x_goto (tgt := 2) dX11_resolve_40 rfl ?_
      exact hT f0 h hW hF
    · replace hT := hT.2 c
      refine x_aload_n dX11_resolve_27 rfl rfl rfl ?_
      refine x_aload_n dX11_resolve_28 rfl rfl rfl ?_
      obtain ⟨hc, hT⟩ := hT
      obtain ⟨a19, ev, hT⟩ := hT
      refine c_fgetG dX11_resolve_29 f_TallySlate_Reader_11 hc (by decide) (by decide) hW ev ?_
      refine x_iload_n dX11_resolve_32 rfl rfl ?_
      obtain ⟨t20, ht2, hc, hT⟩ := hT
      obtain ⟨hb, hT⟩ := hT
      obtain ⟨a21, ev, hT⟩ := hT
      refine c_faald dX11_resolve_33 hc ht2 hb hW ev ?_
      obtain ⟨hc, hz, hT⟩ := hT
      refine c_fputG dX11_resolve_34 f_TallySlate_Reader_67 hc (by decide) (by decide) hz (Or.inl rfl) rfl rfl hW hF ?_
      intro f22 ef22 h hW hF
      replace hT := hT f22 ef22
      refine x_iinc (lo' := [some (.ref b0), some (.ref b1), some (.int (b2 + 1))]) dX11_resolve_37 rfl (show _ = (b2 + 1) from rfl) rfl ?_
      refine x_goto (tgt := 2) dX11_resolve_40 rfl ?_
      exact hT f0 h hW hF
