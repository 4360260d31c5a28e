/-! weakest preconditions of methods of the component: printed by wpc.py -/
set_option maxRecDepth 100000
theorem vX11_block_0 {l : Launch} {E : EN} {w : CO} {d : Nat} {s : CS} {f : RH} {Q : KO → CS → RH → Prop} {x0 : Nat}  (hT : (rmF E f 1 2 ∧ ∀ (a1 : Nat) (f2 : RH), a1 = f.1 → f2 = fnew f 13 → (EvC l E w d MX13_init [.ref a1] s f2 (fun o s3 f4 => KP o (fun r => r = none ∧ (oc f4 x0 11 ∧ (∃ a5 : Nat, vl f4 x0 147 = .ref a5 ∧ (oc f4 a5 2 ∧ EvC l E w d MX2_take [.ref a5, .int 123] s3 f4 (fun o s6 f7 => KP o (fun r => r = none ∧ ExC l E w (d + 1) MX11_block 17 [some (.ref x0), some (.ref a1)] [] s6 f7 Q) (fun k => Q (.inr k) s6 f7)))))) (fun k => Q (.inr k) s3 f4))))) : ExC l E w (d + 1) MX11_block 0 [some (.ref x0), none] [] s f Q := by
  intro f0 h hW hF
  obtain ⟨hr, hT⟩ := hT
  refine c_newG (k := 13) dX11_block_0 (by decide) q833 q186 hr hW hF ?_
  intro a1 f2 ea1 ef2 h hW hF
  replace hT := hT a1 f2 ea1 ef2
  refine x_dup dX11_block_3 rfl ?_
  refine c_invI (b := a1) (vs := []) dX11_block_4 oX13_init rfl rfl rfl q836 (Or.inr ⟨_, q835⟩) rfl rfl (Nat.le_of_ble_eq_true rfl) rfl hW hF hT ?_ ?_
  · intro _ s3 f4 hT h hW hF
    obtain ⟨rfl, hT⟩ := hT
    refine x_astore_n (lo' := [some (.ref x0), some (.ref a1)]) dX11_block_7 rfl (Nat.le_of_ble_eq_true rfl) rfl rfl ?_
    refine x_aload_n dX11_block_8 rfl rfl rfl ?_
    obtain ⟨hc, hT⟩ := hT
    obtain ⟨a5, ev, hT⟩ := hT
    refine c_fgetG dX11_block_9 f_TallySlate_Reader_23 hc (by decide) (by decide) hW ev ?_
    refine x_bipush (v := 123) dX11_block_12 rfl ?_
    obtain ⟨hc, hT⟩ := hT
    obtain ⟨cc, hcc⟩ := hW.ocell hc
    refine c_invV (vs := [.int 123]) dX11_block_14 oX2_take q816 q815 hcc q817 (Or.inl rfl) rfl rfl (Nat.le_of_ble_eq_true rfl) rfl hW hF hT ?_ ?_
    · intro _ s6 f7 hT h hW hF
      obtain ⟨rfl, hT⟩ := hT
      exact hT f0 h hW hF
    · intro k s6 f7 hT h a hW hx hF
      exact c_out (rfl) hW hx hF hT
  · intro k s3 f4 hT h a hW hx hF
    exact c_out (rfl) hW hx hF hT
theorem eX11_block {l : Launch} {E : EN} {w : CO} {d : Nat} {s : CS} {f : RH} {Q : KO → CS → RH → Prop} {x0 : Nat}  (hst : l.stackTraces = false) (hT : (rmF E f 1 2 ∧ ∀ (a1 : Nat) (f2 : RH), a1 = f.1 → f2 = fnew f 13 → (EvC l E w d MX13_init [.ref a1] s f2 (fun o s3 f4 => KP o (fun r => r = none ∧ (oc f4 x0 11 ∧ (∃ a5 : Nat, vl f4 x0 147 = .ref a5 ∧ (oc f4 a5 2 ∧ EvC l E w d MX2_take [.ref a5, .int 123] s3 f4 (fun o s6 f7 => KP o (fun r => r = none ∧ ExC l E w (d + 1) MX11_block 17 [some (.ref x0), some (.ref a1)] [] s6 f7 Q) (fun k => Q (.inr k) s6 f7)))))) (fun k => Q (.inr k) s3 f4))))) : EvC l E w (d + 1) MX11_block [.ref x0] s f Q :=
  EvC.of hst (by decide) (Nat.le_of_ble_eq_true rfl) (vX11_block_0  hT)
theorem vX11_block_17 {l : Launch} {E : EN} {w : CO} {d : Nat} {s : CS} {f : RH} {Q : KO → CS → RH → Prop} {b0 : Nat} {b1 : Nat}  (hT : (oc f b0 11 ∧ (∃ a9 : Nat, vl f b0 147 = .ref a9 ∧ (oc f a9 2 ∧ EvC l E w d MX2_is [.ref a9, .int 125] s f (fun o s10 f11 => KP o (fun r => ∃ v12 : Int32, r = some (.int v12) ∧ ((¬ v12 = 0 → (oc f11 b0 11 ∧ (∃ a13 : Nat, vl f11 b0 147 = .ref a13 ∧ (oc f11 a13 2 ∧ EvC l E w d MX2_take [.ref a13, .int 125] s10 f11 (fun o s14 f15 => KP o (fun r => r = none ∧ Q (.inl (some (.ref b1))) s14 f15) (fun k => Q (.inr k) s14 f15)))))) ∧ (v12 = 0 → (oc f11 b0 11 ∧ EvC l E w d MX11_deed [.ref b0] s10 f11 (fun o s17 f18 => KP o (fun r => ∃ a19 : Nat, r = some (.ref a19) ∧ (oc f18 b1 13 ∧ EvC l E w d MX13_add [.ref b1, .ref a19] s17 f18 (fun o s20 f21 => KP o (fun r => r = none ∧ ExC l E w (d + 1) MX11_block 17 [some (.ref b0), some (.ref b1)] [] s20 f21 Q) (fun k => Q (.inr k) s20 f21)))) (fun k => Q (.inr k) s17 f18)))))) (fun k => Q (.inr k) s10 f11)))))) : ExC l E w (d + 1) MX11_block 17 [some (.ref b0), some (.ref b1)] [] s f Q := by
  intro f0 h hW hF
  refine x_aload_n dX11_block_17 rfl rfl rfl ?_
  obtain ⟨hc, hT⟩ := hT
  obtain ⟨a9, ev, hT⟩ := hT
  refine c_fgetG dX11_block_18 f_TallySlate_Reader_23 hc (by decide) (by decide) hW ev ?_
  refine x_bipush (v := 125) dX11_block_21 rfl ?_
  obtain ⟨hc, hT⟩ := hT
  obtain ⟨cc, hcc⟩ := hW.ocell hc
  refine c_invV (vs := [.int 125]) dX11_block_23 oX2_is q820 q824 hcc q821 (Or.inl rfl) rfl rfl (Nat.le_of_ble_eq_true rfl) rfl hW hF hT ?_ ?_
  · intro _ s10 f11 hT h hW hF
    obtain ⟨v12, rfl, hT⟩ := hT
    refine x_if_ne (tgt := 40) dX11_block_26 rfl (fun c => ?_) (fun c => ?_)
    · replace hT := hT.1 c
      refine x_aload_n dX11_block_40 rfl rfl rfl ?_
      obtain ⟨hc, hT⟩ := hT
      obtain ⟨a13, ev, hT⟩ := hT
      refine c_fgetG dX11_block_41 f_TallySlate_Reader_23 hc (by decide) (by decide) hW ev ?_
      refine x_bipush (v := 125) dX11_block_44 rfl ?_
      obtain ⟨hc, hT⟩ := hT
      obtain ⟨cc, hcc⟩ := hW.ocell hc
      refine c_invV (vs := [.int 125]) dX11_block_46 oX2_take q816 q815 hcc q817 (Or.inl rfl) rfl rfl (Nat.le_of_ble_eq_true rfl) rfl hW hF hT ?_ ?_
      · intro _ s14 f15 hT h hW hF
        obtain ⟨rfl, hT⟩ := hT
        refine x_aload_n dX11_block_49 rfl rfl rfl ?_
        exact x_aret dX11_block_50 rfl (by first | exact Or.inl ⟨_, rfl⟩ | exact Or.inr ⟨_, rfl⟩) rfl ⟨_, _, hW, hF, Or.inl ⟨_, rfl, hT⟩⟩
      · intro k s14 f15 hT h a hW hx hF
        exact c_out (rfl) hW hx hF hT
    · replace hT := hT.2 c
      refine x_aload_n dX11_block_29 rfl rfl rfl ?_
      refine x_aload_n dX11_block_30 rfl rfl rfl ?_
      obtain ⟨hc, hT⟩ := hT
      obtain ⟨cc, hcc⟩ := hW.ocell hc
      refine c_invV (vs := []) dX11_block_31 oX11_deed q850 q848 hcc qs12 (Or.inl rfl) rfl rfl (Nat.le_of_ble_eq_true rfl) rfl hW hF hT ?_ ?_
      · intro _ s17 f18 hT h hW hF
        obtain ⟨a19, rfl, hT⟩ := hT
        obtain ⟨hc, hT⟩ := hT
        obtain ⟨cc, hcc⟩ := hW.ocell hc
        refine c_invV (vs := [.ref a19]) dX11_block_34 oX13_add q1282 q1281 hcc q1283 (Or.inl rfl) rfl rfl (Nat.le_of_ble_eq_true rfl) rfl hW hF hT ?_ ?_
        · intro _ s20 f21 hT h hW hF
          obtain ⟨rfl, hT⟩ := hT
          refine x_goto (tgt := 17) dX11_block_37 rfl ?_
          exact hT f0 h hW hF
        · intro k s20 f21 hT h a hW hx hF
          exact c_out (rfl) hW hx hF hT
      · intro k s17 f18 hT h a hW hx hF
        exact c_out (rfl) hW hx hF hT
  · intro k s10 f11 hT h a hW hx hF
    exact c_out (rfl) hW hx hF hT
set_option maxHeartbeats 16000000 in
theorem vX11_deed_0 {l : Launch} {E : EN} {w : CO} {d : Nat} {s : CS} {f : RH} {Q : KO → CS → RH → Prop} {x0 : Nat}  (hT : (oc f x0 11 ∧ (∃ a1 : Nat, vl f x0 147 = .ref a1 ∧ (oc f a1 2 ∧ (∃ v2 : Int32, vl f a1 21 = .int v2 ∧ (oc f x0 11 ∧ (∃ a3 : Nat, vl f x0 147 = .ref a3 ∧ (oc f a3 2 ∧ EvC l E w d MX2_isWord [.ref a3, .ref (eSC E 42)] s f (fun o s4 f5 => KP o (fun r => ∃ v6 : Int32, r = some (.int v6) ∧ ((v6 = 0 → (oc f5 x0 11 ∧ (∃ a7 : Nat, vl f5 x0 147 = .ref a7 ∧ (oc f5 a7 2 ∧ EvC l E w d MX2_isWord [.ref a7, .ref (eSC E 43)] s4 f5 (fun o s8 f9 => KP o (fun r => ∃ v10 : Int32, r = some (.int v10) ∧ ((v10 = 0 → (oc f9 x0 11 ∧ (∃ a11 : Nat, vl f9 x0 147 = .ref a11 ∧ (oc f9 a11 2 ∧ EvC l E w d MX2_isWord [.ref a11, .ref (eSC E 44)] s8 f9 (fun o s12 f13 => KP o (fun r => ∃ v14 : Int32, r = some (.int v14) ∧ ((v14 = 0 → (oc f13 x0 11 ∧ (∃ a15 : Nat, vl f13 x0 147 = .ref a15 ∧ (oc f13 a15 2 ∧ EvC l E w d MX2_isWord [.ref a15, .ref (eSC E 45)] s12 f13 (fun o s16 f17 => KP o (fun r => ∃ v18 : Int32, r = some (.int v18) ∧ ((v18 = 0 → (oc f17 x0 11 ∧ (∃ a19 : Nat, vl f17 x0 147 = .ref a19 ∧ (oc f17 a19 2 ∧ EvC l E w d MX2_isWord [.ref a19, .ref (eSC E 46)] s16 f17 (fun o s20 f21 => KP o (fun r => ∃ v22 : Int32, r = some (.int v22) ∧ ((v22 = 0 → (oc f21 x0 11 ∧ (∃ a23 : Nat, vl f21 x0 147 = .ref a23 ∧ (oc f21 a23 2 ∧ EvC l E w d MX2_isWord [.ref a23, .ref (eSC E 47)] s20 f21 (fun o s24 f25 => KP o (fun r => ∃ v26 : Int32, r = some (.int v26) ∧ ((v26 = 0 → (oc f25 x0 11 ∧ (∃ a27 : Nat, vl f25 x0 147 = .ref a27 ∧ (oc f25 a27 2 ∧ EvC l E w d MX2_isWord [.ref a27, .ref (eSC E 48)] s24 f25 (fun o s28 f29 => KP o (fun r => ∃ v30 : Int32, r = some (.int v30) ∧ ((v30 = 0 → (oc f29 x0 11 ∧ (∃ a31 : Nat, vl f29 x0 147 = .ref a31 ∧ (oc f29 a31 2 ∧ (∃ v32 : Int32, vl f29 a31 20 = .int v32 ∧ ((¬ v32 = 1 → (oc f29 x0 11 ∧ EvC l E w d MX11_assign [.ref x0] s28 f29 (fun o s33 f34 => KP o (fun r => ∃ a35 : Nat, r = some (.ref a35) ∧ (∃ k37 : Nat, oc f34 a35 k37 ∧ 161 ∈ CF k37 ∧ ¬ k37 = 30 ∧ f34.2.2.2 ≤ a35 ∧ ∀ f36 : RH, f36 = fset f34 a35 161 (.int v2) → Q (.inl (some (.ref a35))) s33 f36)) (fun k => Q (.inr k) s33 f34)))) ∧ (v32 = 1 → (oc f29 x0 11 ∧ EvC l E w d MX11_builtIn [.ref x0] s28 f29 (fun o s39 f40 => KP o (fun r => ∃ v41 : Int32, r = some (.int v41) ∧ ((0 ≤ v41 → (oc f40 x0 11 ∧ EvC l E w d MX11_alone [.ref x0] s39 f40 (fun o s42 f43 => KP o (fun r => ∃ a44 : Nat, r = some (.ref a44) ∧ (∃ k46 : Nat, oc f43 a44 k46 ∧ 161 ∈ CF k46 ∧ ¬ k46 = 30 ∧ f43.2.2.2 ≤ a44 ∧ ∀ f45 : RH, f45 = fset f43 a44 161 (.int v2) → Q (.inl (some (.ref a44))) s42 f45)) (fun k => Q (.inr k) s42 f43)))) ∧ (¬ 0 ≤ v41 → (oc f40 x0 11 ∧ EvC l E w d MX11_isReserved [.ref x0] s39 f40 (fun o s48 f49 => KP o (fun r => ∃ v50 : Int32, r = some (.int v50) ∧ ((¬ v50 = 0 → (oc f49 x0 11 ∧ EvC l E w d MX11_assign [.ref x0] s48 f49 (fun o s51 f52 => KP o (fun r => ∃ a53 : Nat, r = some (.ref a53) ∧ (∃ k55 : Nat, oc f52 a53 k55 ∧ 161 ∈ CF k55 ∧ ¬ k55 = 30 ∧ f52.2.2.2 ≤ a53 ∧ ∀ f54 : RH, f54 = fset f52 a53 161 (.int v2) → Q (.inl (some (.ref a53))) s51 f54)) (fun k => Q (.inr k) s51 f52)))) ∧ (v50 = 0 → (oc f49 x0 11 ∧ (∃ a57 : Nat, vl f49 x0 147 = .ref a57 ∧ (oc f49 a57 2 ∧ EvC l E w d MX2_isCalled [.ref a57] s48 f49 (fun o s58 f59 => KP o (fun r => ∃ v60 : Int32, r = some (.int v60) ∧ ((v60 = 0 → (oc f59 x0 11 ∧ EvC l E w d MX11_assign [.ref x0] s58 f59 (fun o s61 f62 => KP o (fun r => ∃ a63 : Nat, r = some (.ref a63) ∧ (∃ k65 : Nat, oc f62 a63 k65 ∧ 161 ∈ CF k65 ∧ ¬ k65 = 30 ∧ f62.2.2.2 ≤ a63 ∧ ∀ f64 : RH, f64 = fset f62 a63 161 (.int v2) → Q (.inl (some (.ref a63))) s61 f64)) (fun k => Q (.inr k) s61 f62)))) ∧ (¬ v60 = 0 → (oc f59 x0 11 ∧ EvC l E w d MX11_alone [.ref x0] s58 f59 (fun o s67 f68 => KP o (fun r => ∃ a69 : Nat, r = some (.ref a69) ∧ (∃ k71 : Nat, oc f68 a69 k71 ∧ 161 ∈ CF k71 ∧ ¬ k71 = 30 ∧ f68.2.2.2 ≤ a69 ∧ ∀ f70 : RH, f70 = fset f68 a69 161 (.int v2) → Q (.inl (some (.ref a69))) s67 f70)) (fun k => Q (.inr k) s67 f68)))))) (fun k => Q (.inr k) s58 f59)))))))) (fun k => Q (.inr k) s48 f49)))))) (fun k => Q (.inr k) s39 f40)))))))))) ∧ (¬ v30 = 0 → (oc f29 x0 11 ∧ EvC l E w d MX11_attempt [.ref x0] s28 f29 (fun o s76 f77 => KP o (fun r => ∃ a78 : Nat, r = some (.ref a78) ∧ (∃ k80 : Nat, oc f77 a78 k80 ∧ 161 ∈ CF k80 ∧ ¬ k80 = 30 ∧ f77.2.2.2 ≤ a78 ∧ ∀ f79 : RH, f79 = fset f77 a78 161 (.int v2) → Q (.inl (some (.ref a78))) s76 f79)) (fun k => Q (.inr k) s76 f77)))))) (fun k => Q (.inr k) s28 f29)))))) ∧ (¬ v26 = 0 → (oc f25 x0 11 ∧ EvC l E w d MX11_plain [.ref x0, .int 3] s24 f25 (fun o s83 f84 => KP o (fun r => ∃ a85 : Nat, r = some (.ref a85) ∧ (∃ k87 : Nat, oc f84 a85 k87 ∧ 161 ∈ CF k87 ∧ ¬ k87 = 30 ∧ f84.2.2.2 ≤ a85 ∧ ∀ f86 : RH, f86 = fset f84 a85 161 (.int v2) → Q (.inl (some (.ref a85))) s83 f86)) (fun k => Q (.inr k) s83 f84)))))) (fun k => Q (.inr k) s24 f25)))))) ∧ (¬ v22 = 0 → (oc f21 x0 11 ∧ EvC l E w d MX11_plain [.ref x0, .int 2] s20 f21 (fun o s90 f91 => KP o (fun r => ∃ a92 : Nat, r = some (.ref a92) ∧ (∃ k94 : Nat, oc f91 a92 k94 ∧ 161 ∈ CF k94 ∧ ¬ k94 = 30 ∧ f91.2.2.2 ≤ a92 ∧ ∀ f93 : RH, f93 = fset f91 a92 161 (.int v2) → Q (.inl (some (.ref a92))) s90 f93)) (fun k => Q (.inr k) s90 f91)))))) (fun k => Q (.inr k) s20 f21)))))) ∧ (¬ v18 = 0 → (oc f17 x0 11 ∧ EvC l E w d MX11_plain [.ref x0, .int 1] s16 f17 (fun o s97 f98 => KP o (fun r => ∃ a99 : Nat, r = some (.ref a99) ∧ (∃ k101 : Nat, oc f98 a99 k101 ∧ 161 ∈ CF k101 ∧ ¬ k101 = 30 ∧ f98.2.2.2 ≤ a99 ∧ ∀ f100 : RH, f100 = fset f98 a99 161 (.int v2) → Q (.inl (some (.ref a99))) s97 f100)) (fun k => Q (.inr k) s97 f98)))))) (fun k => Q (.inr k) s16 f17)))))) ∧ (¬ v14 = 0 → (oc f13 x0 11 ∧ EvC l E w d MX11_walk [.ref x0] s12 f13 (fun o s104 f105 => KP o (fun r => ∃ a106 : Nat, r = some (.ref a106) ∧ (∃ k108 : Nat, oc f105 a106 k108 ∧ 161 ∈ CF k108 ∧ ¬ k108 = 30 ∧ f105.2.2.2 ≤ a106 ∧ ∀ f107 : RH, f107 = fset f105 a106 161 (.int v2) → Q (.inl (some (.ref a106))) s104 f107)) (fun k => Q (.inr k) s104 f105)))))) (fun k => Q (.inr k) s12 f13)))))) ∧ (¬ v10 = 0 → (oc f9 x0 11 ∧ EvC l E w d MX11_loop [.ref x0] s8 f9 (fun o s111 f112 => KP o (fun r => ∃ a113 : Nat, r = some (.ref a113) ∧ (∃ k115 : Nat, oc f112 a113 k115 ∧ 161 ∈ CF k115 ∧ ¬ k115 = 30 ∧ f112.2.2.2 ≤ a113 ∧ ∀ f114 : RH, f114 = fset f112 a113 161 (.int v2) → Q (.inl (some (.ref a113))) s111 f114)) (fun k => Q (.inr k) s111 f112)))))) (fun k => Q (.inr k) s8 f9)))))) ∧ (¬ v6 = 0 → (oc f5 x0 11 ∧ EvC l E w d MX11_choice [.ref x0] s4 f5 (fun o s118 f119 => KP o (fun r => ∃ a120 : Nat, r = some (.ref a120) ∧ (∃ k122 : Nat, oc f119 a120 k122 ∧ 161 ∈ CF k122 ∧ ¬ k122 = 30 ∧ f119.2.2.2 ≤ a120 ∧ ∀ f121 : RH, f121 = fset f119 a120 161 (.int v2) → Q (.inl (some (.ref a120))) s118 f121)) (fun k => Q (.inr k) s118 f119)))))) (fun k => Q (.inr k) s4 f5)))))))))) : ExC l E w (d + 1) MX11_deed 0 [some (.ref x0), none, none] [] s f Q := by
  intro f0 h hW hF
  refine x_aload_n dX11_deed_0 rfl rfl rfl ?_
  obtain ⟨hc, hT⟩ := hT
  obtain ⟨a1, ev, hT⟩ := hT
  refine c_fgetG dX11_deed_1 f_TallySlate_Reader_23 hc (by decide) (by decide) hW ev ?_
  obtain ⟨hc, hT⟩ := hT
  obtain ⟨v2, ev, hT⟩ := hT
  refine c_fgetG dX11_deed_4 f_TallySlate_Reader_45 hc (by decide) (by decide) hW ev ?_
  refine x_istore_n (lo' := [some (.ref x0), some (.int v2), none]) dX11_deed_7 rfl (Nat.le_of_ble_eq_true rfl) rfl ?_
  refine x_aload_n dX11_deed_8 rfl rfl rfl ?_
  obtain ⟨hc, hT⟩ := hT
  obtain ⟨a3, ev, hT⟩ := hT
  refine c_fgetG dX11_deed_9 f_TallySlate_Reader_23 hc (by decide) (by decide) hW ev ?_
  refine x_ldcS (i := 42) dX11_deed_12 rfl ?_
  obtain ⟨hc, hT⟩ := hT
  obtain ⟨cc, hcc⟩ := hW.ocell hc
  refine c_invV (vs := [.ref (eSC E 42)]) dX11_deed_14 oX2_isWord q728 q727 hcc q729 (Or.inl rfl) rfl rfl (Nat.le_of_ble_eq_true rfl) rfl hW hF hT ?_ ?_
  · intro _ s4 f5 hT h hW hF
    obtain ⟨v6, rfl, hT⟩ := hT
    refine x_if_eq (tgt := 28) dX11_deed_17 rfl (fun c => ?_) (fun c => ?_)
    · replace hT := hT.1 c
      refine x_aload_n dX11_deed_28 rfl rfl rfl ?_
      obtain ⟨hc, hT⟩ := hT
      obtain ⟨a7, ev, hT⟩ := hT
      refine c_fgetG dX11_deed_29 f_TallySlate_Reader_23 hc (by decide) (by decide) hW ev ?_
      refine x_ldcS (i := 43) dX11_deed_32 rfl ?_
      obtain ⟨hc, hT⟩ := hT
      obtain ⟨cc, hcc⟩ := hW.ocell hc
      refine c_invV (vs := [.ref (eSC E 43)]) dX11_deed_34 oX2_isWord q728 q727 hcc q729 (Or.inl rfl) rfl rfl (Nat.le_of_ble_eq_true rfl) rfl hW hF hT ?_ ?_
      · intro _ s8 f9 hT h hW hF
        obtain ⟨v10, rfl, hT⟩ := hT
        refine x_if_eq (tgt := 48) dX11_deed_37 rfl (fun c => ?_) (fun c => ?_)
        · replace hT := hT.1 c
          refine x_aload_n dX11_deed_48 rfl rfl rfl ?_
          obtain ⟨hc, hT⟩ := hT
          obtain ⟨a11, ev, hT⟩ := hT
          refine c_fgetG dX11_deed_49 f_TallySlate_Reader_23 hc (by decide) (by decide) hW ev ?_
          refine x_ldcS (i := 44) dX11_deed_52 rfl ?_
          obtain ⟨hc, hT⟩ := hT
          obtain ⟨cc, hcc⟩ := hW.ocell hc
          refine c_invV (vs := [.ref (eSC E 44)]) dX11_deed_54 oX2_isWord q728 q727 hcc q729 (Or.inl rfl) rfl rfl (Nat.le_of_ble_eq_true rfl) rfl hW hF hT ?_ ?_
          · intro _ s12 f13 hT h hW hF
            obtain ⟨v14, rfl, hT⟩ := hT
            refine x_if_eq (tgt := 68) dX11_deed_57 rfl (fun c => ?_) (fun c => ?_)
            · replace hT := hT.1 c
              refine x_aload_n dX11_deed_68 rfl rfl rfl ?_
              obtain ⟨hc, hT⟩ := hT
              obtain ⟨a15, ev, hT⟩ := hT
              refine c_fgetG dX11_deed_69 f_TallySlate_Reader_23 hc (by decide) (by decide) hW ev ?_
              refine x_ldcS (i := 45) dX11_deed_72 rfl ?_
              obtain ⟨hc, hT⟩ := hT
              obtain ⟨cc, hcc⟩ := hW.ocell hc
              refine c_invV (vs := [.ref (eSC E 45)]) dX11_deed_74 oX2_isWord q728 q727 hcc q729 (Or.inl rfl) rfl rfl (Nat.le_of_ble_eq_true rfl) rfl hW hF hT ?_ ?_
              · intro _ s16 f17 hT h hW hF
                obtain ⟨v18, rfl, hT⟩ := hT
                refine x_if_eq (tgt := 89) dX11_deed_77 rfl (fun c => ?_) (fun c => ?_)
                · replace hT := hT.1 c
                  refine x_aload_n dX11_deed_89 rfl rfl rfl ?_
                  obtain ⟨hc, hT⟩ := hT
                  obtain ⟨a19, ev, hT⟩ := hT
                  refine c_fgetG dX11_deed_90 f_TallySlate_Reader_23 hc (by decide) (by decide) hW ev ?_
                  refine x_ldcS (i := 46) dX11_deed_93 rfl ?_
                  obtain ⟨hc, hT⟩ := hT
                  obtain ⟨cc, hcc⟩ := hW.ocell hc
                  refine c_invV (vs := [.ref (eSC E 46)]) dX11_deed_95 oX2_isWord q728 q727 hcc q729 (Or.inl rfl) rfl rfl (Nat.le_of_ble_eq_true rfl) rfl hW hF hT ?_ ?_
                  · intro _ s20 f21 hT h hW hF
                    obtain ⟨v22, rfl, hT⟩ := hT
                    refine x_if_eq (tgt := 110) dX11_deed_98 rfl (fun c => ?_) (fun c => ?_)
                    · replace hT := hT.1 c
                      refine x_aload_n dX11_deed_110 rfl rfl rfl ?_
                      obtain ⟨hc, hT⟩ := hT
                      obtain ⟨a23, ev, hT⟩ := hT
                      refine c_fgetG dX11_deed_111 f_TallySlate_Reader_23 hc (by decide) (by decide) hW ev ?_
                      refine x_ldcS (i := 47) dX11_deed_114 rfl ?_
                      obtain ⟨hc, hT⟩ := hT
                      obtain ⟨cc, hcc⟩ := hW.ocell hc
                      refine c_invV (vs := [.ref (eSC E 47)]) dX11_deed_116 oX2_isWord q728 q727 hcc q729 (Or.inl rfl) rfl rfl (Nat.le_of_ble_eq_true rfl) rfl hW hF hT ?_ ?_
                      · intro _ s24 f25 hT h hW hF
                        obtain ⟨v26, rfl, hT⟩ := hT
                        refine x_if_eq (tgt := 131) dX11_deed_119 rfl (fun c => ?_) (fun c => ?_)
                        · replace hT := hT.1 c
                          refine x_aload_n dX11_deed_131 rfl rfl rfl ?_
                          obtain ⟨hc, hT⟩ := hT
                          obtain ⟨a27, ev, hT⟩ := hT
                          refine c_fgetG dX11_deed_132 f_TallySlate_Reader_23 hc (by decide) (by decide) hW ev ?_
                          refine x_ldcS (i := 48) dX11_deed_135 rfl ?_
                          obtain ⟨hc, hT⟩ := hT
                          obtain ⟨cc, hcc⟩ := hW.ocell hc
                          refine c_invV (vs := [.ref (eSC E 48)]) dX11_deed_137 oX2_isWord q728 q727 hcc q729 (Or.inl rfl) rfl rfl (Nat.le_of_ble_eq_true rfl) rfl hW hF hT ?_ ?_
                          · intro _ s28 f29 hT h hW hF
                            obtain ⟨v30, rfl, hT⟩ := hT
                            refine x_if_eq (tgt := 151) dX11_deed_140 rfl (fun c => ?_) (fun c => ?_)
                            · replace hT := hT.1 c
                              refine x_aload_n dX11_deed_151 rfl rfl rfl ?_
                              obtain ⟨hc, hT⟩ := hT
                              obtain ⟨a31, ev, hT⟩ := hT
                              refine c_fgetG dX11_deed_152 f_TallySlate_Reader_23 hc (by decide) (by decide) hW ev ?_
                              obtain ⟨hc, hT⟩ := hT
                              obtain ⟨v32, ev, hT⟩ := hT
                              refine c_fgetG dX11_deed_155 f_TallySlate_Reader_41 hc (by decide) (by decide) hW ev ?_
                              refine x_iconst (v := 1) dX11_deed_158 rfl ?_
                              refine x_icmp_ne (tgt := 194) dX11_deed_159 rfl (fun c => ?_) (fun c => ?_)
                              · replace hT := hT.1 c
                                refine x_aload_n dX11_deed_194 rfl rfl rfl ?_
                                obtain ⟨hc, hT⟩ := hT
                                obtain ⟨cc, hcc⟩ := hW.ocell hc
                                refine c_invV (vs := []) dX11_deed_195 oX11_assign q1239 q1237 hcc qs33 (Or.inl rfl) rfl rfl (Nat.le_of_ble_eq_true rfl) rfl hW hF hT ?_ ?_
                                · intro _ s33 f34 hT h hW hF
                                  obtain ⟨a35, rfl, hT⟩ := hT
                                  refine x_astore_n (lo' := [some (.ref x0), some (.int v2), some (.ref a35)]) dX11_deed_198 rfl (Nat.le_of_ble_eq_true rfl) rfl rfl ?_
                                  refine x_aload_n dX11_deed_199 rfl rfl rfl ?_
                                  refine x_iload_n dX11_deed_200 rfl rfl ?_
                                  obtain ⟨k37, hc, hj, h30, hz, hT⟩ := hT
                                  refine c_fputG dX11_deed_201 f_TallySlate_Reader_193 hc hj h30 hz (Or.inl rfl) rfl rfl hW hF ?_
                                  intro f36 ef36 h hW hF
                                  replace hT := hT f36 ef36
                                  refine x_aload_n dX11_deed_204 rfl rfl rfl ?_
                                  exact x_aret dX11_deed_205 rfl (by first | exact Or.inl ⟨_, rfl⟩ | exact Or.inr ⟨_, rfl⟩) rfl ⟨_, _, hW, hF, Or.inl ⟨_, rfl, hT⟩⟩
                                · intro k s33 f34 hT h a hW hx hF
                                  exact c_out (rfl) hW hx hF hT
                              · replace hT := hT.2 c
                                refine x_aload_n dX11_deed_162 rfl rfl rfl ?_
                                obtain ⟨hc, hT⟩ := hT
                                obtain ⟨cc, hcc⟩ := hW.ocell hc
                                refine c_invV (vs := []) dX11_deed_163 oX11_builtIn q768 q766 hcc qs9 (Or.inl rfl) rfl rfl (Nat.le_of_ble_eq_true rfl) rfl hW hF hT ?_ ?_
                                · intro _ s39 f40 hT h hW hF
                                  obtain ⟨v41, rfl, hT⟩ := hT
                                  refine x_if_ge (tgt := 186) dX11_deed_166 rfl (fun c => ?_) (fun c => ?_)
                                  · replace hT := hT.1 c
                                    refine x_aload_n dX11_deed_186 rfl rfl rfl ?_
                                    obtain ⟨hc, hT⟩ := hT
                                    obtain ⟨cc, hcc⟩ := hW.ocell hc
                                    refine c_invV (vs := []) dX11_deed_187 oX11_alone q1235 q1233 hcc qs32 (Or.inl rfl) rfl rfl (Nat.le_of_ble_eq_true rfl) rfl hW hF hT ?_ ?_
                                    · intro _ s42 f43 hT h hW hF
                                      obtain ⟨a44, rfl, hT⟩ := hT
                                      refine x_astore_n (lo' := [some (.ref x0), some (.int v2), some (.ref a44)]) dX11_deed_190 rfl (Nat.le_of_ble_eq_true rfl) rfl rfl ?_
                                      refine x_goto (tgt := 199) dX11_deed_191 rfl ?_
                                      refine x_aload_n dX11_deed_199 rfl rfl rfl ?_
                                      refine x_iload_n dX11_deed_200 rfl rfl ?_
                                      obtain ⟨k46, hc, hj, h30, hz, hT⟩ := hT
                                      refine c_fputG dX11_deed_201 f_TallySlate_Reader_193 hc hj h30 hz (Or.inl rfl) rfl rfl hW hF ?_
                                      intro f45 ef45 h hW hF
                                      replace hT := hT f45 ef45
                                      refine x_aload_n dX11_deed_204 rfl rfl rfl ?_
                                      exact x_aret dX11_deed_205 rfl (by first | exact Or.inl ⟨_, rfl⟩ | exact Or.inr ⟨_, rfl⟩) rfl ⟨_, _, hW, hF, Or.inl ⟨_, rfl, hT⟩⟩
                                    · intro k s42 f43 hT h a hW hx hF
                                      exact c_out (rfl) hW hx hF hT
                                  · replace hT := hT.2 c
                                    refine x_aload_n dX11_deed_169 rfl rfl rfl ?_
                                    obtain ⟨hc, hT⟩ := hT
                                    obtain ⟨cc, hcc⟩ := hW.ocell hc
                                    refine c_invV (vs := []) dX11_deed_170 oX11_isReserved q762 q760 hcc qs8 (Or.inl rfl) rfl rfl (Nat.le_of_ble_eq_true rfl) rfl hW hF hT ?_ ?_
                                    · intro _ s48 f49 hT h hW hF
                                      obtain ⟨v50, rfl, hT⟩ := hT
                                      refine x_if_ne (tgt := 194) dX11_deed_173 rfl (fun c => ?_) (fun c => ?_)
                                      · replace hT := hT.1 c
                                        refine x_aload_n dX11_deed_194 rfl rfl rfl ?_
                                        obtain ⟨hc, hT⟩ := hT
                                        obtain ⟨cc, hcc⟩ := hW.ocell hc
                                        refine c_invV (vs := []) dX11_deed_195 oX11_assign q1239 q1237 hcc qs33 (Or.inl rfl) rfl rfl (Nat.le_of_ble_eq_true rfl) rfl hW hF hT ?_ ?_
                                        · intro _ s51 f52 hT h hW hF
                                          obtain ⟨a53, rfl, hT⟩ := hT
                                          refine x_astore_n (lo' := [some (.ref x0), some (.int v2), some (.ref a53)]) dX11_deed_198 rfl (Nat.le_of_ble_eq_true rfl) rfl rfl ?_
                                          refine x_aload_n dX11_deed_199 rfl rfl rfl ?_
                                          refine x_iload_n dX11_deed_200 rfl rfl ?_
                                          obtain ⟨k55, hc, hj, h30, hz, hT⟩ := hT
                                          refine c_fputG dX11_deed_201 f_TallySlate_Reader_193 hc hj h30 hz (Or.inl rfl) rfl rfl hW hF ?_
                                          intro f54 ef54 h hW hF
                                          replace hT := hT f54 ef54
                                          refine x_aload_n dX11_deed_204 rfl rfl rfl ?_
                                          exact x_aret dX11_deed_205 rfl (by first | exact Or.inl ⟨_, rfl⟩ | exact Or.inr ⟨_, rfl⟩) rfl ⟨_, _, hW, hF, Or.inl ⟨_, rfl, hT⟩⟩
                                        · intro k s51 f52 hT h a hW hx hF
                                          exact c_out (rfl) hW hx hF hT
                                      · replace hT := hT.2 c
                                        refine x_aload_n dX11_deed_176 rfl rfl rfl ?_
                                        obtain ⟨hc, hT⟩ := hT
                                        obtain ⟨a57, ev, hT⟩ := hT
                                        refine c_fgetG dX11_deed_177 f_TallySlate_Reader_23 hc (by decide) (by decide) hW ev ?_
                                        obtain ⟨hc, hT⟩ := hT
                                        obtain ⟨cc, hcc⟩ := hW.ocell hc
                                        refine c_invV (vs := []) dX11_deed_180 oX2_isCalled q1000 q999 hcc q1001 (Or.inl rfl) rfl rfl (Nat.le_of_ble_eq_true rfl) rfl hW hF hT ?_ ?_
                                        · intro _ s58 f59 hT h hW hF
                                          obtain ⟨v60, rfl, hT⟩ := hT
                                          refine x_if_eq (tgt := 194) dX11_deed_183 rfl (fun c => ?_) (fun c => ?_)
                                          · replace hT := hT.1 c
                                            refine x_aload_n dX11_deed_194 rfl rfl rfl ?_
                                            obtain ⟨hc, hT⟩ := hT
                                            obtain ⟨cc, hcc⟩ := hW.ocell hc
                                            refine c_invV (vs := []) dX11_deed_195 oX11_assign q1239 q1237 hcc qs33 (Or.inl rfl) rfl rfl (Nat.le_of_ble_eq_true rfl) rfl hW hF hT ?_ ?_
                                            · intro _ s61 f62 hT h hW hF
                                              obtain ⟨a63, rfl, hT⟩ := hT
                                              refine x_astore_n (lo' := [some (.ref x0), some (.int v2), some (.ref a63)]) dX11_deed_198 rfl (Nat.le_of_ble_eq_true rfl) rfl rfl ?_
                                              refine x_aload_n dX11_deed_199 rfl rfl rfl ?_
                                              refine x_iload_n dX11_deed_200 rfl rfl ?_
                                              obtain ⟨k65, hc, hj, h30, hz, hT⟩ := hT
                                              refine c_fputG dX11_deed_201 f_TallySlate_Reader_193 hc hj h30 hz (Or.inl rfl) rfl rfl hW hF ?_
                                              intro f64 ef64 h hW hF
                                              replace hT := hT f64 ef64
                                              refine x_aload_n dX11_deed_204 rfl rfl rfl ?_
                                              exact x_aret dX11_deed_205 rfl (by first | exact Or.inl ⟨_, rfl⟩ | exact Or.inr ⟨_, rfl⟩) rfl ⟨_, _, hW, hF, Or.inl ⟨_, rfl, hT⟩⟩
                                            · intro k s61 f62 hT h a hW hx hF
                                              exact c_out (rfl) hW hx hF hT
                                          · replace hT := hT.2 c
                                            refine x_aload_n dX11_deed_186 rfl rfl rfl ?_
                                            obtain ⟨hc, hT⟩ := hT
                                            obtain ⟨cc, hcc⟩ := hW.ocell hc
                                            refine c_invV (vs := []) dX11_deed_187 oX11_alone q1235 q1233 hcc qs32 (Or.inl rfl) rfl rfl (Nat.le_of_ble_eq_true rfl) rfl hW hF hT ?_ ?_
                                            · intro _ s67 f68 hT h hW hF
                                              obtain ⟨a69, rfl, hT⟩ := hT
                                              refine x_astore_n (lo' := [some (.ref x0), some (.int v2), some (.ref a69)]) dX11_deed_190 rfl (Nat.le_of_ble_eq_true rfl) rfl rfl ?_
                                              refine x_goto (tgt := 199) dX11_deed_191 rfl ?_
                                              refine x_aload_n dX11_deed_199 rfl rfl rfl ?_
                                              refine x_iload_n dX11_deed_200 rfl rfl ?_
                                              obtain ⟨k71, hc, hj, h30, hz, hT⟩ := hT
                                              refine c_fputG dX11_deed_201 f_TallySlate_Reader_193 hc hj h30 hz (Or.inl rfl) rfl rfl hW hF ?_
                                              intro f70 ef70 h hW hF
                                              replace hT := hT f70 ef70
                                              refine x_aload_n dX11_deed_204 rfl rfl rfl ?_
                                              exact x_aret dX11_deed_205 rfl (by first | exact Or.inl ⟨_, rfl⟩ | exact Or.inr ⟨_, rfl⟩) rfl ⟨_, _, hW, hF, Or.inl ⟨_, rfl, hT⟩⟩
                                            · intro k s67 f68 hT h a hW hx hF
                                              exact c_out (rfl) hW hx hF hT
                                        · intro k s58 f59 hT h a hW hx hF
                                          exact c_out (rfl) hW hx hF hT
                                    · intro k s48 f49 hT h a hW hx hF
                                      exact c_out (rfl) hW hx hF hT
                                · intro k s39 f40 hT h a hW hx hF
                                  exact c_out (rfl) hW hx hF hT
                            · replace hT := hT.2 c
                              refine x_aload_n dX11_deed_143 rfl rfl rfl ?_
                              obtain ⟨hc, hT⟩ := hT
                              obtain ⟨cc, hcc⟩ := hW.ocell hc
                              refine c_invV (vs := []) dX11_deed_144 oX11_attempt q1206 q1204 hcc qs31 (Or.inl rfl) rfl rfl (Nat.le_of_ble_eq_true rfl) rfl hW hF hT ?_ ?_
                              · intro _ s76 f77 hT h hW hF
                                obtain ⟨a78, rfl, hT⟩ := hT
                                refine x_astore_n (lo' := [some (.ref x0), some (.int v2), some (.ref a78)]) dX11_deed_147 rfl (Nat.le_of_ble_eq_true rfl) rfl rfl ?_
                                refine x_goto (tgt := 199) dX11_deed_148 rfl ?_
                                refine x_aload_n dX11_deed_199 rfl rfl rfl ?_
                                refine x_iload_n dX11_deed_200 rfl rfl ?_
                                obtain ⟨k80, hc, hj, h30, hz, hT⟩ := hT
                                refine c_fputG dX11_deed_201 f_TallySlate_Reader_193 hc hj h30 hz (Or.inl rfl) rfl rfl hW hF ?_
                                intro f79 ef79 h hW hF
                                replace hT := hT f79 ef79
                                refine x_aload_n dX11_deed_204 rfl rfl rfl ?_
                                exact x_aret dX11_deed_205 rfl (by first | exact Or.inl ⟨_, rfl⟩ | exact Or.inr ⟨_, rfl⟩) rfl ⟨_, _, hW, hF, Or.inl ⟨_, rfl, hT⟩⟩
                              · intro k s76 f77 hT h a hW hx hF
                                exact c_out (rfl) hW hx hF hT
                          · intro k s28 f29 hT h a hW hx hF
                            exact c_out (rfl) hW hx hF hT
                        · replace hT := hT.2 c
                          refine x_aload_n dX11_deed_122 rfl rfl rfl ?_
                          refine x_iconst (v := 3) dX11_deed_123 rfl ?_
                          obtain ⟨hc, hT⟩ := hT
                          obtain ⟨cc, hcc⟩ := hW.ocell hc
                          refine c_invV (vs := [.int 3]) dX11_deed_124 oX11_plain q1184 q1182 hcc qs30 (Or.inl rfl) rfl rfl (Nat.le_of_ble_eq_true rfl) rfl hW hF hT ?_ ?_
                          · intro _ s83 f84 hT h hW hF
                            obtain ⟨a85, rfl, hT⟩ := hT
                            refine x_astore_n (lo' := [some (.ref x0), some (.int v2), some (.ref a85)]) dX11_deed_127 rfl (Nat.le_of_ble_eq_true rfl) rfl rfl ?_
                            refine x_goto (tgt := 199) dX11_deed_128 rfl ?_
                            refine x_aload_n dX11_deed_199 rfl rfl rfl ?_
                            refine x_iload_n dX11_deed_200 rfl rfl ?_
                            obtain ⟨k87, hc, hj, h30, hz, hT⟩ := hT
                            refine c_fputG dX11_deed_201 f_TallySlate_Reader_193 hc hj h30 hz (Or.inl rfl) rfl rfl hW hF ?_
                            intro f86 ef86 h hW hF
                            replace hT := hT f86 ef86
                            refine x_aload_n dX11_deed_204 rfl rfl rfl ?_
                            exact x_aret dX11_deed_205 rfl (by first | exact Or.inl ⟨_, rfl⟩ | exact Or.inr ⟨_, rfl⟩) rfl ⟨_, _, hW, hF, Or.inl ⟨_, rfl, hT⟩⟩
                          · intro k s83 f84 hT h a hW hx hF
                            exact c_out (rfl) hW hx hF hT
                      · intro k s24 f25 hT h a hW hx hF
                        exact c_out (rfl) hW hx hF hT
                    · replace hT := hT.2 c
                      refine x_aload_n dX11_deed_101 rfl rfl rfl ?_
                      refine x_iconst (v := 2) dX11_deed_102 rfl ?_
                      obtain ⟨hc, hT⟩ := hT
                      obtain ⟨cc, hcc⟩ := hW.ocell hc
                      refine c_invV (vs := [.int 2]) dX11_deed_103 oX11_plain q1184 q1182 hcc qs30 (Or.inl rfl) rfl rfl (Nat.le_of_ble_eq_true rfl) rfl hW hF hT ?_ ?_
                      · intro _ s90 f91 hT h hW hF
                        obtain ⟨a92, rfl, hT⟩ := hT
                        refine x_astore_n (lo' := [some (.ref x0), some (.int v2), some (.ref a92)]) dX11_deed_106 rfl (Nat.le_of_ble_eq_true rfl) rfl rfl ?_
                        refine x_goto (tgt := 199) dX11_deed_107 rfl ?_
                        refine x_aload_n dX11_deed_199 rfl rfl rfl ?_
                        refine x_iload_n dX11_deed_200 rfl rfl ?_
                        obtain ⟨k94, hc, hj, h30, hz, hT⟩ := hT
                        refine c_fputG dX11_deed_201 f_TallySlate_Reader_193 hc hj h30 hz (Or.inl rfl) rfl rfl hW hF ?_
                        intro f93 ef93 h hW hF
                        replace hT := hT f93 ef93
                        refine x_aload_n dX11_deed_204 rfl rfl rfl ?_
                        exact x_aret dX11_deed_205 rfl (by first | exact Or.inl ⟨_, rfl⟩ | exact Or.inr ⟨_, rfl⟩) rfl ⟨_, _, hW, hF, Or.inl ⟨_, rfl, hT⟩⟩
                      · intro k s90 f91 hT h a hW hx hF
                        exact c_out (rfl) hW hx hF hT
                  · intro k s20 f21 hT h a hW hx hF
                    exact c_out (rfl) hW hx hF hT
                · replace hT := hT.2 c
                  refine x_aload_n dX11_deed_80 rfl rfl rfl ?_
                  refine x_iconst (v := 1) dX11_deed_81 rfl ?_
                  obtain ⟨hc, hT⟩ := hT
                  obtain ⟨cc, hcc⟩ := hW.ocell hc
                  refine c_invV (vs := [.int 1]) dX11_deed_82 oX11_plain q1184 q1182 hcc qs30 (Or.inl rfl) rfl rfl (Nat.le_of_ble_eq_true rfl) rfl hW hF hT ?_ ?_
                  · intro _ s97 f98 hT h hW hF
                    obtain ⟨a99, rfl, hT⟩ := hT
                    refine x_astore_n (lo' := [some (.ref x0), some (.int v2), some (.ref a99)]) dX11_deed_85 rfl (Nat.le_of_ble_eq_true rfl) rfl rfl ?_
                    refine x_goto (tgt := 199) dX11_deed_86 rfl ?_
                    refine x_aload_n dX11_deed_199 rfl rfl rfl ?_
                    refine x_iload_n dX11_deed_200 rfl rfl ?_
                    obtain ⟨k101, hc, hj, h30, hz, hT⟩ := hT
                    refine c_fputG dX11_deed_201 f_TallySlate_Reader_193 hc hj h30 hz (Or.inl rfl) rfl rfl hW hF ?_
                    intro f100 ef100 h hW hF
                    replace hT := hT f100 ef100
                    refine x_aload_n dX11_deed_204 rfl rfl rfl ?_
                    exact x_aret dX11_deed_205 rfl (by first | exact Or.inl ⟨_, rfl⟩ | exact Or.inr ⟨_, rfl⟩) rfl ⟨_, _, hW, hF, Or.inl ⟨_, rfl, hT⟩⟩
                  · intro k s97 f98 hT h a hW hx hF
                    exact c_out (rfl) hW hx hF hT
              · intro k s16 f17 hT h a hW hx hF
                exact c_out (rfl) hW hx hF hT
            · replace hT := hT.2 c
              refine x_aload_n dX11_deed_60 rfl rfl rfl ?_
              obtain ⟨hc, hT⟩ := hT
              obtain ⟨cc, hcc⟩ := hW.ocell hc
              refine c_invV (vs := []) dX11_deed_61 oX11_walk q1154 q1152 hcc qs28 (Or.inl rfl) rfl rfl (Nat.le_of_ble_eq_true rfl) rfl hW hF hT ?_ ?_
              · intro _ s104 f105 hT h hW hF
                obtain ⟨a106, rfl, hT⟩ := hT
                refine x_astore_n (lo' := [some (.ref x0), some (.int v2), some (.ref a106)]) dX11_deed_64 rfl (Nat.le_of_ble_eq_true rfl) rfl rfl ?_
                refine x_goto (tgt := 199) dX11_deed_65 rfl ?_
                refine x_aload_n dX11_deed_199 rfl rfl rfl ?_
                refine x_iload_n dX11_deed_200 rfl rfl ?_
                obtain ⟨k108, hc, hj, h30, hz, hT⟩ := hT
                refine c_fputG dX11_deed_201 f_TallySlate_Reader_193 hc hj h30 hz (Or.inl rfl) rfl rfl hW hF ?_
                intro f107 ef107 h hW hF
                replace hT := hT f107 ef107
                refine x_aload_n dX11_deed_204 rfl rfl rfl ?_
                exact x_aret dX11_deed_205 rfl (by first | exact Or.inl ⟨_, rfl⟩ | exact Or.inr ⟨_, rfl⟩) rfl ⟨_, _, hW, hF, Or.inl ⟨_, rfl, hT⟩⟩
              · intro k s104 f105 hT h a hW hx hF
                exact c_out (rfl) hW hx hF hT
          · intro k s12 f13 hT h a hW hx hF
            exact c_out (rfl) hW hx hF hT
        · replace hT := hT.2 c
          refine x_aload_n dX11_deed_40 rfl rfl rfl ?_
          obtain ⟨hc, hT⟩ := hT
          obtain ⟨cc, hcc⟩ := hW.ocell hc
          refine c_invV (vs := []) dX11_deed_41 oX11_loop q1133 q1131 hcc qs27 (Or.inl rfl) rfl rfl (Nat.le_of_ble_eq_true rfl) rfl hW hF hT ?_ ?_
          · intro _ s111 f112 hT h hW hF
            obtain ⟨a113, rfl, hT⟩ := hT
            refine x_astore_n (lo' := [some (.ref x0), some (.int v2), some (.ref a113)]) dX11_deed_44 rfl (Nat.le_of_ble_eq_true rfl) rfl rfl ?_
            refine x_goto (tgt := 199) dX11_deed_45 rfl ?_
            refine x_aload_n dX11_deed_199 rfl rfl rfl ?_
            refine x_iload_n dX11_deed_200 rfl rfl ?_
            obtain ⟨k115, hc, hj, h30, hz, hT⟩ := hT
            refine c_fputG dX11_deed_201 f_TallySlate_Reader_193 hc hj h30 hz (Or.inl rfl) rfl rfl hW hF ?_
            intro f114 ef114 h hW hF
            replace hT := hT f114 ef114
            refine x_aload_n dX11_deed_204 rfl rfl rfl ?_
            exact x_aret dX11_deed_205 rfl (by first | exact Or.inl ⟨_, rfl⟩ | exact Or.inr ⟨_, rfl⟩) rfl ⟨_, _, hW, hF, Or.inl ⟨_, rfl, hT⟩⟩
          · intro k s111 f112 hT h a hW hx hF
            exact c_out (rfl) hW hx hF hT
      · intro k s8 f9 hT h a hW hx hF
        exact c_out (rfl) hW hx hF hT
    · replace hT := hT.2 c
      refine x_aload_n dX11_deed_20 rfl rfl rfl ?_
      obtain ⟨hc, hT⟩ := hT
      obtain ⟨cc, hcc⟩ := hW.ocell hc
      refine c_invV (vs := []) dX11_deed_21 oX11_choice q855 q853 hcc qs13 (Or.inl rfl) rfl rfl (Nat.le_of_ble_eq_true rfl) rfl hW hF hT ?_ ?_
      · intro _ s118 f119 hT h hW hF
        obtain ⟨a120, rfl, hT⟩ := hT
        refine x_astore_n (lo' := [some (.ref x0), some (.int v2), some (.ref a120)]) dX11_deed_24 rfl (Nat.le_of_ble_eq_true rfl) rfl rfl ?_
        refine x_goto (tgt := 199) dX11_deed_25 rfl ?_
        refine x_aload_n dX11_deed_199 rfl rfl rfl ?_
        refine x_iload_n dX11_deed_200 rfl rfl ?_
        obtain ⟨k122, hc, hj, h30, hz, hT⟩ := hT
        refine c_fputG dX11_deed_201 f_TallySlate_Reader_193 hc hj h30 hz (Or.inl rfl) rfl rfl hW hF ?_
        intro f121 ef121 h hW hF
        replace hT := hT f121 ef121
        refine x_aload_n dX11_deed_204 rfl rfl rfl ?_
        exact x_aret dX11_deed_205 rfl (by first | exact Or.inl ⟨_, rfl⟩ | exact Or.inr ⟨_, rfl⟩) rfl ⟨_, _, hW, hF, Or.inl ⟨_, rfl, hT⟩⟩
      · intro k s118 f119 hT h a hW hx hF
        exact c_out (rfl) hW hx hF hT
  · intro k s4 f5 hT h a hW hx hF
    exact c_out (rfl) hW hx hF hT
theorem eX11_deed {l : Launch} {E : EN} {w : CO} {d : Nat} {s : CS} {f : RH} {Q : KO → CS → RH → Prop} {x0 : Nat}  (hst : l.stackTraces = false) (hT : (oc f x0 11 ∧ (∃ a1 : Nat, vl f x0 147 = .ref a1 ∧ (oc f a1 2 ∧ (∃ v2 : Int32, vl f a1 21 = .int v2 ∧ (oc f x0 11 ∧ (∃ a3 : Nat, vl f x0 147 = .ref a3 ∧ (oc f a3 2 ∧ EvC l E w d MX2_isWord [.ref a3, .ref (eSC E 42)] s f (fun o s4 f5 => KP o (fun r => ∃ v6 : Int32, r = some (.int v6) ∧ ((v6 = 0 → (oc f5 x0 11 ∧ (∃ a7 : Nat, vl f5 x0 147 = .ref a7 ∧ (oc f5 a7 2 ∧ EvC l E w d MX2_isWord [.ref a7, .ref (eSC E 43)] s4 f5 (fun o s8 f9 => KP o (fun r => ∃ v10 : Int32, r = some (.int v10) ∧ ((v10 = 0 → (oc f9 x0 11 ∧ (∃ a11 : Nat, vl f9 x0 147 = .ref a11 ∧ (oc f9 a11 2 ∧ EvC l E w d MX2_isWord [.ref a11, .ref (eSC E 44)] s8 f9 (fun o s12 f13 => KP o (fun r => ∃ v14 : Int32, r = some (.int v14) ∧ ((v14 = 0 → (oc f13 x0 11 ∧ (∃ a15 : Nat, vl f13 x0 147 = .ref a15 ∧ (oc f13 a15 2 ∧ EvC l E w d MX2_isWord [.ref a15, .ref (eSC E 45)] s12 f13 (fun o s16 f17 => KP o (fun r => ∃ v18 : Int32, r = some (.int v18) ∧ ((v18 = 0 → (oc f17 x0 11 ∧ (∃ a19 : Nat, vl f17 x0 147 = .ref a19 ∧ (oc f17 a19 2 ∧ EvC l E w d MX2_isWord [.ref a19, .ref (eSC E 46)] s16 f17 (fun o s20 f21 => KP o (fun r => ∃ v22 : Int32, r = some (.int v22) ∧ ((v22 = 0 → (oc f21 x0 11 ∧ (∃ a23 : Nat, vl f21 x0 147 = .ref a23 ∧ (oc f21 a23 2 ∧ EvC l E w d MX2_isWord [.ref a23, .ref (eSC E 47)] s20 f21 (fun o s24 f25 => KP o (fun r => ∃ v26 : Int32, r = some (.int v26) ∧ ((v26 = 0 → (oc f25 x0 11 ∧ (∃ a27 : Nat, vl f25 x0 147 = .ref a27 ∧ (oc f25 a27 2 ∧ EvC l E w d MX2_isWord [.ref a27, .ref (eSC E 48)] s24 f25 (fun o s28 f29 => KP o (fun r => ∃ v30 : Int32, r = some (.int v30) ∧ ((v30 = 0 → (oc f29 x0 11 ∧ (∃ a31 : Nat, vl f29 x0 147 = .ref a31 ∧ (oc f29 a31 2 ∧ (∃ v32 : Int32, vl f29 a31 20 = .int v32 ∧ ((¬ v32 = 1 → (oc f29 x0 11 ∧ EvC l E w d MX11_assign [.ref x0] s28 f29 (fun o s33 f34 => KP o (fun r => ∃ a35 : Nat, r = some (.ref a35) ∧ (∃ k37 : Nat, oc f34 a35 k37 ∧ 161 ∈ CF k37 ∧ ¬ k37 = 30 ∧ f34.2.2.2 ≤ a35 ∧ ∀ f36 : RH, f36 = fset f34 a35 161 (.int v2) → Q (.inl (some (.ref a35))) s33 f36)) (fun k => Q (.inr k) s33 f34)))) ∧ (v32 = 1 → (oc f29 x0 11 ∧ EvC l E w d MX11_builtIn [.ref x0] s28 f29 (fun o s39 f40 => KP o (fun r => ∃ v41 : Int32, r = some (.int v41) ∧ ((0 ≤ v41 → (oc f40 x0 11 ∧ EvC l E w d MX11_alone [.ref x0] s39 f40 (fun o s42 f43 => KP o (fun r => ∃ a44 : Nat, r = some (.ref a44) ∧ (∃ k46 : Nat, oc f43 a44 k46 ∧ 161 ∈ CF k46 ∧ ¬ k46 = 30 ∧ f43.2.2.2 ≤ a44 ∧ ∀ f45 : RH, f45 = fset f43 a44 161 (.int v2) → Q (.inl (some (.ref a44))) s42 f45)) (fun k => Q (.inr k) s42 f43)))) ∧ (¬ 0 ≤ v41 → (oc f40 x0 11 ∧ EvC l E w d MX11_isReserved [.ref x0] s39 f40 (fun o s48 f49 => KP o (fun r => ∃ v50 : Int32, r = some (.int v50) ∧ ((¬ v50 = 0 → (oc f49 x0 11 ∧ EvC l E w d MX11_assign [.ref x0] s48 f49 (fun o s51 f52 => KP o (fun r => ∃ a53 : Nat, r = some (.ref a53) ∧ (∃ k55 : Nat, oc f52 a53 k55 ∧ 161 ∈ CF k55 ∧ ¬ k55 = 30 ∧ f52.2.2.2 ≤ a53 ∧ ∀ f54 : RH, f54 = fset f52 a53 161 (.int v2) → Q (.inl (some (.ref a53))) s51 f54)) (fun k => Q (.inr k) s51 f52)))) ∧ (v50 = 0 → (oc f49 x0 11 ∧ (∃ a57 : Nat, vl f49 x0 147 = .ref a57 ∧ (oc f49 a57 2 ∧ EvC l E w d MX2_isCalled [.ref a57] s48 f49 (fun o s58 f59 => KP o (fun r => ∃ v60 : Int32, r = some (.int v60) ∧ ((v60 = 0 → (oc f59 x0 11 ∧ EvC l E w d MX11_assign [.ref x0] s58 f59 (fun o s61 f62 => KP o (fun r => ∃ a63 : Nat, r = some (.ref a63) ∧ (∃ k65 : Nat, oc f62 a63 k65 ∧ 161 ∈ CF k65 ∧ ¬ k65 = 30 ∧ f62.2.2.2 ≤ a63 ∧ ∀ f64 : RH, f64 = fset f62 a63 161 (.int v2) → Q (.inl (some (.ref a63))) s61 f64)) (fun k => Q (.inr k) s61 f62)))) ∧ (¬ v60 = 0 → (oc f59 x0 11 ∧ EvC l E w d MX11_alone [.ref x0] s58 f59 (fun o s67 f68 => KP o (fun r => ∃ a69 : Nat, r = some (.ref a69) ∧ (∃ k71 : Nat, oc f68 a69 k71 ∧ 161 ∈ CF k71 ∧ ¬ k71 = 30 ∧ f68.2.2.2 ≤ a69 ∧ ∀ f70 : RH, f70 = fset f68 a69 161 (.int v2) → Q (.inl (some (.ref a69))) s67 f70)) (fun k => Q (.inr k) s67 f68)))))) (fun k => Q (.inr k) s58 f59)))))))) (fun k => Q (.inr k) s48 f49)))))) (fun k => Q (.inr k) s39 f40)))))))))) ∧ (¬ v30 = 0 → (oc f29 x0 11 ∧ EvC l E w d MX11_attempt [.ref x0] s28 f29 (fun o s76 f77 => KP o (fun r => ∃ a78 : Nat, r = some (.ref a78) ∧ (∃ k80 : Nat, oc f77 a78 k80 ∧ 161 ∈ CF k80 ∧ ¬ k80 = 30 ∧ f77.2.2.2 ≤ a78 ∧ ∀ f79 : RH, f79 = fset f77 a78 161 (.int v2) → Q (.inl (some (.ref a78))) s76 f79)) (fun k => Q (.inr k) s76 f77)))))) (fun k => Q (.inr k) s28 f29)))))) ∧ (¬ v26 = 0 → (oc f25 x0 11 ∧ EvC l E w d MX11_plain [.ref x0, .int 3] s24 f25 (fun o s83 f84 => KP o (fun r => ∃ a85 : Nat, r = some (.ref a85) ∧ (∃ k87 : Nat, oc f84 a85 k87 ∧ 161 ∈ CF k87 ∧ ¬ k87 = 30 ∧ f84.2.2.2 ≤ a85 ∧ ∀ f86 : RH, f86 = fset f84 a85 161 (.int v2) → Q (.inl (some (.ref a85))) s83 f86)) (fun k => Q (.inr k) s83 f84)))))) (fun k => Q (.inr k) s24 f25)))))) ∧ (¬ v22 = 0 → (oc f21 x0 11 ∧ EvC l E w d MX11_plain [.ref x0, .int 2] s20 f21 (fun o s90 f91 => KP o (fun r => ∃ a92 : Nat, r = some (.ref a92) ∧ (∃ k94 : Nat, oc f91 a92 k94 ∧ 161 ∈ CF k94 ∧ ¬ k94 = 30 ∧ f91.2.2.2 ≤ a92 ∧ ∀ f93 : RH, f93 = fset f91 a92 161 (.int v2) → Q (.inl (some (.ref a92))) s90 f93)) (fun k => Q (.inr k) s90 f91)))))) (fun k => Q (.inr k) s20 f21)))))) ∧ (¬ v18 = 0 → (oc f17 x0 11 ∧ EvC l E w d MX11_plain [.ref x0, .int 1] s16 f17 (fun o s97 f98 => KP o (fun r => ∃ a99 : Nat, r = some (.ref a99) ∧ (∃ k101 : Nat, oc f98 a99 k101 ∧ 161 ∈ CF k101 ∧ ¬ k101 = 30 ∧ f98.2.2.2 ≤ a99 ∧ ∀ f100 : RH, f100 = fset f98 a99 161 (.int v2) → Q (.inl (some (.ref a99))) s97 f100)) (fun k => Q (.inr k) s97 f98)))))) (fun k => Q (.inr k) s16 f17)))))) ∧ (¬ v14 = 0 → (oc f13 x0 11 ∧ EvC l E w d MX11_walk [.ref x0] s12 f13 (fun o s104 f105 => KP o (fun r => ∃ a106 : Nat, r = some (.ref a106) ∧ (∃ k108 : Nat, oc f105 a106 k108 ∧ 161 ∈ CF k108 ∧ ¬ k108 = 30 ∧ f105.2.2.2 ≤ a106 ∧ ∀ f107 : RH, f107 = fset f105 a106 161 (.int v2) → Q (.inl (some (.ref a106))) s104 f107)) (fun k => Q (.inr k) s104 f105)))))) (fun k => Q (.inr k) s12 f13)))))) ∧ (¬ v10 = 0 → (oc f9 x0 11 ∧ EvC l E w d MX11_loop [.ref x0] s8 f9 (fun o s111 f112 => KP o (fun r => ∃ a113 : Nat, r = some (.ref a113) ∧ (∃ k115 : Nat, oc f112 a113 k115 ∧ 161 ∈ CF k115 ∧ ¬ k115 = 30 ∧ f112.2.2.2 ≤ a113 ∧ ∀ f114 : RH, f114 = fset f112 a113 161 (.int v2) → Q (.inl (some (.ref a113))) s111 f114)) (fun k => Q (.inr k) s111 f112)))))) (fun k => Q (.inr k) s8 f9)))))) ∧ (¬ v6 = 0 → (oc f5 x0 11 ∧ EvC l E w d MX11_choice [.ref x0] s4 f5 (fun o s118 f119 => KP o (fun r => ∃ a120 : Nat, r = some (.ref a120) ∧ (∃ k122 : Nat, oc f119 a120 k122 ∧ 161 ∈ CF k122 ∧ ¬ k122 = 30 ∧ f119.2.2.2 ≤ a120 ∧ ∀ f121 : RH, f121 = fset f119 a120 161 (.int v2) → Q (.inl (some (.ref a120))) s118 f121)) (fun k => Q (.inr k) s118 f119)))))) (fun k => Q (.inr k) s4 f5)))))))))) : EvC l E w (d + 1) MX11_deed [.ref x0] s f Q :=
  EvC.of hst (by decide) (Nat.le_of_ble_eq_true rfl) (vX11_deed_0  hT)
set_option maxHeartbeats 16000000 in
theorem vX11_choice_0 {l : Launch} {E : EN} {w : CO} {d : Nat} {s : CS} {f : RH} {Q : KO → CS → RH → Prop} {x0 : Nat}  (hT : (rmF E f 1 4 ∧ ∀ (a1 : Nat) (f2 : RH), a1 = f.1 → f2 = fnew f 14 → (EvC l E w d MX15_init [.ref a1] s f2 (fun o s3 f4 => KP o (fun r => r = none ∧ (oc f4 x0 11 ∧ (∃ a5 : Nat, vl f4 x0 147 = .ref a5 ∧ (oc f4 a5 2 ∧ EvC l E w d MX2_next [.ref a5] s3 f4 (fun o s6 f7 => KP o (fun r => r = none ∧ (oc f7 x0 11 ∧ (∃ a8 : Nat, vl f7 x0 147 = .ref a8 ∧ (oc f7 a8 2 ∧ EvC l E w d MX2_take [.ref a8, .int 40] s6 f7 (fun o s9 f10 => KP o (fun r => r = none ∧ (oc f10 x0 11 ∧ EvC l E w d MX11_expression [.ref x0] s9 f10 (fun o s11 f12 => KP o (fun r => ∃ a13 : Nat, r = some (.ref a13) ∧ (oc f12 a1 14 ∧ f12.2.2.2 ≤ a1 ∧ ∀ f14 : RH, f14 = fset f12 a1 162 (.ref a13) → (oc f14 x0 11 ∧ (∃ a15 : Nat, vl f14 x0 147 = .ref a15 ∧ (oc f14 a15 2 ∧ EvC l E w d MX2_take [.ref a15, .int 41] s11 f14 (fun o s16 f17 => KP o (fun r => r = none ∧ (oc f17 x0 11 ∧ EvC l E w d MX11_block [.ref x0] s16 f17 (fun o s18 f19 => KP o (fun r => ∃ a20 : Nat, r = some (.ref a20) ∧ (oc f19 a1 14 ∧ f19.2.2.2 ≤ a1 ∧ ∀ f21 : RH, f21 = fset f19 a1 163 (.ref a20) → (oc f21 x0 11 ∧ (∃ a22 : Nat, vl f21 x0 147 = .ref a22 ∧ (oc f21 a22 2 ∧ EvC l E w d MX2_isWord [.ref a22, .ref (eSC E 49)] s18 f21 (fun o s23 f24 => KP o (fun r => ∃ v25 : Int32, r = some (.int v25) ∧ ((¬ v25 = 0 → (oc f24 x0 11 ∧ (∃ a26 : Nat, vl f24 x0 147 = .ref a26 ∧ (oc f24 a26 2 ∧ EvC l E w d MX2_next [.ref a26] s23 f24 (fun o s27 f28 => KP o (fun r => r = none ∧ (oc f28 x0 11 ∧ EvC l E w d MX11_block [.ref x0] s27 f28 (fun o s29 f30 => KP o (fun r => ∃ a31 : Nat, r = some (.ref a31) ∧ (oc f30 a1 14 ∧ f30.2.2.2 ≤ a1 ∧ ∀ f32 : RH, f32 = fset f30 a1 164 (.ref a31) → Q (.inl (some (.ref a1))) s29 f32)) (fun k => Q (.inr k) s29 f30)))) (fun k => Q (.inr k) s27 f28)))))) ∧ (v25 = 0 → Q (.inl (some (.ref a1))) s23 f24))) (fun k => Q (.inr k) s23 f24))))))) (fun k => Q (.inr k) s18 f19)))) (fun k => Q (.inr k) s16 f17))))))) (fun k => Q (.inr k) s11 f12)))) (fun k => Q (.inr k) s9 f10)))))) (fun k => Q (.inr k) s6 f7)))))) (fun k => Q (.inr k) s3 f4))))) : ExC l E w (d + 1) MX11_choice 0 [some (.ref x0), none] [] s f Q := by
  intro f0 h hW hF
  obtain ⟨hr, hT⟩ := hT
  refine c_newG (k := 14) dX11_choice_0 (by decide) q857 q188 hr hW hF ?_
  intro a1 f2 ea1 ef2 h hW hF
  replace hT := hT a1 f2 ea1 ef2
  refine x_dup dX11_choice_3 rfl ?_
  refine c_invI (b := a1) (vs := []) dX11_choice_4 oX15_init rfl rfl rfl q860 (Or.inr ⟨_, q859⟩) rfl rfl (Nat.le_of_ble_eq_true rfl) rfl hW hF hT ?_ ?_
  · intro _ s3 f4 hT h hW hF
    obtain ⟨rfl, hT⟩ := hT
    refine x_astore_n (lo' := [some (.ref x0), some (.ref a1)]) dX11_choice_7 rfl (Nat.le_of_ble_eq_true rfl) rfl rfl ?_
    refine x_aload_n dX11_choice_8 rfl rfl rfl ?_
    obtain ⟨hc, hT⟩ := hT
    obtain ⟨a5, ev, hT⟩ := hT
    refine c_fgetG dX11_choice_9 f_TallySlate_Reader_23 hc (by decide) (by decide) hW ev ?_
    obtain ⟨hc, hT⟩ := hT
    obtain ⟨cc, hcc⟩ := hW.ocell hc
    refine c_invV (vs := []) dX11_choice_12 oX2_next q610 q609 hcc q611 (Or.inl rfl) rfl rfl (Nat.le_of_ble_eq_true rfl) rfl hW hF hT ?_ ?_
    · intro _ s6 f7 hT h hW hF
      obtain ⟨rfl, hT⟩ := hT
      refine x_aload_n dX11_choice_15 rfl rfl rfl ?_
      obtain ⟨hc, hT⟩ := hT
      obtain ⟨a8, ev, hT⟩ := hT
      refine c_fgetG dX11_choice_16 f_TallySlate_Reader_23 hc (by decide) (by decide) hW ev ?_
      refine x_bipush (v := 40) dX11_choice_19 rfl ?_
      obtain ⟨hc, hT⟩ := hT
      obtain ⟨cc, hcc⟩ := hW.ocell hc
      refine c_invV (vs := [.int 40]) dX11_choice_21 oX2_take q816 q815 hcc q817 (Or.inl rfl) rfl rfl (Nat.le_of_ble_eq_true rfl) rfl hW hF hT ?_ ?_
      · intro _ s9 f10 hT h hW hF
        obtain ⟨rfl, hT⟩ := hT
        refine x_aload_n dX11_choice_24 rfl rfl rfl ?_
        refine x_aload_n dX11_choice_25 rfl rfl rfl ?_
        obtain ⟨hc, hT⟩ := hT
        obtain ⟨cc, hcc⟩ := hW.ocell hc
        refine c_invV (vs := []) dX11_choice_26 oX11_expression q893 q891 hcc qs14 (Or.inl rfl) rfl rfl (Nat.le_of_ble_eq_true rfl) rfl hW hF hT ?_ ?_
        · intro _ s11 f12 hT h hW hF
          obtain ⟨a13, rfl, hT⟩ := hT
          obtain ⟨hc, hz, hT⟩ := hT
          refine c_fputG dX11_choice_29 f_TallySlate_Reader_214 hc (by decide) (by decide) hz (Or.inl rfl) rfl rfl hW hF ?_
          intro f14 ef14 h hW hF
          replace hT := hT f14 ef14
          refine x_aload_n dX11_choice_32 rfl rfl rfl ?_
          obtain ⟨hc, hT⟩ := hT
          obtain ⟨a15, ev, hT⟩ := hT
          refine c_fgetG dX11_choice_33 f_TallySlate_Reader_23 hc (by decide) (by decide) hW ev ?_
          refine x_bipush (v := 41) dX11_choice_36 rfl ?_
          obtain ⟨hc, hT⟩ := hT
          obtain ⟨cc, hcc⟩ := hW.ocell hc
          refine c_invV (vs := [.int 41]) dX11_choice_38 oX2_take q816 q815 hcc q817 (Or.inl rfl) rfl rfl (Nat.le_of_ble_eq_true rfl) rfl hW hF hT ?_ ?_
          · intro _ s16 f17 hT h hW hF
            obtain ⟨rfl, hT⟩ := hT
            refine x_aload_n dX11_choice_41 rfl rfl rfl ?_
            refine x_aload_n dX11_choice_42 rfl rfl rfl ?_
            obtain ⟨hc, hT⟩ := hT
            obtain ⟨cc, hcc⟩ := hW.ocell hc
            refine c_invV (vs := []) dX11_choice_43 oX11_block q831 q829 hcc qs11 (Or.inl rfl) rfl rfl (Nat.le_of_ble_eq_true rfl) rfl hW hF hT ?_ ?_
            · intro _ s18 f19 hT h hW hF
              obtain ⟨a20, rfl, hT⟩ := hT
              obtain ⟨hc, hz, hT⟩ := hT
              refine c_fputG dX11_choice_46 f_TallySlate_Reader_217 hc (by decide) (by decide) hz (Or.inl rfl) rfl rfl hW hF ?_
              intro f21 ef21 h hW hF
              replace hT := hT f21 ef21
              refine x_aload_n dX11_choice_49 rfl rfl rfl ?_
              obtain ⟨hc, hT⟩ := hT
              obtain ⟨a22, ev, hT⟩ := hT
              refine c_fgetG dX11_choice_50 f_TallySlate_Reader_23 hc (by decide) (by decide) hW ev ?_
              refine x_ldcS (i := 49) dX11_choice_53 rfl ?_
              obtain ⟨hc, hT⟩ := hT
              obtain ⟨cc, hcc⟩ := hW.ocell hc
              refine c_invV (vs := [.ref (eSC E 49)]) dX11_choice_55 oX2_isWord q728 q727 hcc q729 (Or.inl rfl) rfl rfl (Nat.le_of_ble_eq_true rfl) rfl hW hF hT ?_ ?_
              · intro _ s23 f24 hT h hW hF
                obtain ⟨v25, rfl, hT⟩ := hT
                refine x_if_ne (tgt := 63) dX11_choice_58 rfl (fun c => ?_) (fun c => ?_)
                · replace hT := hT.1 c
                  refine x_aload_n dX11_choice_63 rfl rfl rfl ?_
                  obtain ⟨hc, hT⟩ := hT
                  obtain ⟨a26, ev, hT⟩ := hT
                  refine c_fgetG dX11_choice_64 f_TallySlate_Reader_23 hc (by decide) (by decide) hW ev ?_
                  obtain ⟨hc, hT⟩ := hT
                  obtain ⟨cc, hcc⟩ := hW.ocell hc
                  refine c_invV (vs := []) dX11_choice_67 oX2_next q610 q609 hcc q611 (Or.inl rfl) rfl rfl (Nat.le_of_ble_eq_true rfl) rfl hW hF hT ?_ ?_
                  · intro _ s27 f28 hT h hW hF
                    obtain ⟨rfl, hT⟩ := hT
                    refine x_aload_n dX11_choice_70 rfl rfl rfl ?_
                    refine x_aload_n dX11_choice_71 rfl rfl rfl ?_
                    obtain ⟨hc, hT⟩ := hT
                    obtain ⟨cc, hcc⟩ := hW.ocell hc
                    refine c_invV (vs := []) dX11_choice_72 oX11_block q831 q829 hcc qs11 (Or.inl rfl) rfl rfl (Nat.le_of_ble_eq_true rfl) rfl hW hF hT ?_ ?_
                    · intro _ s29 f30 hT h hW hF
                      obtain ⟨a31, rfl, hT⟩ := hT
                      obtain ⟨hc, hz, hT⟩ := hT
                      refine c_fputG dX11_choice_75 f_TallySlate_Reader_222 hc (by decide) (by decide) hz (Or.inl rfl) rfl rfl hW hF ?_
                      intro f32 ef32 h hW hF
                      replace hT := hT f32 ef32
                      refine x_aload_n dX11_choice_78 rfl rfl rfl ?_
                      exact x_aret dX11_choice_79 rfl (by first | exact Or.inl ⟨_, rfl⟩ | exact Or.inr ⟨_, rfl⟩) rfl ⟨_, _, hW, hF, Or.inl ⟨_, rfl, hT⟩⟩
                    · intro k s29 f30 hT h a hW hx hF
                      exact c_out (rfl) hW hx hF hT
                  · intro k s27 f28 hT h a hW hx hF
                    exact c_out (rfl) hW hx hF hT
                · replace hT := hT.2 c
                  refine x_aload_n dX11_choice_61 rfl rfl rfl ?_
                  exact x_aret dX11_choice_62 rfl (by first | exact Or.inl ⟨_, rfl⟩ | exact Or.inr ⟨_, rfl⟩) rfl ⟨_, _, hW, hF, Or.inl ⟨_, rfl, hT⟩⟩
              · intro k s23 f24 hT h a hW hx hF
                exact c_out (rfl) hW hx hF hT
            · intro k s18 f19 hT h a hW hx hF
              exact c_out (rfl) hW hx hF hT
          · intro k s16 f17 hT h a hW hx hF
            exact c_out (rfl) hW hx hF hT
        · intro k s11 f12 hT h a hW hx hF
          exact c_out (rfl) hW hx hF hT
      · intro k s9 f10 hT h a hW hx hF
        exact c_out (rfl) hW hx hF hT
    · intro k s6 f7 hT h a hW hx hF
      exact c_out (rfl) hW hx hF hT
  · intro k s3 f4 hT h a hW hx hF
    exact c_out (rfl) hW hx hF hT
theorem eX11_choice {l : Launch} {E : EN} {w : CO} {d : Nat} {s : CS} {f : RH} {Q : KO → CS → RH → Prop} {x0 : Nat}  (hst : l.stackTraces = false) (hT : (rmF E f 1 4 ∧ ∀ (a1 : Nat) (f2 : RH), a1 = f.1 → f2 = fnew f 14 → (EvC l E w d MX15_init [.ref a1] s f2 (fun o s3 f4 => KP o (fun r => r = none ∧ (oc f4 x0 11 ∧ (∃ a5 : Nat, vl f4 x0 147 = .ref a5 ∧ (oc f4 a5 2 ∧ EvC l E w d MX2_next [.ref a5] s3 f4 (fun o s6 f7 => KP o (fun r => r = none ∧ (oc f7 x0 11 ∧ (∃ a8 : Nat, vl f7 x0 147 = .ref a8 ∧ (oc f7 a8 2 ∧ EvC l E w d MX2_take [.ref a8, .int 40] s6 f7 (fun o s9 f10 => KP o (fun r => r = none ∧ (oc f10 x0 11 ∧ EvC l E w d MX11_expression [.ref x0] s9 f10 (fun o s11 f12 => KP o (fun r => ∃ a13 : Nat, r = some (.ref a13) ∧ (oc f12 a1 14 ∧ f12.2.2.2 ≤ a1 ∧ ∀ f14 : RH, f14 = fset f12 a1 162 (.ref a13) → (oc f14 x0 11 ∧ (∃ a15 : Nat, vl f14 x0 147 = .ref a15 ∧ (oc f14 a15 2 ∧ EvC l E w d MX2_take [.ref a15, .int 41] s11 f14 (fun o s16 f17 => KP o (fun r => r = none ∧ (oc f17 x0 11 ∧ EvC l E w d MX11_block [.ref x0] s16 f17 (fun o s18 f19 => KP o (fun r => ∃ a20 : Nat, r = some (.ref a20) ∧ (oc f19 a1 14 ∧ f19.2.2.2 ≤ a1 ∧ ∀ f21 : RH, f21 = fset f19 a1 163 (.ref a20) → (oc f21 x0 11 ∧ (∃ a22 : Nat, vl f21 x0 147 = .ref a22 ∧ (oc f21 a22 2 ∧ EvC l E w d MX2_isWord [.ref a22, .ref (eSC E 49)] s18 f21 (fun o s23 f24 => KP o (fun r => ∃ v25 : Int32, r = some (.int v25) ∧ ((¬ v25 = 0 → (oc f24 x0 11 ∧ (∃ a26 : Nat, vl f24 x0 147 = .ref a26 ∧ (oc f24 a26 2 ∧ EvC l E w d MX2_next [.ref a26] s23 f24 (fun o s27 f28 => KP o (fun r => r = none ∧ (oc f28 x0 11 ∧ EvC l E w d MX11_block [.ref x0] s27 f28 (fun o s29 f30 => KP o (fun r => ∃ a31 : Nat, r = some (.ref a31) ∧ (oc f30 a1 14 ∧ f30.2.2.2 ≤ a1 ∧ ∀ f32 : RH, f32 = fset f30 a1 164 (.ref a31) → Q (.inl (some (.ref a1))) s29 f32)) (fun k => Q (.inr k) s29 f30)))) (fun k => Q (.inr k) s27 f28)))))) ∧ (v25 = 0 → Q (.inl (some (.ref a1))) s23 f24))) (fun k => Q (.inr k) s23 f24))))))) (fun k => Q (.inr k) s18 f19)))) (fun k => Q (.inr k) s16 f17))))))) (fun k => Q (.inr k) s11 f12)))) (fun k => Q (.inr k) s9 f10)))))) (fun k => Q (.inr k) s6 f7)))))) (fun k => Q (.inr k) s3 f4))))) : EvC l E w (d + 1) MX11_choice [.ref x0] s f Q :=
  EvC.of hst (by decide) (Nat.le_of_ble_eq_true rfl) (vX11_choice_0  hT)
theorem vX11_expression_0 {l : Launch} {E : EN} {w : CO} {d : Nat} {s : CS} {f : RH} {Q : KO → CS → RH → Prop} {x0 : Nat}  (hT : (oc f x0 11 ∧ EvC l E w d MX11_level [.ref x0, .int 0] s f (fun o s1 f2 => KP o (fun r => ∃ a3 : Nat, r = some (.ref a3) ∧ Q (.inl (some (.ref a3))) s1 f2) (fun k => Q (.inr k) s1 f2)))) : ExC l E w (d + 1) MX11_expression 0 [some (.ref x0)] [] s f Q := by
  intro f0 h hW hF
  refine x_aload_n dX11_expression_0 rfl rfl rfl ?_
  refine x_iconst (v := 0) dX11_expression_1 rfl ?_
  obtain ⟨hc, hT⟩ := hT
  obtain ⟨cc, hcc⟩ := hW.ocell hc
  refine c_invV (vs := [.int 0]) dX11_expression_2 oX11_level q897 q895 hcc qs15 (Or.inl rfl) rfl rfl (Nat.le_of_ble_eq_true rfl) rfl hW hF hT ?_ ?_
  · intro _ s1 f2 hT h hW hF
    obtain ⟨a3, rfl, hT⟩ := hT
    exact x_aret dX11_expression_5 rfl (by first | exact Or.inl ⟨_, rfl⟩ | exact Or.inr ⟨_, rfl⟩) rfl ⟨_, _, hW, hF, Or.inl ⟨_, rfl, hT⟩⟩
  · intro k s1 f2 hT h a hW hx hF
    exact c_out (rfl) hW hx hF hT
theorem eX11_expression {l : Launch} {E : EN} {w : CO} {d : Nat} {s : CS} {f : RH} {Q : KO → CS → RH → Prop} {x0 : Nat}  (hst : l.stackTraces = false) (hT : (oc f x0 11 ∧ EvC l E w d MX11_level [.ref x0, .int 0] s f (fun o s1 f2 => KP o (fun r => ∃ a3 : Nat, r = some (.ref a3) ∧ Q (.inl (some (.ref a3))) s1 f2) (fun k => Q (.inr k) s1 f2)))) : EvC l E w (d + 1) MX11_expression [.ref x0] s f Q :=
  EvC.of hst (by decide) (Nat.le_of_ble_eq_true rfl) (vX11_expression_0  hT)
set_option maxHeartbeats 16000000 in
theorem vX11_level_0 {l : Launch} {E : EN} {w : CO} {d : Nat} {s : CS} {f : RH} {Q : KO → CS → RH → Prop} {x0 : Nat} {x1 : Int32}  (hT : ((¬ x1 = 4 → (oc f x0 11 ∧ EvC l E w d MX11_level [.ref x0, .int (x1 + 1)] s f (fun o s1 f2 => KP o (fun r => ∃ a3 : Nat, r = some (.ref a3) ∧ (oc f2 x0 11 ∧ EvC l E w d MX11_isOf [.ref x0, .int x1] s1 f2 (fun o s4 f5 => KP o (fun r => ∃ v6 : Int32, r = some (.int v6) ∧ ((¬ v6 = 0 → (rmF E f5 1 2 ∧ ∀ (a7 : Nat) (f8 : RH), a7 = f5.1 → f8 = fnew f5 23 → (EvC l E w d MX25_init [.ref a7] s4 f8 (fun o s9 f10 => KP o (fun r => r = none ∧ (oc f10 a7 23 ∧ (∃ a11 : Nat, vl f10 a7 184 = .ref a11 ∧ (oc f10 a11 17 ∧ EvC l E w d MX19_add [.ref a11, .ref a3, .int 0, .int 0] s9 f10 (fun o s12 f13 => KP o (fun r => r = none ∧ ExC l E w (d + 1) MX11_level 49 [some (.ref x0), some (.int x1), none, some (.ref a7), some (.int 1), none, none] [] s12 f13 Q) (fun k => Q (.inr k) s12 f13)))))) (fun k => Q (.inr k) s9 f10))))) ∧ (v6 = 0 → Q (.inl (some (.ref a3))) s4 f5))) (fun k => Q (.inr k) s4 f5)))) (fun k => Q (.inr k) s1 f2)))) ∧ (x1 = 4 → (oc f x0 11 ∧ EvC l E w d MX11_prefix [.ref x0] s f (fun o s17 f18 => KP o (fun r => ∃ a19 : Nat, r = some (.ref a19) ∧ Q (.inl (some (.ref a19))) s17 f18) (fun k => Q (.inr k) s17 f18)))))) : ExC l E w (d + 1) MX11_level 0 [some (.ref x0), some (.int x1), none, none, none, none, none] [] s f Q := by
  intro f0 h hW hF
  refine x_iload_n dX11_level_0 rfl rfl ?_
  refine x_iconst (v := 4) dX11_level_1 rfl ?_
  refine x_icmp_ne (tgt := 10) dX11_level_2 rfl (fun c => ?_) (fun c => ?_)
  · replace hT := hT.1 c
    refine x_aload_n dX11_level_10 rfl rfl rfl ?_
    refine x_iload_n dX11_level_11 rfl rfl ?_
    refine x_iconst (v := 1) dX11_level_12 rfl ?_
    refine x_iadd dX11_level_13 ?_
    obtain ⟨hc, hT⟩ := hT
    obtain ⟨cc, hcc⟩ := hW.ocell hc
    refine c_invV (vs := [.int (x1 + 1)]) dX11_level_14 oX11_level q897 q895 hcc qs15 (Or.inl rfl) rfl rfl (Nat.le_of_ble_eq_true rfl) rfl hW hF hT ?_ ?_
    · intro _ s1 f2 hT h hW hF
      obtain ⟨a3, rfl, hT⟩ := hT
      refine x_astore_n (lo' := [some (.ref x0), some (.int x1), some (.ref a3), none, none, none, none]) dX11_level_17 rfl (Nat.le_of_ble_eq_true rfl) rfl rfl ?_
      refine x_aload_n dX11_level_18 rfl rfl rfl ?_
      refine x_iload_n dX11_level_19 rfl rfl ?_
      obtain ⟨hc, hT⟩ := hT
      obtain ⟨cc, hcc⟩ := hW.ocell hc
      refine c_invV (vs := [.int x1]) dX11_level_20 oX11_isOf q1113 q1111 hcc qs26 (Or.inl rfl) rfl rfl (Nat.le_of_ble_eq_true rfl) rfl hW hF hT ?_ ?_
      · intro _ s4 f5 hT h hW hF
        obtain ⟨v6, rfl, hT⟩ := hT
        refine x_if_ne (tgt := 28) dX11_level_23 rfl (fun c => ?_) (fun c => ?_)
        · replace hT := hT.1 c
          obtain ⟨hr, hT⟩ := hT
          refine c_newG (k := 23) dX11_level_28 (by decide) q1115 q198 hr hW hF ?_
          intro a7 f8 ea7 ef8 h hW hF
          replace hT := hT a7 f8 ea7 ef8
          refine x_dup dX11_level_31 rfl ?_
          refine c_invI (b := a7) (vs := []) dX11_level_32 oX25_init rfl rfl rfl q1118 (Or.inr ⟨_, q1117⟩) rfl rfl (Nat.le_of_ble_eq_true rfl) rfl hW hF hT ?_ ?_
          · intro _ s9 f10 hT h hW hF
            obtain ⟨rfl, hT⟩ := hT
            refine x_astore_n (lo' := [some (.ref x0), some (.int x1), some (.ref a3), some (.ref a7), none, none, none]) dX11_level_35 rfl (Nat.le_of_ble_eq_true rfl) rfl rfl ?_
            refine x_aload_n dX11_level_36 rfl rfl rfl ?_
            obtain ⟨hc, hT⟩ := hT
            obtain ⟨a11, ev, hT⟩ := hT
            refine c_fgetG dX11_level_37 f_TallySlate_Reader_292 hc (by decide) (by decide) hW ev ?_
            refine x_aload_n dX11_level_40 rfl rfl rfl ?_
            refine x_iconst (v := 0) dX11_level_41 rfl ?_
            refine x_iconst (v := 0) dX11_level_42 rfl ?_
            obtain ⟨hc, hT⟩ := hT
            obtain ⟨cc, hcc⟩ := hW.ocell hc
            refine c_invV (vs := [.ref a3, .int 0, .int 0]) dX11_level_43 oX19_add q992 q991 hcc q993 (Or.inl rfl) rfl rfl (Nat.le_of_ble_eq_true rfl) rfl hW hF hT ?_ ?_
            · intro _ s12 f13 hT h hW hF
              obtain ⟨rfl, hT⟩ := hT
              refine x_iconst (v := 1) dX11_level_46 rfl ?_
              refine x_istore (lo' := [some (.ref x0), some (.int x1), some (.ref a3), some (.ref a7), some (.int 1), none, none]) dX11_level_47 (Nat.le_of_ble_eq_true rfl) rfl ?_
              refine Ex.wkl (lo' := [some (.ref x0), some (.int x1), none, some (.ref a7), some (.int 1), none, none]) ⟨rfl, rfl, rfl, rfl, trivial⟩ ?_
              exact hT f0 h hW hF
            · intro k s12 f13 hT h a hW hx hF
              exact c_out (rfl) hW hx hF hT
          · intro k s9 f10 hT h a hW hx hF
            exact c_out (rfl) hW hx hF hT
        · replace hT := hT.2 c
          refine x_aload_n dX11_level_26 rfl rfl rfl ?_
          exact x_aret dX11_level_27 rfl (by first | exact Or.inl ⟨_, rfl⟩ | exact Or.inr ⟨_, rfl⟩) rfl ⟨_, _, hW, hF, Or.inl ⟨_, rfl, hT⟩⟩
      · intro k s4 f5 hT h a hW hx hF
        exact c_out (rfl) hW hx hF hT
    · intro k s1 f2 hT h a hW hx hF
      exact c_out (rfl) hW hx hF hT
  · replace hT := hT.2 c
    refine x_aload_n dX11_level_5 rfl rfl rfl ?_
    obtain ⟨hc, hT⟩ := hT
    obtain ⟨cc, hcc⟩ := hW.ocell hc
    refine c_invV (vs := []) dX11_level_6 oX11_prefix q901 q899 hcc qs16 (Or.inl rfl) rfl rfl (Nat.le_of_ble_eq_true rfl) rfl hW hF hT ?_ ?_
    · intro _ s17 f18 hT h hW hF
      obtain ⟨a19, rfl, hT⟩ := hT
      exact x_aret dX11_level_9 rfl (by first | exact Or.inl ⟨_, rfl⟩ | exact Or.inr ⟨_, rfl⟩) rfl ⟨_, _, hW, hF, Or.inl ⟨_, rfl, hT⟩⟩
    · intro k s17 f18 hT h a hW hx hF
      exact c_out (rfl) hW hx hF hT
theorem eX11_level {l : Launch} {E : EN} {w : CO} {d : Nat} {s : CS} {f : RH} {Q : KO → CS → RH → Prop} {x0 : Nat} {x1 : Int32}  (hst : l.stackTraces = false) (hT : ((¬ x1 = 4 → (oc f x0 11 ∧ EvC l E w d MX11_level [.ref x0, .int (x1 + 1)] s f (fun o s1 f2 => KP o (fun r => ∃ a3 : Nat, r = some (.ref a3) ∧ (oc f2 x0 11 ∧ EvC l E w d MX11_isOf [.ref x0, .int x1] s1 f2 (fun o s4 f5 => KP o (fun r => ∃ v6 : Int32, r = some (.int v6) ∧ ((¬ v6 = 0 → (rmF E f5 1 2 ∧ ∀ (a7 : Nat) (f8 : RH), a7 = f5.1 → f8 = fnew f5 23 → (EvC l E w d MX25_init [.ref a7] s4 f8 (fun o s9 f10 => KP o (fun r => r = none ∧ (oc f10 a7 23 ∧ (∃ a11 : Nat, vl f10 a7 184 = .ref a11 ∧ (oc f10 a11 17 ∧ EvC l E w d MX19_add [.ref a11, .ref a3, .int 0, .int 0] s9 f10 (fun o s12 f13 => KP o (fun r => r = none ∧ ExC l E w (d + 1) MX11_level 49 [some (.ref x0), some (.int x1), none, some (.ref a7), some (.int 1), none, none] [] s12 f13 Q) (fun k => Q (.inr k) s12 f13)))))) (fun k => Q (.inr k) s9 f10))))) ∧ (v6 = 0 → Q (.inl (some (.ref a3))) s4 f5))) (fun k => Q (.inr k) s4 f5)))) (fun k => Q (.inr k) s1 f2)))) ∧ (x1 = 4 → (oc f x0 11 ∧ EvC l E w d MX11_prefix [.ref x0] s f (fun o s17 f18 => KP o (fun r => ∃ a19 : Nat, r = some (.ref a19) ∧ Q (.inl (some (.ref a19))) s17 f18) (fun k => Q (.inr k) s17 f18)))))) : EvC l E w (d + 1) MX11_level [.ref x0, .int x1] s f Q :=
  EvC.of hst (by decide) (Nat.le_of_ble_eq_true rfl) (vX11_level_0  hT)
set_option maxHeartbeats 16000000 in
theorem vX11_level_49 {l : Launch} {E : EN} {w : CO} {d : Nat} {s : CS} {f : RH} {Q : KO → CS → RH → Prop} {b0 : Nat} {b1 : Int32} {b3 : Nat} {b4 : Int32}  (hT : ((b4 = 0 → Q (.inl (some (.ref b3))) s f) ∧ (¬ b4 = 0 → (oc f b0 11 ∧ (∃ a21 : Nat, vl f b0 147 = .ref a21 ∧ (oc f a21 2 ∧ (∃ v22 : Int32, vl f a21 22 = .int v22 ∧ (oc f b0 11 ∧ (∃ a23 : Nat, vl f b0 147 = .ref a23 ∧ (oc f a23 2 ∧ (∃ v24 : Int32, vl f a23 21 = .int v24 ∧ (oc f b0 11 ∧ (∃ a25 : Nat, vl f b0 147 = .ref a25 ∧ (oc f a25 2 ∧ EvC l E w d MX2_next [.ref a25] s f (fun o s26 f27 => KP o (fun r => r = none ∧ (oc f27 b3 23 ∧ (∃ a28 : Nat, vl f27 b3 184 = .ref a28 ∧ (oc f27 b0 11 ∧ EvC l E w d MX11_level [.ref b0, .int (b1 + 1)] s26 f27 (fun o s29 f30 => KP o (fun r => ∃ a31 : Nat, r = some (.ref a31) ∧ (oc f30 a28 17 ∧ EvC l E w d MX19_add [.ref a28, .ref a31, .int v22, .int v24] s29 f30 (fun o s32 f33 => KP o (fun r => r = none ∧ ((b1 = 1 → ExC l E w (d + 1) MX11_level 49 [some (.ref b0), some (.int b1), none, some (.ref b3), some (.int 0), none, none] [] s32 f33 Q) ∧ (¬ b1 = 1 → (oc f33 b0 11 ∧ EvC l E w d MX11_isOf [.ref b0, .int b1] s32 f33 (fun o s34 f35 => KP o (fun r => ∃ v36 : Int32, r = some (.int v36) ∧ ((v36 = 0 → ExC l E w (d + 1) MX11_level 49 [some (.ref b0), some (.int b1), none, some (.ref b3), some (.int 0), none, none] [] s34 f35 Q) ∧ (¬ v36 = 0 → ExC l E w (d + 1) MX11_level 49 [some (.ref b0), some (.int b1), none, some (.ref b3), some (.int 1), none, none] [] s34 f35 Q))) (fun k => Q (.inr k) s34 f35)))))) (fun k => Q (.inr k) s32 f33)))) (fun k => Q (.inr k) s29 f30)))))) (fun k => Q (.inr k) s26 f27)))))))))))))))) : ExC l E w (d + 1) MX11_level 49 [some (.ref b0), some (.int b1), none, some (.ref b3), some (.int b4), none, none] [] s f Q := by
  intro f0 h hW hF
  refine x_iload dX11_level_49 rfl ?_
  refine x_if_eq (tgt := 120) dX11_level_51 rfl (fun c => ?_) (fun c => ?_)
  · replace hT := hT.1 c
    refine x_aload_n dX11_level_120 rfl rfl rfl ?_
    exact x_aret dX11_level_121 rfl (by first | exact Or.inl ⟨_, rfl⟩ | exact Or.inr ⟨_, rfl⟩) rfl ⟨_, _, hW, hF, Or.inl ⟨_, rfl, hT⟩⟩
  · replace hT := hT.2 c
    refine x_aload_n dX11_level_54 rfl rfl rfl ?_
    obtain ⟨hc, hT⟩ := hT
    obtain ⟨a21, ev, hT⟩ := hT
    refine c_fgetG dX11_level_55 f_TallySlate_Reader_23 hc (by decide) (by decide) hW ev ?_
    obtain ⟨hc, hT⟩ := hT
    obtain ⟨v22, ev, hT⟩ := hT
    refine c_fgetG dX11_level_58 f_TallySlate_Reader_276 hc (by decide) (by decide) hW ev ?_
    refine x_istore (lo' := [some (.ref b0), some (.int b1), none, some (.ref b3), some (.int b4), some (.int v22), none]) dX11_level_61 (Nat.le_of_ble_eq_true rfl) rfl ?_
    refine x_aload_n dX11_level_63 rfl rfl rfl ?_
    obtain ⟨hc, hT⟩ := hT
    obtain ⟨a23, ev, hT⟩ := hT
    refine c_fgetG dX11_level_64 f_TallySlate_Reader_23 hc (by decide) (by decide) hW ev ?_
    obtain ⟨hc, hT⟩ := hT
    obtain ⟨v24, ev, hT⟩ := hT
    refine c_fgetG dX11_level_67 f_TallySlate_Reader_45 hc (by decide) (by decide) hW ev ?_
    refine x_istore (lo' := [some (.ref b0), some (.int b1), none, some (.ref b3), some (.int b4), some (.int v22), some (.int v24)]) dX11_level_70 (Nat.le_of_ble_eq_true rfl) rfl ?_
    refine x_aload_n dX11_level_72 rfl rfl rfl ?_
    obtain ⟨hc, hT⟩ := hT
    obtain ⟨a25, ev, hT⟩ := hT
    refine c_fgetG dX11_level_73 f_TallySlate_Reader_23 hc (by decide) (by decide) hW ev ?_
    obtain ⟨hc, hT⟩ := hT
    obtain ⟨cc, hcc⟩ := hW.ocell hc
    refine c_invV (vs := []) dX11_level_76 oX2_next q610 q609 hcc q611 (Or.inl rfl) rfl rfl (Nat.le_of_ble_eq_true rfl) rfl hW hF hT ?_ ?_
    · intro _ s26 f27 hT h hW hF
      obtain ⟨rfl, hT⟩ := hT
      refine x_aload_n dX11_level_79 rfl rfl rfl ?_
      obtain ⟨hc, hT⟩ := hT
      obtain ⟨a28, ev, hT⟩ := hT
      refine c_fgetG dX11_level_80 f_TallySlate_Reader_292 hc (by decide) (by decide) hW ev ?_
      refine x_aload_n dX11_level_83 rfl rfl rfl ?_
      refine x_iload_n dX11_level_84 rfl rfl ?_
      refine x_iconst (v := 1) dX11_level_85 rfl ?_
      refine x_iadd dX11_level_86 ?_
      obtain ⟨hc, hT⟩ := hT
      obtain ⟨cc, hcc⟩ := hW.ocell hc
      refine c_invV (vs := [.int (b1 + 1)]) dX11_level_87 oX11_level q897 q895 hcc qs15 (Or.inl rfl) rfl rfl (Nat.le_of_ble_eq_true rfl) rfl hW hF hT ?_ ?_
      · intro _ s29 f30 hT h hW hF
        obtain ⟨a31, rfl, hT⟩ := hT
        refine x_iload dX11_level_90 rfl ?_
        refine x_iload dX11_level_92 rfl ?_
        obtain ⟨hc, hT⟩ := hT
        obtain ⟨cc, hcc⟩ := hW.ocell hc
        refine c_invV (vs := [.ref a31, .int v22, .int v24]) dX11_level_94 oX19_add q992 q991 hcc q993 (Or.inl rfl) rfl rfl (Nat.le_of_ble_eq_true rfl) rfl hW hF hT ?_ ?_
        · intro _ s32 f33 hT h hW hF
          obtain ⟨rfl, hT⟩ := hT
          refine x_iload_n dX11_level_97 rfl rfl ?_
          refine x_iconst (v := 1) dX11_level_98 rfl ?_
          refine x_icmp_eq (tgt := 114) dX11_level_99 rfl (fun c => ?_) (fun c => ?_)
          · replace hT := hT.1 c
            refine x_iconst (v := 0) dX11_level_114 rfl ?_
            refine x_istore (lo' := [some (.ref b0), some (.int b1), none, some (.ref b3), some (.int 0), some (.int v22), some (.int v24)]) dX11_level_115 (Nat.le_of_ble_eq_true rfl) rfl ?_
            refine x_goto (tgt := 49) dX11_level_117 rfl ?_
            refine Ex.wkl (lo' := [some (.ref b0), some (.int b1), none, some (.ref b3), some (.int 0), none, none]) ⟨rfl, rfl, rfl, rfl, trivial⟩ ?_
            exact hT f0 h hW hF
          · replace hT := hT.2 c
            refine x_aload_n dX11_level_102 rfl rfl rfl ?_
            refine x_iload_n dX11_level_103 rfl rfl ?_
            obtain ⟨hc, hT⟩ := hT
            obtain ⟨cc, hcc⟩ := hW.ocell hc
            refine c_invV (vs := [.int b1]) dX11_level_104 oX11_isOf q1113 q1111 hcc qs26 (Or.inl rfl) rfl rfl (Nat.le_of_ble_eq_true rfl) rfl hW hF hT ?_ ?_
            · intro _ s34 f35 hT h hW hF
              obtain ⟨v36, rfl, hT⟩ := hT
              refine x_if_eq (tgt := 114) dX11_level_107 rfl (fun c => ?_) (fun c => ?_)
              · replace hT := hT.1 c
                refine x_iconst (v := 0) dX11_level_114 rfl ?_
                refine x_istore (lo' := [some (.ref b0), some (.int b1), none, some (.ref b3), some (.int 0), some (.int v22), some (.int v24)]) dX11_level_115 (Nat.le_of_ble_eq_true rfl) rfl ?_
                refine x_goto (tgt := 49) dX11_level_117 rfl ?_
                refine Ex.wkl (lo' := [some (.ref b0), some (.int b1), none, some (.ref b3), some (.int 0), none, none]) ⟨rfl, rfl, rfl, rfl, trivial⟩ ?_
                exact hT f0 h hW hF
              · replace hT := hT.2 c
                refine x_iconst (v := 1) dX11_level_110 rfl ?_
                refine x_goto (tgt := 115) dX11_level_111 rfl ?_
                refine x_istore (lo' := [some (.ref b0), some (.int b1), none, some (.ref b3), some (.int 1), some (.int v22), some (.int v24)]) dX11_level_115 (Nat.le_of_ble_eq_true rfl) rfl ?_
                refine x_goto (tgt := 49) dX11_level_117 rfl ?_
                refine Ex.wkl (lo' := [some (.ref b0), some (.int b1), none, some (.ref b3), some (.int 1), none, none]) ⟨rfl, rfl, rfl, rfl, trivial⟩ ?_
                exact hT f0 h hW hF
            · intro k s34 f35 hT h a hW hx hF
              exact c_out (rfl) hW hx hF hT
        · intro k s32 f33 hT h a hW hx hF
          exact c_out (rfl) hW hx hF hT
      · intro k s29 f30 hT h a hW hx hF
        exact c_out (rfl) hW hx hF hT
    · intro k s26 f27 hT h a hW hx hF
      exact c_out (rfl) hW hx hF hT
set_option maxHeartbeats 16000000 in
theorem vX11_prefix_0 {l : Launch} {E : EN} {w : CO} {d : Nat} {s : CS} {f : RH} {Q : KO → CS → RH → Prop} {x0 : Nat}  (hT : (oc f x0 11 ∧ (∃ a1 : Nat, vl f x0 147 = .ref a1 ∧ (oc f a1 2 ∧ EvC l E w d MX2_is [.ref a1, .int 45] s f (fun o s2 f3 => KP o (fun r => ∃ v4 : Int32, r = some (.int v4) ∧ ((¬ v4 = 0 → (oc f3 x0 11 ∧ (∃ a5 : Nat, vl f3 x0 147 = .ref a5 ∧ (oc f3 a5 2 ∧ (∃ v6 : Int32, vl f3 a5 21 = .int v6 ∧ (oc f3 x0 11 ∧ (∃ a7 : Nat, vl f3 x0 147 = .ref a7 ∧ (oc f3 a7 2 ∧ EvC l E w d MX2_is [.ref a7, .int 33] s2 f3 (fun o s8 f9 => KP o (fun r => ∃ v10 : Int32, r = some (.int v10) ∧ (oc f9 x0 11 ∧ (∃ a11 : Nat, vl f9 x0 147 = .ref a11 ∧ (oc f9 a11 2 ∧ EvC l E w d MX2_next [.ref a11] s8 f9 (fun o s12 f13 => KP o (fun r => r = none ∧ (rmF E f13 1 3 ∧ ∀ (a14 : Nat) (f15 : RH), a14 = f13.1 → f15 = fnew f13 22 → (oc f15 x0 11 ∧ EvC l E w d MX11_places [.ref x0] s12 f15 (fun o s16 f17 => KP o (fun r => ∃ a18 : Nat, r = some (.ref a18) ∧ (EvC l E w d MX24_init [.ref a14, .ref a18, .int v10] s16 f17 (fun o s19 f20 => KP o (fun r => r = none ∧ (∃ k22 : Nat, oc f20 a14 k22 ∧ 165 ∈ CF k22 ∧ ¬ k22 = 30 ∧ f20.2.2.2 ≤ a14 ∧ ∀ f21 : RH, f21 = fset f20 a14 165 (.int v6) → Q (.inl (some (.ref a14))) s19 f21)) (fun k => Q (.inr k) s19 f20)))) (fun k => Q (.inr k) s16 f17))))) (fun k => Q (.inr k) s12 f13)))))) (fun k => Q (.inr k) s8 f9)))))))))) ∧ (v4 = 0 → (oc f3 x0 11 ∧ (∃ a26 : Nat, vl f3 x0 147 = .ref a26 ∧ (oc f3 a26 2 ∧ EvC l E w d MX2_is [.ref a26, .int 33] s2 f3 (fun o s27 f28 => KP o (fun r => ∃ v29 : Int32, r = some (.int v29) ∧ ((¬ v29 = 0 → (oc f28 x0 11 ∧ (∃ a30 : Nat, vl f28 x0 147 = .ref a30 ∧ (oc f28 a30 2 ∧ (∃ v31 : Int32, vl f28 a30 21 = .int v31 ∧ (oc f28 x0 11 ∧ (∃ a32 : Nat, vl f28 x0 147 = .ref a32 ∧ (oc f28 a32 2 ∧ EvC l E w d MX2_is [.ref a32, .int 33] s27 f28 (fun o s33 f34 => KP o (fun r => ∃ v35 : Int32, r = some (.int v35) ∧ (oc f34 x0 11 ∧ (∃ a36 : Nat, vl f34 x0 147 = .ref a36 ∧ (oc f34 a36 2 ∧ EvC l E w d MX2_next [.ref a36] s33 f34 (fun o s37 f38 => KP o (fun r => r = none ∧ (rmF E f38 1 3 ∧ ∀ (a39 : Nat) (f40 : RH), a39 = f38.1 → f40 = fnew f38 22 → (oc f40 x0 11 ∧ EvC l E w d MX11_places [.ref x0] s37 f40 (fun o s41 f42 => KP o (fun r => ∃ a43 : Nat, r = some (.ref a43) ∧ (EvC l E w d MX24_init [.ref a39, .ref a43, .int v35] s41 f42 (fun o s44 f45 => KP o (fun r => r = none ∧ (∃ k47 : Nat, oc f45 a39 k47 ∧ 165 ∈ CF k47 ∧ ¬ k47 = 30 ∧ f45.2.2.2 ≤ a39 ∧ ∀ f46 : RH, f46 = fset f45 a39 165 (.int v31) → Q (.inl (some (.ref a39))) s44 f46)) (fun k => Q (.inr k) s44 f45)))) (fun k => Q (.inr k) s41 f42))))) (fun k => Q (.inr k) s37 f38)))))) (fun k => Q (.inr k) s33 f34)))))))))) ∧ (v29 = 0 → (oc f28 x0 11 ∧ EvC l E w d MX11_places [.ref x0] s27 f28 (fun o s51 f52 => KP o (fun r => ∃ a53 : Nat, r = some (.ref a53) ∧ Q (.inl (some (.ref a53))) s51 f52) (fun k => Q (.inr k) s51 f52)))))) (fun k => Q (.inr k) s27 f28)))))))) (fun k => Q (.inr k) s2 f3)))))) : ExC l E w (d + 1) MX11_prefix 0 [some (.ref x0), none, none, none] [] s f Q := by
  intro f0 h hW hF
  refine x_aload_n dX11_prefix_0 rfl rfl rfl ?_
  obtain ⟨hc, hT⟩ := hT
  obtain ⟨a1, ev, hT⟩ := hT
  refine c_fgetG dX11_prefix_1 f_TallySlate_Reader_23 hc (by decide) (by decide) hW ev ?_
  refine x_bipush (v := 45) dX11_prefix_4 rfl ?_
  obtain ⟨hc, hT⟩ := hT
  obtain ⟨cc, hcc⟩ := hW.ocell hc
  refine c_invV (vs := [.int 45]) dX11_prefix_6 oX2_is q820 q824 hcc q821 (Or.inl rfl) rfl rfl (Nat.le_of_ble_eq_true rfl) rfl hW hF hT ?_ ?_
  · intro _ s2 f3 hT h hW hF
    obtain ⟨v4, rfl, hT⟩ := hT
    refine x_if_ne (tgt := 29) dX11_prefix_9 rfl (fun c => ?_) (fun c => ?_)
    · replace hT := hT.1 c
      refine x_aload_n dX11_prefix_29 rfl rfl rfl ?_
      obtain ⟨hc, hT⟩ := hT
      obtain ⟨a5, ev, hT⟩ := hT
      refine c_fgetG dX11_prefix_30 f_TallySlate_Reader_23 hc (by decide) (by decide) hW ev ?_
      obtain ⟨hc, hT⟩ := hT
      obtain ⟨v6, ev, hT⟩ := hT
      refine c_fgetG dX11_prefix_33 f_TallySlate_Reader_45 hc (by decide) (by decide) hW ev ?_
      refine x_istore_n (lo' := [some (.ref x0), some (.int v6), none, none]) dX11_prefix_36 rfl (Nat.le_of_ble_eq_true rfl) rfl ?_
      refine x_aload_n dX11_prefix_37 rfl rfl rfl ?_
      obtain ⟨hc, hT⟩ := hT
      obtain ⟨a7, ev, hT⟩ := hT
      refine c_fgetG dX11_prefix_38 f_TallySlate_Reader_23 hc (by decide) (by decide) hW ev ?_
      refine x_bipush (v := 33) dX11_prefix_41 rfl ?_
      obtain ⟨hc, hT⟩ := hT
      obtain ⟨cc, hcc⟩ := hW.ocell hc
      refine c_invV (vs := [.int 33]) dX11_prefix_43 oX2_is q820 q824 hcc q821 (Or.inl rfl) rfl rfl (Nat.le_of_ble_eq_true rfl) rfl hW hF hT ?_ ?_
      · intro _ s8 f9 hT h hW hF
        obtain ⟨v10, rfl, hT⟩ := hT
        refine x_istore_n (lo' := [some (.ref x0), some (.int v6), some (.int v10), none]) dX11_prefix_46 rfl (Nat.le_of_ble_eq_true rfl) rfl ?_
        refine x_aload_n dX11_prefix_47 rfl rfl rfl ?_
        obtain ⟨hc, hT⟩ := hT
        obtain ⟨a11, ev, hT⟩ := hT
        refine c_fgetG dX11_prefix_48 f_TallySlate_Reader_23 hc (by decide) (by decide) hW ev ?_
        obtain ⟨hc, hT⟩ := hT
        obtain ⟨cc, hcc⟩ := hW.ocell hc
        refine c_invV (vs := []) dX11_prefix_51 oX2_next q610 q609 hcc q611 (Or.inl rfl) rfl rfl (Nat.le_of_ble_eq_true rfl) rfl hW hF hT ?_ ?_
        · intro _ s12 f13 hT h hW hF
          obtain ⟨rfl, hT⟩ := hT
          obtain ⟨hr, hT⟩ := hT
          refine c_newG (k := 22) dX11_prefix_54 (by decide) q1097 q197 hr hW hF ?_
          intro a14 f15 ea14 ef15 h hW hF
          replace hT := hT a14 f15 ea14 ef15
          refine x_dup dX11_prefix_57 rfl ?_
          refine x_aload_n dX11_prefix_58 rfl rfl rfl ?_
          obtain ⟨hc, hT⟩ := hT
          obtain ⟨cc, hcc⟩ := hW.ocell hc
          refine c_invV (vs := []) dX11_prefix_59 oX11_places q905 q903 hcc qs17 (Or.inl rfl) rfl rfl (Nat.le_of_ble_eq_true rfl) rfl hW hF hT ?_ ?_
          · intro _ s16 f17 hT h hW hF
            obtain ⟨a18, rfl, hT⟩ := hT
            refine x_iload_n dX11_prefix_62 rfl rfl ?_
            refine c_invI (b := a14) (vs := [.ref a18, .int v10]) dX11_prefix_63 oX24_init rfl rfl rfl q1100 (Or.inl q1099) rfl rfl (Nat.le_of_ble_eq_true rfl) rfl hW hF hT ?_ ?_
            · intro _ s19 f20 hT h hW hF
              obtain ⟨rfl, hT⟩ := hT
              refine x_astore_n (lo' := [some (.ref x0), some (.int v6), some (.int v10), some (.ref a14)]) dX11_prefix_66 rfl (Nat.le_of_ble_eq_true rfl) rfl rfl ?_
              refine x_aload_n dX11_prefix_67 rfl rfl rfl ?_
              refine x_iload_n dX11_prefix_68 rfl rfl ?_
              obtain ⟨k22, hc, hj, h30, hz, hT⟩ := hT
              refine c_fputG dX11_prefix_69 f_TallySlate_Reader_309 hc hj h30 hz (Or.inl rfl) rfl rfl hW hF ?_
              intro f21 ef21 h hW hF
              replace hT := hT f21 ef21
              refine x_aload_n dX11_prefix_72 rfl rfl rfl ?_
              exact x_aret dX11_prefix_73 rfl (by first | exact Or.inl ⟨_, rfl⟩ | exact Or.inr ⟨_, rfl⟩) rfl ⟨_, _, hW, hF, Or.inl ⟨_, rfl, hT⟩⟩
            · intro k s19 f20 hT h a hW hx hF
              exact c_out (rfl) hW hx hF hT
          · intro k s16 f17 hT h a hW hx hF
            exact c_out (rfl) hW hx hF hT
        · intro k s12 f13 hT h a hW hx hF
          exact c_out (rfl) hW hx hF hT
      · intro k s8 f9 hT h a hW hx hF
        exact c_out (rfl) hW hx hF hT
    · replace hT := hT.2 c
      refine x_aload_n dX11_prefix_12 rfl rfl rfl ?_
      obtain ⟨hc, hT⟩ := hT
      obtain ⟨a26, ev, hT⟩ := hT
      refine c_fgetG dX11_prefix_13 f_TallySlate_Reader_23 hc (by decide) (by decide) hW ev ?_
      refine x_bipush (v := 33) dX11_prefix_16 rfl ?_
      obtain ⟨hc, hT⟩ := hT
      obtain ⟨cc, hcc⟩ := hW.ocell hc
      refine c_invV (vs := [.int 33]) dX11_prefix_18 oX2_is q820 q824 hcc q821 (Or.inl rfl) rfl rfl (Nat.le_of_ble_eq_true rfl) rfl hW hF hT ?_ ?_
      · intro _ s27 f28 hT h hW hF
        obtain ⟨v29, rfl, hT⟩ := hT
        refine x_if_ne (tgt := 29) dX11_prefix_21 rfl (fun c => ?_) (fun c => ?_)
        · replace hT := hT.1 c
          refine x_aload_n dX11_prefix_29 rfl rfl rfl ?_
          obtain ⟨hc, hT⟩ := hT
          obtain ⟨a30, ev, hT⟩ := hT
          refine c_fgetG dX11_prefix_30 f_TallySlate_Reader_23 hc (by decide) (by decide) hW ev ?_
          obtain ⟨hc, hT⟩ := hT
          obtain ⟨v31, ev, hT⟩ := hT
          refine c_fgetG dX11_prefix_33 f_TallySlate_Reader_45 hc (by decide) (by decide) hW ev ?_
          refine x_istore_n (lo' := [some (.ref x0), some (.int v31), none, none]) dX11_prefix_36 rfl (Nat.le_of_ble_eq_true rfl) rfl ?_
          refine x_aload_n dX11_prefix_37 rfl rfl rfl ?_
          obtain ⟨hc, hT⟩ := hT
          obtain ⟨a32, ev, hT⟩ := hT
          refine c_fgetG dX11_prefix_38 f_TallySlate_Reader_23 hc (by decide) (by decide) hW ev ?_
          refine x_bipush (v := 33) dX11_prefix_41 rfl ?_
          obtain ⟨hc, hT⟩ := hT
          obtain ⟨cc, hcc⟩ := hW.ocell hc
          refine c_invV (vs := [.int 33]) dX11_prefix_43 oX2_is q820 q824 hcc q821 (Or.inl rfl) rfl rfl (Nat.le_of_ble_eq_true rfl) rfl hW hF hT ?_ ?_
          · intro _ s33 f34 hT h hW hF
            obtain ⟨v35, rfl, hT⟩ := hT
            refine x_istore_n (lo' := [some (.ref x0), some (.int v31), some (.int v35), none]) dX11_prefix_46 rfl (Nat.le_of_ble_eq_true rfl) rfl ?_
            refine x_aload_n dX11_prefix_47 rfl rfl rfl ?_
            obtain ⟨hc, hT⟩ := hT
            obtain ⟨a36, ev, hT⟩ := hT
            refine c_fgetG dX11_prefix_48 f_TallySlate_Reader_23 hc (by decide) (by decide) hW ev ?_
            obtain ⟨hc, hT⟩ := hT
            obtain ⟨cc, hcc⟩ := hW.ocell hc
            refine c_invV (vs := []) dX11_prefix_51 oX2_next q610 q609 hcc q611 (Or.inl rfl) rfl rfl (Nat.le_of_ble_eq_true rfl) rfl hW hF hT ?_ ?_
            · intro _ s37 f38 hT h hW hF
              obtain ⟨rfl, hT⟩ := hT
              obtain ⟨hr, hT⟩ := hT
              refine c_newG (k := 22) dX11_prefix_54 (by decide) q1097 q197 hr hW hF ?_
              intro a39 f40 ea39 ef40 h hW hF
              replace hT := hT a39 f40 ea39 ef40
              refine x_dup dX11_prefix_57 rfl ?_
              refine x_aload_n dX11_prefix_58 rfl rfl rfl ?_
              obtain ⟨hc, hT⟩ := hT
              obtain ⟨cc, hcc⟩ := hW.ocell hc
              refine c_invV (vs := []) dX11_prefix_59 oX11_places q905 q903 hcc qs17 (Or.inl rfl) rfl rfl (Nat.le_of_ble_eq_true rfl) rfl hW hF hT ?_ ?_
              · intro _ s41 f42 hT h hW hF
                obtain ⟨a43, rfl, hT⟩ := hT
                refine x_iload_n dX11_prefix_62 rfl rfl ?_
                refine c_invI (b := a39) (vs := [.ref a43, .int v35]) dX11_prefix_63 oX24_init rfl rfl rfl q1100 (Or.inl q1099) rfl rfl (Nat.le_of_ble_eq_true rfl) rfl hW hF hT ?_ ?_
                · intro _ s44 f45 hT h hW hF
                  obtain ⟨rfl, hT⟩ := hT
                  refine x_astore_n (lo' := [some (.ref x0), some (.int v31), some (.int v35), some (.ref a39)]) dX11_prefix_66 rfl (Nat.le_of_ble_eq_true rfl) rfl rfl ?_
                  refine x_aload_n dX11_prefix_67 rfl rfl rfl ?_
                  refine x_iload_n dX11_prefix_68 rfl rfl ?_
                  obtain ⟨k47, hc, hj, h30, hz, hT⟩ := hT
                  refine c_fputG dX11_prefix_69 f_TallySlate_Reader_309 hc hj h30 hz (Or.inl rfl) rfl rfl hW hF ?_
                  intro f46 ef46 h hW hF
                  replace hT := hT f46 ef46
                  refine x_aload_n dX11_prefix_72 rfl rfl rfl ?_
                  exact x_aret dX11_prefix_73 rfl (by first | exact Or.inl ⟨_, rfl⟩ | exact Or.inr ⟨_, rfl⟩) rfl ⟨_, _, hW, hF, Or.inl ⟨_, rfl, hT⟩⟩
                · intro k s44 f45 hT h a hW hx hF
                  exact c_out (rfl) hW hx hF hT
              · intro k s41 f42 hT h a hW hx hF
                exact c_out (rfl) hW hx hF hT
            · intro k s37 f38 hT h a hW hx hF
              exact c_out (rfl) hW hx hF hT
          · intro k s33 f34 hT h a hW hx hF
            exact c_out (rfl) hW hx hF hT
        · replace hT := hT.2 c
          refine x_aload_n dX11_prefix_24 rfl rfl rfl ?_
          obtain ⟨hc, hT⟩ := hT
          obtain ⟨cc, hcc⟩ := hW.ocell hc
          refine c_invV (vs := []) dX11_prefix_25 oX11_places q905 q903 hcc qs17 (Or.inl rfl) rfl rfl (Nat.le_of_ble_eq_true rfl) rfl hW hF hT ?_ ?_
          · intro _ s51 f52 hT h hW hF
            obtain ⟨a53, rfl, hT⟩ := hT
            exact x_aret dX11_prefix_28 rfl (by first | exact Or.inl ⟨_, rfl⟩ | exact Or.inr ⟨_, rfl⟩) rfl ⟨_, _, hW, hF, Or.inl ⟨_, rfl, hT⟩⟩
          · intro k s51 f52 hT h a hW hx hF
            exact c_out (rfl) hW hx hF hT
      · intro k s27 f28 hT h a hW hx hF
        exact c_out (rfl) hW hx hF hT
  · intro k s2 f3 hT h a hW hx hF
    exact c_out (rfl) hW hx hF hT
theorem eX11_prefix {l : Launch} {E : EN} {w : CO} {d : Nat} {s : CS} {f : RH} {Q : KO → CS → RH → Prop} {x0 : Nat}  (hst : l.stackTraces = false) (hT : (oc f x0 11 ∧ (∃ a1 : Nat, vl f x0 147 = .ref a1 ∧ (oc f a1 2 ∧ EvC l E w d MX2_is [.ref a1, .int 45] s f (fun o s2 f3 => KP o (fun r => ∃ v4 : Int32, r = some (.int v4) ∧ ((¬ v4 = 0 → (oc f3 x0 11 ∧ (∃ a5 : Nat, vl f3 x0 147 = .ref a5 ∧ (oc f3 a5 2 ∧ (∃ v6 : Int32, vl f3 a5 21 = .int v6 ∧ (oc f3 x0 11 ∧ (∃ a7 : Nat, vl f3 x0 147 = .ref a7 ∧ (oc f3 a7 2 ∧ EvC l E w d MX2_is [.ref a7, .int 33] s2 f3 (fun o s8 f9 => KP o (fun r => ∃ v10 : Int32, r = some (.int v10) ∧ (oc f9 x0 11 ∧ (∃ a11 : Nat, vl f9 x0 147 = .ref a11 ∧ (oc f9 a11 2 ∧ EvC l E w d MX2_next [.ref a11] s8 f9 (fun o s12 f13 => KP o (fun r => r = none ∧ (rmF E f13 1 3 ∧ ∀ (a14 : Nat) (f15 : RH), a14 = f13.1 → f15 = fnew f13 22 → (oc f15 x0 11 ∧ EvC l E w d MX11_places [.ref x0] s12 f15 (fun o s16 f17 => KP o (fun r => ∃ a18 : Nat, r = some (.ref a18) ∧ (EvC l E w d MX24_init [.ref a14, .ref a18, .int v10] s16 f17 (fun o s19 f20 => KP o (fun r => r = none ∧ (∃ k22 : Nat, oc f20 a14 k22 ∧ 165 ∈ CF k22 ∧ ¬ k22 = 30 ∧ f20.2.2.2 ≤ a14 ∧ ∀ f21 : RH, f21 = fset f20 a14 165 (.int v6) → Q (.inl (some (.ref a14))) s19 f21)) (fun k => Q (.inr k) s19 f20)))) (fun k => Q (.inr k) s16 f17))))) (fun k => Q (.inr k) s12 f13)))))) (fun k => Q (.inr k) s8 f9)))))))))) ∧ (v4 = 0 → (oc f3 x0 11 ∧ (∃ a26 : Nat, vl f3 x0 147 = .ref a26 ∧ (oc f3 a26 2 ∧ EvC l E w d MX2_is [.ref a26, .int 33] s2 f3 (fun o s27 f28 => KP o (fun r => ∃ v29 : Int32, r = some (.int v29) ∧ ((¬ v29 = 0 → (oc f28 x0 11 ∧ (∃ a30 : Nat, vl f28 x0 147 = .ref a30 ∧ (oc f28 a30 2 ∧ (∃ v31 : Int32, vl f28 a30 21 = .int v31 ∧ (oc f28 x0 11 ∧ (∃ a32 : Nat, vl f28 x0 147 = .ref a32 ∧ (oc f28 a32 2 ∧ EvC l E w d MX2_is [.ref a32, .int 33] s27 f28 (fun o s33 f34 => KP o (fun r => ∃ v35 : Int32, r = some (.int v35) ∧ (oc f34 x0 11 ∧ (∃ a36 : Nat, vl f34 x0 147 = .ref a36 ∧ (oc f34 a36 2 ∧ EvC l E w d MX2_next [.ref a36] s33 f34 (fun o s37 f38 => KP o (fun r => r = none ∧ (rmF E f38 1 3 ∧ ∀ (a39 : Nat) (f40 : RH), a39 = f38.1 → f40 = fnew f38 22 → (oc f40 x0 11 ∧ EvC l E w d MX11_places [.ref x0] s37 f40 (fun o s41 f42 => KP o (fun r => ∃ a43 : Nat, r = some (.ref a43) ∧ (EvC l E w d MX24_init [.ref a39, .ref a43, .int v35] s41 f42 (fun o s44 f45 => KP o (fun r => r = none ∧ (∃ k47 : Nat, oc f45 a39 k47 ∧ 165 ∈ CF k47 ∧ ¬ k47 = 30 ∧ f45.2.2.2 ≤ a39 ∧ ∀ f46 : RH, f46 = fset f45 a39 165 (.int v31) → Q (.inl (some (.ref a39))) s44 f46)) (fun k => Q (.inr k) s44 f45)))) (fun k => Q (.inr k) s41 f42))))) (fun k => Q (.inr k) s37 f38)))))) (fun k => Q (.inr k) s33 f34)))))))))) ∧ (v29 = 0 → (oc f28 x0 11 ∧ EvC l E w d MX11_places [.ref x0] s27 f28 (fun o s51 f52 => KP o (fun r => ∃ a53 : Nat, r = some (.ref a53) ∧ Q (.inl (some (.ref a53))) s51 f52) (fun k => Q (.inr k) s51 f52)))))) (fun k => Q (.inr k) s27 f28)))))))) (fun k => Q (.inr k) s2 f3)))))) : EvC l E w (d + 1) MX11_prefix [.ref x0] s f Q :=
  EvC.of hst (by decide) (Nat.le_of_ble_eq_true rfl) (vX11_prefix_0  hT)
theorem vX11_places_0 {l : Launch} {E : EN} {w : CO} {d : Nat} {s : CS} {f : RH} {Q : KO → CS → RH → Prop} {x0 : Nat}  (hT : (oc f x0 11 ∧ EvC l E w d MX11_atom [.ref x0] s f (fun o s1 f2 => KP o (fun r => ∃ a3 : Nat, r = some (.ref a3) ∧ (oc f2 x0 11 ∧ (∃ a4 : Nat, vl f2 x0 147 = .ref a4 ∧ (oc f2 a4 2 ∧ EvC l E w d MX2_is [.ref a4, .int 91] s1 f2 (fun o s5 f6 => KP o (fun r => ∃ v7 : Int32, r = some (.int v7) ∧ ((¬ v7 = 0 → (rmF E f6 1 2 ∧ ∀ (a8 : Nat) (f9 : RH), a8 = f6.1 → f9 = fnew f6 21 → (EvC l E w d MX23_init [.ref a8] s5 f9 (fun o s10 f11 => KP o (fun r => r = none ∧ (oc f11 a8 21 ∧ (∃ a12 : Nat, vl f11 a8 181 = .ref a12 ∧ (oc f11 a12 17 ∧ EvC l E w d MX19_add [.ref a12, .ref a3, .int 0, .int 0] s10 f11 (fun o s13 f14 => KP o (fun r => r = none ∧ ExC l E w (d + 1) MX11_places 37 [some (.ref x0), none, some (.ref a8), none] [] s13 f14 Q) (fun k => Q (.inr k) s13 f14)))))) (fun k => Q (.inr k) s10 f11))))) ∧ (v7 = 0 → Q (.inl (some (.ref a3))) s5 f6))) (fun k => Q (.inr k) s5 f6)))))) (fun k => Q (.inr k) s1 f2)))) : ExC l E w (d + 1) MX11_places 0 [some (.ref x0), none, none, none] [] s f Q := by
  intro f0 h hW hF
  refine x_aload_n dX11_places_0 rfl rfl rfl ?_
  obtain ⟨hc, hT⟩ := hT
  obtain ⟨cc, hcc⟩ := hW.ocell hc
  refine c_invV (vs := []) dX11_places_1 oX11_atom q909 q907 hcc qs18 (Or.inl rfl) rfl rfl (Nat.le_of_ble_eq_true rfl) rfl hW hF hT ?_ ?_
  · intro _ s1 f2 hT h hW hF
    obtain ⟨a3, rfl, hT⟩ := hT
    refine x_astore_n (lo' := [some (.ref x0), some (.ref a3), none, none]) dX11_places_4 rfl (Nat.le_of_ble_eq_true rfl) rfl rfl ?_
    refine x_aload_n dX11_places_5 rfl rfl rfl ?_
    obtain ⟨hc, hT⟩ := hT
    obtain ⟨a4, ev, hT⟩ := hT
    refine c_fgetG dX11_places_6 f_TallySlate_Reader_23 hc (by decide) (by decide) hW ev ?_
    refine x_bipush (v := 91) dX11_places_9 rfl ?_
    obtain ⟨hc, hT⟩ := hT
    obtain ⟨cc, hcc⟩ := hW.ocell hc
    refine c_invV (vs := [.int 91]) dX11_places_11 oX2_is q820 q824 hcc q821 (Or.inl rfl) rfl rfl (Nat.le_of_ble_eq_true rfl) rfl hW hF hT ?_ ?_
    · intro _ s5 f6 hT h hW hF
      obtain ⟨v7, rfl, hT⟩ := hT
      refine x_if_ne (tgt := 19) dX11_places_14 rfl (fun c => ?_) (fun c => ?_)
      · replace hT := hT.1 c
        obtain ⟨hr, hT⟩ := hT
        refine c_newG (k := 21) dX11_places_19 (by decide) q1083 q196 hr hW hF ?_
        intro a8 f9 ea8 ef9 h hW hF
        replace hT := hT a8 f9 ea8 ef9
        refine x_dup dX11_places_22 rfl ?_
        refine c_invI (b := a8) (vs := []) dX11_places_23 oX23_init rfl rfl rfl q1086 (Or.inr ⟨_, q1085⟩) rfl rfl (Nat.le_of_ble_eq_true rfl) rfl hW hF hT ?_ ?_
        · intro _ s10 f11 hT h hW hF
          obtain ⟨rfl, hT⟩ := hT
          refine x_astore_n (lo' := [some (.ref x0), some (.ref a3), some (.ref a8), none]) dX11_places_26 rfl (Nat.le_of_ble_eq_true rfl) rfl rfl ?_
          refine x_aload_n dX11_places_27 rfl rfl rfl ?_
          obtain ⟨hc, hT⟩ := hT
          obtain ⟨a12, ev, hT⟩ := hT
          refine c_fgetG dX11_places_28 f_TallySlate_Reader_316 hc (by decide) (by decide) hW ev ?_
          refine x_aload_n dX11_places_31 rfl rfl rfl ?_
          refine x_iconst (v := 0) dX11_places_32 rfl ?_
          refine x_iconst (v := 0) dX11_places_33 rfl ?_
          obtain ⟨hc, hT⟩ := hT
          obtain ⟨cc, hcc⟩ := hW.ocell hc
          refine c_invV (vs := [.ref a3, .int 0, .int 0]) dX11_places_34 oX19_add q992 q991 hcc q993 (Or.inl rfl) rfl rfl (Nat.le_of_ble_eq_true rfl) rfl hW hF hT ?_ ?_
          · intro _ s13 f14 hT h hW hF
            obtain ⟨rfl, hT⟩ := hT
            refine Ex.wkl (lo' := [some (.ref x0), none, some (.ref a8), none]) ⟨rfl, rfl, trivial⟩ ?_
            exact hT f0 h hW hF
          · intro k s13 f14 hT h a hW hx hF
            exact c_out (rfl) hW hx hF hT
        · intro k s10 f11 hT h a hW hx hF
          exact c_out (rfl) hW hx hF hT
      · replace hT := hT.2 c
        refine x_aload_n dX11_places_17 rfl rfl rfl ?_
        exact x_aret dX11_places_18 rfl (by first | exact Or.inl ⟨_, rfl⟩ | exact Or.inr ⟨_, rfl⟩) rfl ⟨_, _, hW, hF, Or.inl ⟨_, rfl, hT⟩⟩
    · intro k s5 f6 hT h a hW hx hF
      exact c_out (rfl) hW hx hF hT
  · intro k s1 f2 hT h a hW hx hF
    exact c_out (rfl) hW hx hF hT
theorem eX11_places {l : Launch} {E : EN} {w : CO} {d : Nat} {s : CS} {f : RH} {Q : KO → CS → RH → Prop} {x0 : Nat}  (hst : l.stackTraces = false) (hT : (oc f x0 11 ∧ EvC l E w d MX11_atom [.ref x0] s f (fun o s1 f2 => KP o (fun r => ∃ a3 : Nat, r = some (.ref a3) ∧ (oc f2 x0 11 ∧ (∃ a4 : Nat, vl f2 x0 147 = .ref a4 ∧ (oc f2 a4 2 ∧ EvC l E w d MX2_is [.ref a4, .int 91] s1 f2 (fun o s5 f6 => KP o (fun r => ∃ v7 : Int32, r = some (.int v7) ∧ ((¬ v7 = 0 → (rmF E f6 1 2 ∧ ∀ (a8 : Nat) (f9 : RH), a8 = f6.1 → f9 = fnew f6 21 → (EvC l E w d MX23_init [.ref a8] s5 f9 (fun o s10 f11 => KP o (fun r => r = none ∧ (oc f11 a8 21 ∧ (∃ a12 : Nat, vl f11 a8 181 = .ref a12 ∧ (oc f11 a12 17 ∧ EvC l E w d MX19_add [.ref a12, .ref a3, .int 0, .int 0] s10 f11 (fun o s13 f14 => KP o (fun r => r = none ∧ ExC l E w (d + 1) MX11_places 37 [some (.ref x0), none, some (.ref a8), none] [] s13 f14 Q) (fun k => Q (.inr k) s13 f14)))))) (fun k => Q (.inr k) s10 f11))))) ∧ (v7 = 0 → Q (.inl (some (.ref a3))) s5 f6))) (fun k => Q (.inr k) s5 f6)))))) (fun k => Q (.inr k) s1 f2)))) : EvC l E w (d + 1) MX11_places [.ref x0] s f Q :=
  EvC.of hst (by decide) (Nat.le_of_ble_eq_true rfl) (vX11_places_0  hT)
set_option maxHeartbeats 16000000 in
theorem vX11_places_37 {l : Launch} {E : EN} {w : CO} {d : Nat} {s : CS} {f : RH} {Q : KO → CS → RH → Prop} {b0 : Nat} {b2 : Nat}  (hT : (oc f b0 11 ∧ (∃ a18 : Nat, vl f b0 147 = .ref a18 ∧ (oc f a18 2 ∧ EvC l E w d MX2_is [.ref a18, .int 91] s f (fun o s19 f20 => KP o (fun r => ∃ v21 : Int32, r = some (.int v21) ∧ ((v21 = 0 → Q (.inl (some (.ref b2))) s19 f20) ∧ (¬ v21 = 0 → (oc f20 b0 11 ∧ (∃ a22 : Nat, vl f20 b0 147 = .ref a22 ∧ (oc f20 a22 2 ∧ (∃ v23 : Int32, vl f20 a22 21 = .int v23 ∧ (oc f20 b0 11 ∧ (∃ a24 : Nat, vl f20 b0 147 = .ref a24 ∧ (oc f20 a24 2 ∧ EvC l E w d MX2_take [.ref a24, .int 91] s19 f20 (fun o s25 f26 => KP o (fun r => r = none ∧ (oc f26 b2 21 ∧ (∃ a27 : Nat, vl f26 b2 181 = .ref a27 ∧ (oc f26 b0 11 ∧ EvC l E w d MX11_expression [.ref b0] s25 f26 (fun o s28 f29 => KP o (fun r => ∃ a30 : Nat, r = some (.ref a30) ∧ (oc f29 a27 17 ∧ EvC l E w d MX19_add [.ref a27, .ref a30, .int 0, .int v23] s28 f29 (fun o s31 f32 => KP o (fun r => r = none ∧ (oc f32 b0 11 ∧ (∃ a33 : Nat, vl f32 b0 147 = .ref a33 ∧ (oc f32 a33 2 ∧ EvC l E w d MX2_take [.ref a33, .int 93] s31 f32 (fun o s34 f35 => KP o (fun r => r = none ∧ ExC l E w (d + 1) MX11_places 37 [some (.ref b0), none, some (.ref b2), none] [] s34 f35 Q) (fun k => Q (.inr k) s34 f35)))))) (fun k => Q (.inr k) s31 f32)))) (fun k => Q (.inr k) s28 f29)))))) (fun k => Q (.inr k) s25 f26)))))))))))) (fun k => Q (.inr k) s19 f20)))))) : ExC l E w (d + 1) MX11_places 37 [some (.ref b0), none, some (.ref b2), none] [] s f Q := by
  intro f0 h hW hF
  refine x_aload_n dX11_places_37 rfl rfl rfl ?_
  obtain ⟨hc, hT⟩ := hT
  obtain ⟨a18, ev, hT⟩ := hT
  refine c_fgetG dX11_places_38 f_TallySlate_Reader_23 hc (by decide) (by decide) hW ev ?_
  refine x_bipush (v := 91) dX11_places_41 rfl ?_
  obtain ⟨hc, hT⟩ := hT
  obtain ⟨cc, hcc⟩ := hW.ocell hc
  refine c_invV (vs := [.int 91]) dX11_places_43 oX2_is q820 q824 hcc q821 (Or.inl rfl) rfl rfl (Nat.le_of_ble_eq_true rfl) rfl hW hF hT ?_ ?_
  · intro _ s19 f20 hT h hW hF
    obtain ⟨v21, rfl, hT⟩ := hT
    refine x_if_eq (tgt := 91) dX11_places_46 rfl (fun c => ?_) (fun c => ?_)
    · replace hT := hT.1 c
      refine x_aload_n dX11_places_91 rfl rfl rfl ?_
      exact x_aret dX11_places_92 rfl (by first | exact Or.inl ⟨_, rfl⟩ | exact Or.inr ⟨_, rfl⟩) rfl ⟨_, _, hW, hF, Or.inl ⟨_, rfl, hT⟩⟩
    · replace hT := hT.2 c
      refine x_aload_n dX11_places_49 rfl rfl rfl ?_
      obtain ⟨hc, hT⟩ := hT
      obtain ⟨a22, ev, hT⟩ := hT
      refine c_fgetG dX11_places_50 f_TallySlate_Reader_23 hc (by decide) (by decide) hW ev ?_
      obtain ⟨hc, hT⟩ := hT
      obtain ⟨v23, ev, hT⟩ := hT
      refine c_fgetG dX11_places_53 f_TallySlate_Reader_45 hc (by decide) (by decide) hW ev ?_
      refine x_istore_n (lo' := [some (.ref b0), none, some (.ref b2), some (.int v23)]) dX11_places_56 rfl (Nat.le_of_ble_eq_true rfl) rfl ?_
      refine x_aload_n dX11_places_57 rfl rfl rfl ?_
      obtain ⟨hc, hT⟩ := hT
      obtain ⟨a24, ev, hT⟩ := hT
      refine c_fgetG dX11_places_58 f_TallySlate_Reader_23 hc (by decide) (by decide) hW ev ?_
      refine x_bipush (v := 91) dX11_places_61 rfl ?_
      obtain ⟨hc, hT⟩ := hT
      obtain ⟨cc, hcc⟩ := hW.ocell hc
      refine c_invV (vs := [.int 91]) dX11_places_63 oX2_take q816 q815 hcc q817 (Or.inl rfl) rfl rfl (Nat.le_of_ble_eq_true rfl) rfl hW hF hT ?_ ?_
      · intro _ s25 f26 hT h hW hF
        obtain ⟨rfl, hT⟩ := hT
        refine x_aload_n dX11_places_66 rfl rfl rfl ?_
        obtain ⟨hc, hT⟩ := hT
        obtain ⟨a27, ev, hT⟩ := hT
        refine c_fgetG dX11_places_67 f_TallySlate_Reader_316 hc (by decide) (by decide) hW ev ?_
        refine x_aload_n dX11_places_70 rfl rfl rfl ?_
        obtain ⟨hc, hT⟩ := hT
        obtain ⟨cc, hcc⟩ := hW.ocell hc
        refine c_invV (vs := []) dX11_places_71 oX11_expression q893 q891 hcc qs14 (Or.inl rfl) rfl rfl (Nat.le_of_ble_eq_true rfl) rfl hW hF hT ?_ ?_
        · intro _ s28 f29 hT h hW hF
          obtain ⟨a30, rfl, hT⟩ := hT
          refine x_iconst (v := 0) dX11_places_74 rfl ?_
          refine x_iload_n dX11_places_75 rfl rfl ?_
          obtain ⟨hc, hT⟩ := hT
          obtain ⟨cc, hcc⟩ := hW.ocell hc
          refine c_invV (vs := [.ref a30, .int 0, .int v23]) dX11_places_76 oX19_add q992 q991 hcc q993 (Or.inl rfl) rfl rfl (Nat.le_of_ble_eq_true rfl) rfl hW hF hT ?_ ?_
          · intro _ s31 f32 hT h hW hF
            obtain ⟨rfl, hT⟩ := hT
            refine x_aload_n dX11_places_79 rfl rfl rfl ?_
            obtain ⟨hc, hT⟩ := hT
            obtain ⟨a33, ev, hT⟩ := hT
            refine c_fgetG dX11_places_80 f_TallySlate_Reader_23 hc (by decide) (by decide) hW ev ?_
            refine x_bipush (v := 93) dX11_places_83 rfl ?_
            obtain ⟨hc, hT⟩ := hT
            obtain ⟨cc, hcc⟩ := hW.ocell hc
            refine c_invV (vs := [.int 93]) dX11_places_85 oX2_take q816 q815 hcc q817 (Or.inl rfl) rfl rfl (Nat.le_of_ble_eq_true rfl) rfl hW hF hT ?_ ?_
            · intro _ s34 f35 hT h hW hF
              obtain ⟨rfl, hT⟩ := hT
              refine x_goto (tgt := 37) dX11_places_88 rfl ?_
              refine Ex.wkl (lo' := [some (.ref b0), none, some (.ref b2), none]) ⟨rfl, rfl, trivial⟩ ?_
              exact hT f0 h hW hF
            · intro k s34 f35 hT h a hW hx hF
              exact c_out (rfl) hW hx hF hT
          · intro k s31 f32 hT h a hW hx hF
            exact c_out (rfl) hW hx hF hT
        · intro k s28 f29 hT h a hW hx hF
          exact c_out (rfl) hW hx hF hT
      · intro k s25 f26 hT h a hW hx hF
        exact c_out (rfl) hW hx hF hT
  · intro k s19 f20 hT h a hW hx hF
    exact c_out (rfl) hW hx hF hT
set_option maxHeartbeats 16000000 in
theorem vX11_atom_0 {l : Launch} {E : EN} {w : CO} {d : Nat} {s : CS} {f : RH} {Q : KO → CS → RH → Prop} {x0 : Nat}  (hT : (oc f x0 11 ∧ (∃ a1 : Nat, vl f x0 147 = .ref a1 ∧ (oc f a1 2 ∧ (∃ v2 : Int32, vl f a1 21 = .int v2 ∧ (oc f x0 11 ∧ (∃ a3 : Nat, vl f x0 147 = .ref a3 ∧ (oc f a3 2 ∧ (∃ v4 : Int32, vl f a3 20 = .int v4 ∧ ((¬ v4 = 2 → (oc f x0 11 ∧ (∃ a5 : Nat, vl f x0 147 = .ref a5 ∧ (oc f a5 2 ∧ EvC l E w d MX2_is [.ref a5, .int 40] s f (fun o s6 f7 => KP o (fun r => ∃ v8 : Int32, r = some (.int v8) ∧ ((v8 = 0 → (oc f7 x0 11 ∧ (∃ a9 : Nat, vl f7 x0 147 = .ref a9 ∧ (oc f7 a9 2 ∧ EvC l E w d MX2_is [.ref a9, .int 91] s6 f7 (fun o s10 f11 => KP o (fun r => ∃ v12 : Int32, r = some (.int v12) ∧ ((v12 = 0 → (oc f11 x0 11 ∧ (∃ a13 : Nat, vl f11 x0 147 = .ref a13 ∧ (oc f11 a13 2 ∧ (∃ v14 : Int32, vl f11 a13 20 = .int v14 ∧ ((¬ v14 = 1 → (rmF E f11 1 2 ∧ ∀ (a15 : Nat) (f16 : RH), a15 = f11.1 → f16 = fnew f11 20 → (oc f16 x0 11 ∧ EvC l E w d MX11_name [.ref x0] s10 f16 (fun o s17 f18 => KP o (fun r => ∃ v19 : Int32, r = some (.int v19) ∧ (EvC l E w d MX22_init [.ref a15, .int v19] s17 f18 (fun o s20 f21 => KP o (fun r => r = none ∧ (∃ k23 : Nat, oc f21 a15 k23 ∧ 165 ∈ CF k23 ∧ ¬ k23 = 30 ∧ f21.2.2.2 ≤ a15 ∧ ∀ f22 : RH, f22 = fset f21 a15 165 (.int v2) → Q (.inl (some (.ref a15))) s20 f22)) (fun k => Q (.inr k) s20 f21)))) (fun k => Q (.inr k) s17 f18))))) ∧ (v14 = 1 → (oc f11 x0 11 ∧ EvC l E w d MX11_builtIn [.ref x0] s10 f11 (fun o s25 f26 => KP o (fun r => ∃ v27 : Int32, r = some (.int v27) ∧ ((0 ≤ v27 → (oc f26 x0 11 ∧ EvC l E w d MX11_call [.ref x0] s25 f26 (fun o s28 f29 => KP o (fun r => ∃ a30 : Nat, r = some (.ref a30) ∧ Q (.inl (some (.ref a30))) s28 f29) (fun k => Q (.inr k) s28 f29)))) ∧ (¬ 0 ≤ v27 → (oc f26 x0 11 ∧ EvC l E w d MX11_isReserved [.ref x0] s25 f26 (fun o s32 f33 => KP o (fun r => ∃ v34 : Int32, r = some (.int v34) ∧ ((¬ v34 = 0 → (rmF E f33 1 2 ∧ ∀ (a35 : Nat) (f36 : RH), a35 = f33.1 → f36 = fnew f33 20 → (oc f36 x0 11 ∧ EvC l E w d MX11_name [.ref x0] s32 f36 (fun o s37 f38 => KP o (fun r => ∃ v39 : Int32, r = some (.int v39) ∧ (EvC l E w d MX22_init [.ref a35, .int v39] s37 f38 (fun o s40 f41 => KP o (fun r => r = none ∧ (∃ k43 : Nat, oc f41 a35 k43 ∧ 165 ∈ CF k43 ∧ ¬ k43 = 30 ∧ f41.2.2.2 ≤ a35 ∧ ∀ f42 : RH, f42 = fset f41 a35 165 (.int v2) → Q (.inl (some (.ref a35))) s40 f42)) (fun k => Q (.inr k) s40 f41)))) (fun k => Q (.inr k) s37 f38))))) ∧ (v34 = 0 → (oc f33 x0 11 ∧ (∃ a45 : Nat, vl f33 x0 147 = .ref a45 ∧ (oc f33 a45 2 ∧ EvC l E w d MX2_isCalled [.ref a45] s32 f33 (fun o s46 f47 => KP o (fun r => ∃ v48 : Int32, r = some (.int v48) ∧ ((v48 = 0 → (rmF E f47 1 2 ∧ ∀ (a49 : Nat) (f50 : RH), a49 = f47.1 → f50 = fnew f47 20 → (oc f50 x0 11 ∧ EvC l E w d MX11_name [.ref x0] s46 f50 (fun o s51 f52 => KP o (fun r => ∃ v53 : Int32, r = some (.int v53) ∧ (EvC l E w d MX22_init [.ref a49, .int v53] s51 f52 (fun o s54 f55 => KP o (fun r => r = none ∧ (∃ k57 : Nat, oc f55 a49 k57 ∧ 165 ∈ CF k57 ∧ ¬ k57 = 30 ∧ f55.2.2.2 ≤ a49 ∧ ∀ f56 : RH, f56 = fset f55 a49 165 (.int v2) → Q (.inl (some (.ref a49))) s54 f56)) (fun k => Q (.inr k) s54 f55)))) (fun k => Q (.inr k) s51 f52))))) ∧ (¬ v48 = 0 → (oc f47 x0 11 ∧ EvC l E w d MX11_call [.ref x0] s46 f47 (fun o s59 f60 => KP o (fun r => ∃ a61 : Nat, r = some (.ref a61) ∧ Q (.inl (some (.ref a61))) s59 f60) (fun k => Q (.inr k) s59 f60)))))) (fun k => Q (.inr k) s46 f47)))))))) (fun k => Q (.inr k) s32 f33)))))) (fun k => Q (.inr k) s25 f26)))))))))) ∧ (¬ v12 = 0 → (oc f11 x0 11 ∧ EvC l E w d MX11_literal [.ref x0] s10 f11 (fun o s66 f67 => KP o (fun r => ∃ a68 : Nat, r = some (.ref a68) ∧ (∃ k70 : Nat, oc f67 a68 k70 ∧ 165 ∈ CF k70 ∧ ¬ k70 = 30 ∧ f67.2.2.2 ≤ a68 ∧ ∀ f69 : RH, f69 = fset f67 a68 165 (.int v2) → Q (.inl (some (.ref a68))) s66 f69)) (fun k => Q (.inr k) s66 f67)))))) (fun k => Q (.inr k) s10 f11)))))) ∧ (¬ v8 = 0 → (oc f7 x0 11 ∧ (∃ a73 : Nat, vl f7 x0 147 = .ref a73 ∧ (oc f7 a73 2 ∧ EvC l E w d MX2_take [.ref a73, .int 40] s6 f7 (fun o s74 f75 => KP o (fun r => r = none ∧ (oc f75 x0 11 ∧ EvC l E w d MX11_expression [.ref x0] s74 f75 (fun o s76 f77 => KP o (fun r => ∃ a78 : Nat, r = some (.ref a78) ∧ (oc f77 x0 11 ∧ (∃ a79 : Nat, vl f77 x0 147 = .ref a79 ∧ (oc f77 a79 2 ∧ EvC l E w d MX2_take [.ref a79, .int 41] s76 f77 (fun o s80 f81 => KP o (fun r => r = none ∧ Q (.inl (some (.ref a78))) s80 f81) (fun k => Q (.inr k) s80 f81)))))) (fun k => Q (.inr k) s76 f77)))) (fun k => Q (.inr k) s74 f75)))))))) (fun k => Q (.inr k) s6 f7)))))) ∧ (v4 = 2 → (rmF E f 1 2 ∧ ∀ (a86 : Nat) (f87 : RH), a86 = f.1 → f87 = fnew f 15 → (oc f87 x0 11 ∧ (∃ a88 : Nat, vl f87 x0 147 = .ref a88 ∧ (oc f87 a88 2 ∧ (∃ v89 : Int32, vl f87 a88 22 = .int v89 ∧ (EvC l E w d MX17_init [.ref a86, .int v89] s f87 (fun o s90 f91 => KP o (fun r => r = none ∧ (oc f91 x0 11 ∧ (∃ a92 : Nat, vl f91 x0 147 = .ref a92 ∧ (oc f91 a92 2 ∧ EvC l E w d MX2_next [.ref a92] s90 f91 (fun o s93 f94 => KP o (fun r => r = none ∧ (∃ k96 : Nat, oc f94 a86 k96 ∧ 165 ∈ CF k96 ∧ ¬ k96 = 30 ∧ f94.2.2.2 ≤ a86 ∧ ∀ f95 : RH, f95 = fset f94 a86 165 (.int v2) → Q (.inl (some (.ref a86))) s93 f95)) (fun k => Q (.inr k) s93 f94)))))) (fun k => Q (.inr k) s90 f91))))))))))))))))))) : ExC l E w (d + 1) MX11_atom 0 [some (.ref x0), none, none] [] s f Q := by
  intro f0 h hW hF
  refine x_aload_n dX11_atom_0 rfl rfl rfl ?_
  obtain ⟨hc, hT⟩ := hT
  obtain ⟨a1, ev, hT⟩ := hT
  refine c_fgetG dX11_atom_1 f_TallySlate_Reader_23 hc (by decide) (by decide) hW ev ?_
  obtain ⟨hc, hT⟩ := hT
  obtain ⟨v2, ev, hT⟩ := hT
  refine c_fgetG dX11_atom_4 f_TallySlate_Reader_45 hc (by decide) (by decide) hW ev ?_
  refine x_istore_n (lo' := [some (.ref x0), some (.int v2), none]) dX11_atom_7 rfl (Nat.le_of_ble_eq_true rfl) rfl ?_
  refine x_aload_n dX11_atom_8 rfl rfl rfl ?_
  obtain ⟨hc, hT⟩ := hT
  obtain ⟨a3, ev, hT⟩ := hT
  refine c_fgetG dX11_atom_9 f_TallySlate_Reader_23 hc (by decide) (by decide) hW ev ?_
  obtain ⟨hc, hT⟩ := hT
  obtain ⟨v4, ev, hT⟩ := hT
  refine c_fgetG dX11_atom_12 f_TallySlate_Reader_41 hc (by decide) (by decide) hW ev ?_
  refine x_iconst (v := 2) dX11_atom_15 rfl ?_
  refine x_icmp_ne (tgt := 44) dX11_atom_16 rfl (fun c => ?_) (fun c => ?_)
  · replace hT := hT.1 c
    refine x_aload_n dX11_atom_44 rfl rfl rfl ?_
    obtain ⟨hc, hT⟩ := hT
    obtain ⟨a5, ev, hT⟩ := hT
    refine c_fgetG dX11_atom_45 f_TallySlate_Reader_23 hc (by decide) (by decide) hW ev ?_
    refine x_bipush (v := 40) dX11_atom_48 rfl ?_
    obtain ⟨hc, hT⟩ := hT
    obtain ⟨cc, hcc⟩ := hW.ocell hc
    refine c_invV (vs := [.int 40]) dX11_atom_50 oX2_is q820 q824 hcc q821 (Or.inl rfl) rfl rfl (Nat.le_of_ble_eq_true rfl) rfl hW hF hT ?_ ?_
    · intro _ s6 f7 hT h hW hF
      obtain ⟨v8, rfl, hT⟩ := hT
      refine x_if_eq (tgt := 81) dX11_atom_53 rfl (fun c => ?_) (fun c => ?_)
      · replace hT := hT.1 c
        refine x_aload_n dX11_atom_81 rfl rfl rfl ?_
        obtain ⟨hc, hT⟩ := hT
        obtain ⟨a9, ev, hT⟩ := hT
        refine c_fgetG dX11_atom_82 f_TallySlate_Reader_23 hc (by decide) (by decide) hW ev ?_
        refine x_bipush (v := 91) dX11_atom_85 rfl ?_
        obtain ⟨hc, hT⟩ := hT
        obtain ⟨cc, hcc⟩ := hW.ocell hc
        refine c_invV (vs := [.int 91]) dX11_atom_87 oX2_is q820 q824 hcc q821 (Or.inl rfl) rfl rfl (Nat.le_of_ble_eq_true rfl) rfl hW hF hT ?_ ?_
        · intro _ s10 f11 hT h hW hF
          obtain ⟨v12, rfl, hT⟩ := hT
          refine x_if_eq (tgt := 101) dX11_atom_90 rfl (fun c => ?_) (fun c => ?_)
          · replace hT := hT.1 c
            refine x_aload_n dX11_atom_101 rfl rfl rfl ?_
            obtain ⟨hc, hT⟩ := hT
            obtain ⟨a13, ev, hT⟩ := hT
            refine c_fgetG dX11_atom_102 f_TallySlate_Reader_23 hc (by decide) (by decide) hW ev ?_
            obtain ⟨hc, hT⟩ := hT
            obtain ⟨v14, ev, hT⟩ := hT
            refine c_fgetG dX11_atom_105 f_TallySlate_Reader_41 hc (by decide) (by decide) hW ev ?_
            refine x_iconst (v := 1) dX11_atom_108 rfl ?_
            refine x_icmp_ne (tgt := 141) dX11_atom_109 rfl (fun c => ?_) (fun c => ?_)
            · replace hT := hT.1 c
              obtain ⟨hr, hT⟩ := hT
              refine c_newG (k := 20) dX11_atom_141 (by decide) q1067 q195 hr hW hF ?_
              intro a15 f16 ea15 ef16 h hW hF
              replace hT := hT a15 f16 ea15 ef16
              refine x_dup dX11_atom_144 rfl ?_
              refine x_aload_n dX11_atom_145 rfl rfl rfl ?_
              obtain ⟨hc, hT⟩ := hT
              obtain ⟨cc, hcc⟩ := hW.ocell hc
              refine c_invV (vs := []) dX11_atom_146 oX11_name q1071 q1069 hcc qs25 (Or.inl rfl) rfl rfl (Nat.le_of_ble_eq_true rfl) rfl hW hF hT ?_ ?_
              · intro _ s17 f18 hT h hW hF
                obtain ⟨v19, rfl, hT⟩ := hT
                refine c_invI (b := a15) (vs := [.int v19]) dX11_atom_149 oX22_init rfl rfl rfl q1075 (Or.inl q1074) rfl rfl (Nat.le_of_ble_eq_true rfl) rfl hW hF hT ?_ ?_
                · intro _ s20 f21 hT h hW hF
                  obtain ⟨rfl, hT⟩ := hT
                  refine x_astore_n (lo' := [some (.ref x0), some (.int v2), some (.ref a15)]) dX11_atom_152 rfl (Nat.le_of_ble_eq_true rfl) rfl rfl ?_
                  refine x_aload_n dX11_atom_153 rfl rfl rfl ?_
                  refine x_iload_n dX11_atom_154 rfl rfl ?_
                  obtain ⟨k23, hc, hj, h30, hz, hT⟩ := hT
                  refine c_fputG dX11_atom_155 f_TallySlate_Reader_326 hc hj h30 hz (Or.inl rfl) rfl rfl hW hF ?_
                  intro f22 ef22 h hW hF
                  replace hT := hT f22 ef22
                  refine x_aload_n dX11_atom_158 rfl rfl rfl ?_
                  exact x_aret dX11_atom_159 rfl (by first | exact Or.inl ⟨_, rfl⟩ | exact Or.inr ⟨_, rfl⟩) rfl ⟨_, _, hW, hF, Or.inl ⟨_, rfl, hT⟩⟩
                · intro k s20 f21 hT h a hW hx hF
                  exact c_out (rfl) hW hx hF hT
              · intro k s17 f18 hT h a hW hx hF
                exact c_out (rfl) hW hx hF hT
            · replace hT := hT.2 c
              refine x_aload_n dX11_atom_112 rfl rfl rfl ?_
              obtain ⟨hc, hT⟩ := hT
              obtain ⟨cc, hcc⟩ := hW.ocell hc
              refine c_invV (vs := []) dX11_atom_113 oX11_builtIn q768 q766 hcc qs9 (Or.inl rfl) rfl rfl (Nat.le_of_ble_eq_true rfl) rfl hW hF hT ?_ ?_
              · intro _ s25 f26 hT h hW hF
                obtain ⟨v27, rfl, hT⟩ := hT
                refine x_if_ge (tgt := 136) dX11_atom_116 rfl (fun c => ?_) (fun c => ?_)
                · replace hT := hT.1 c
                  refine x_aload_n dX11_atom_136 rfl rfl rfl ?_
                  obtain ⟨hc, hT⟩ := hT
                  obtain ⟨cc, hcc⟩ := hW.ocell hc
                  refine c_invV (vs := []) dX11_atom_137 oX11_call q1005 q1003 hcc qs21 (Or.inl rfl) rfl rfl (Nat.le_of_ble_eq_true rfl) rfl hW hF hT ?_ ?_
                  · intro _ s28 f29 hT h hW hF
                    obtain ⟨a30, rfl, hT⟩ := hT
                    exact x_aret dX11_atom_140 rfl (by first | exact Or.inl ⟨_, rfl⟩ | exact Or.inr ⟨_, rfl⟩) rfl ⟨_, _, hW, hF, Or.inl ⟨_, rfl, hT⟩⟩
                  · intro k s28 f29 hT h a hW hx hF
                    exact c_out (rfl) hW hx hF hT
                · replace hT := hT.2 c
                  refine x_aload_n dX11_atom_119 rfl rfl rfl ?_
                  obtain ⟨hc, hT⟩ := hT
                  obtain ⟨cc, hcc⟩ := hW.ocell hc
                  refine c_invV (vs := []) dX11_atom_120 oX11_isReserved q762 q760 hcc qs8 (Or.inl rfl) rfl rfl (Nat.le_of_ble_eq_true rfl) rfl hW hF hT ?_ ?_
                  · intro _ s32 f33 hT h hW hF
                    obtain ⟨v34, rfl, hT⟩ := hT
                    refine x_if_ne (tgt := 141) dX11_atom_123 rfl (fun c => ?_) (fun c => ?_)
                    · replace hT := hT.1 c
                      obtain ⟨hr, hT⟩ := hT
                      refine c_newG (k := 20) dX11_atom_141 (by decide) q1067 q195 hr hW hF ?_
                      intro a35 f36 ea35 ef36 h hW hF
                      replace hT := hT a35 f36 ea35 ef36
                      refine x_dup dX11_atom_144 rfl ?_
                      refine x_aload_n dX11_atom_145 rfl rfl rfl ?_
                      obtain ⟨hc, hT⟩ := hT
                      obtain ⟨cc, hcc⟩ := hW.ocell hc
                      refine c_invV (vs := []) dX11_atom_146 oX11_name q1071 q1069 hcc qs25 (Or.inl rfl) rfl rfl (Nat.le_of_ble_eq_true rfl) rfl hW hF hT ?_ ?_
                      · intro _ s37 f38 hT h hW hF
                        obtain ⟨v39, rfl, hT⟩ := hT
                        refine c_invI (b := a35) (vs := [.int v39]) dX11_atom_149 oX22_init rfl rfl rfl q1075 (Or.inl q1074) rfl rfl (Nat.le_of_ble_eq_true rfl) rfl hW hF hT ?_ ?_
                        · intro _ s40 f41 hT h hW hF
                          obtain ⟨rfl, hT⟩ := hT
                          refine x_astore_n (lo' := [some (.ref x0), some (.int v2), some (.ref a35)]) dX11_atom_152 rfl (Nat.le_of_ble_eq_true rfl) rfl rfl ?_
                          refine x_aload_n dX11_atom_153 rfl rfl rfl ?_
                          refine x_iload_n dX11_atom_154 rfl rfl ?_
                          obtain ⟨k43, hc, hj, h30, hz, hT⟩ := hT
                          refine c_fputG dX11_atom_155 f_TallySlate_Reader_326 hc hj h30 hz (Or.inl rfl) rfl rfl hW hF ?_
                          intro f42 ef42 h hW hF
                          replace hT := hT f42 ef42
                          refine x_aload_n dX11_atom_158 rfl rfl rfl ?_
                          exact x_aret dX11_atom_159 rfl (by first | exact Or.inl ⟨_, rfl⟩ | exact Or.inr ⟨_, rfl⟩) rfl ⟨_, _, hW, hF, Or.inl ⟨_, rfl, hT⟩⟩
                        · intro k s40 f41 hT h a hW hx hF
                          exact c_out (rfl) hW hx hF hT
                      · intro k s37 f38 hT h a hW hx hF
                        exact c_out (rfl) hW hx hF hT
                    · replace hT := hT.2 c
                      refine x_aload_n dX11_atom_126 rfl rfl rfl ?_
                      obtain ⟨hc, hT⟩ := hT
                      obtain ⟨a45, ev, hT⟩ := hT
                      refine c_fgetG dX11_atom_127 f_TallySlate_Reader_23 hc (by decide) (by decide) hW ev ?_
                      obtain ⟨hc, hT⟩ := hT
                      obtain ⟨cc, hcc⟩ := hW.ocell hc
                      refine c_invV (vs := []) dX11_atom_130 oX2_isCalled q1000 q999 hcc q1001 (Or.inl rfl) rfl rfl (Nat.le_of_ble_eq_true rfl) rfl hW hF hT ?_ ?_
                      · intro _ s46 f47 hT h hW hF
                        obtain ⟨v48, rfl, hT⟩ := hT
                        refine x_if_eq (tgt := 141) dX11_atom_133 rfl (fun c => ?_) (fun c => ?_)
                        · replace hT := hT.1 c
                          obtain ⟨hr, hT⟩ := hT
                          refine c_newG (k := 20) dX11_atom_141 (by decide) q1067 q195 hr hW hF ?_
                          intro a49 f50 ea49 ef50 h hW hF
                          replace hT := hT a49 f50 ea49 ef50
                          refine x_dup dX11_atom_144 rfl ?_
                          refine x_aload_n dX11_atom_145 rfl rfl rfl ?_
                          obtain ⟨hc, hT⟩ := hT
                          obtain ⟨cc, hcc⟩ := hW.ocell hc
                          refine c_invV (vs := []) dX11_atom_146 oX11_name q1071 q1069 hcc qs25 (Or.inl rfl) rfl rfl (Nat.le_of_ble_eq_true rfl) rfl hW hF hT ?_ ?_
                          · intro _ s51 f52 hT h hW hF
                            obtain ⟨v53, rfl, hT⟩ := hT
                            refine c_invI (b := a49) (vs := [.int v53]) dX11_atom_149 oX22_init rfl rfl rfl q1075 (Or.inl q1074) rfl rfl (Nat.le_of_ble_eq_true rfl) rfl hW hF hT ?_ ?_
                            · intro _ s54 f55 hT h hW hF
                              obtain ⟨rfl, hT⟩ := hT
                              refine x_astore_n (lo' := [some (.ref x0), some (.int v2), some (.ref a49)]) dX11_atom_152 rfl (Nat.le_of_ble_eq_true rfl) rfl rfl ?_
                              refine x_aload_n dX11_atom_153 rfl rfl rfl ?_
                              refine x_iload_n dX11_atom_154 rfl rfl ?_
                              obtain ⟨k57, hc, hj, h30, hz, hT⟩ := hT
                              refine c_fputG dX11_atom_155 f_TallySlate_Reader_326 hc hj h30 hz (Or.inl rfl) rfl rfl hW hF ?_
                              intro f56 ef56 h hW hF
                              replace hT := hT f56 ef56
                              refine x_aload_n dX11_atom_158 rfl rfl rfl ?_
                              exact x_aret dX11_atom_159 rfl (by first | exact Or.inl ⟨_, rfl⟩ | exact Or.inr ⟨_, rfl⟩) rfl ⟨_, _, hW, hF, Or.inl ⟨_, rfl, hT⟩⟩
                            · intro k s54 f55 hT h a hW hx hF
                              exact c_out (rfl) hW hx hF hT
                          · intro k s51 f52 hT h a hW hx hF
                            exact c_out (rfl) hW hx hF hT
                        · replace hT := hT.2 c
                          refine x_aload_n dX11_atom_136 rfl rfl rfl ?_
                          obtain ⟨hc, hT⟩ := hT
                          obtain ⟨cc, hcc⟩ := hW.ocell hc
                          refine c_invV (vs := []) dX11_atom_137 oX11_call q1005 q1003 hcc qs21 (Or.inl rfl) rfl rfl (Nat.le_of_ble_eq_true rfl) rfl hW hF hT ?_ ?_
                          · intro _ s59 f60 hT h hW hF
                            obtain ⟨a61, rfl, hT⟩ := hT
                            exact x_aret dX11_atom_140 rfl (by first | exact Or.inl ⟨_, rfl⟩ | exact Or.inr ⟨_, rfl⟩) rfl ⟨_, _, hW, hF, Or.inl ⟨_, rfl, hT⟩⟩
                          · intro k s59 f60 hT h a hW hx hF
                            exact c_out (rfl) hW hx hF hT
                      · intro k s46 f47 hT h a hW hx hF
                        exact c_out (rfl) hW hx hF hT
                  · intro k s32 f33 hT h a hW hx hF
                    exact c_out (rfl) hW hx hF hT
              · intro k s25 f26 hT h a hW hx hF
                exact c_out (rfl) hW hx hF hT
          · replace hT := hT.2 c
            refine x_aload_n dX11_atom_93 rfl rfl rfl ?_
            obtain ⟨hc, hT⟩ := hT
            obtain ⟨cc, hcc⟩ := hW.ocell hc
            refine c_invV (vs := []) dX11_atom_94 oX11_literal q942 q940 hcc qs19 (Or.inl rfl) rfl rfl (Nat.le_of_ble_eq_true rfl) rfl hW hF hT ?_ ?_
            · intro _ s66 f67 hT h hW hF
              obtain ⟨a68, rfl, hT⟩ := hT
              refine x_astore_n (lo' := [some (.ref x0), some (.int v2), some (.ref a68)]) dX11_atom_97 rfl (Nat.le_of_ble_eq_true rfl) rfl rfl ?_
              refine x_goto (tgt := 153) dX11_atom_98 rfl ?_
              refine x_aload_n dX11_atom_153 rfl rfl rfl ?_
              refine x_iload_n dX11_atom_154 rfl rfl ?_
              obtain ⟨k70, hc, hj, h30, hz, hT⟩ := hT
              refine c_fputG dX11_atom_155 f_TallySlate_Reader_326 hc hj h30 hz (Or.inl rfl) rfl rfl hW hF ?_
              intro f69 ef69 h hW hF
              replace hT := hT f69 ef69
              refine x_aload_n dX11_atom_158 rfl rfl rfl ?_
              exact x_aret dX11_atom_159 rfl (by first | exact Or.inl ⟨_, rfl⟩ | exact Or.inr ⟨_, rfl⟩) rfl ⟨_, _, hW, hF, Or.inl ⟨_, rfl, hT⟩⟩
            · intro k s66 f67 hT h a hW hx hF
              exact c_out (rfl) hW hx hF hT
        · intro k s10 f11 hT h a hW hx hF
          exact c_out (rfl) hW hx hF hT
      · replace hT := hT.2 c
        refine x_aload_n dX11_atom_56 rfl rfl rfl ?_
        obtain ⟨hc, hT⟩ := hT
        obtain ⟨a73, ev, hT⟩ := hT
        refine c_fgetG dX11_atom_57 f_TallySlate_Reader_23 hc (by decide) (by decide) hW ev ?_
        refine x_bipush (v := 40) dX11_atom_60 rfl ?_
        obtain ⟨hc, hT⟩ := hT
        obtain ⟨cc, hcc⟩ := hW.ocell hc
        refine c_invV (vs := [.int 40]) dX11_atom_62 oX2_take q816 q815 hcc q817 (Or.inl rfl) rfl rfl (Nat.le_of_ble_eq_true rfl) rfl hW hF hT ?_ ?_
        · intro _ s74 f75 hT h hW hF
          obtain ⟨rfl, hT⟩ := hT
          refine x_aload_n dX11_atom_65 rfl rfl rfl ?_
          obtain ⟨hc, hT⟩ := hT
          obtain ⟨cc, hcc⟩ := hW.ocell hc
          refine c_invV (vs := []) dX11_atom_66 oX11_expression q893 q891 hcc qs14 (Or.inl rfl) rfl rfl (Nat.le_of_ble_eq_true rfl) rfl hW hF hT ?_ ?_
          · intro _ s76 f77 hT h hW hF
            obtain ⟨a78, rfl, hT⟩ := hT
            refine x_astore_n (lo' := [some (.ref x0), some (.int v2), some (.ref a78)]) dX11_atom_69 rfl (Nat.le_of_ble_eq_true rfl) rfl rfl ?_
            refine x_aload_n dX11_atom_70 rfl rfl rfl ?_
            obtain ⟨hc, hT⟩ := hT
            obtain ⟨a79, ev, hT⟩ := hT
            refine c_fgetG dX11_atom_71 f_TallySlate_Reader_23 hc (by decide) (by decide) hW ev ?_
            refine x_bipush (v := 41) dX11_atom_74 rfl ?_
            obtain ⟨hc, hT⟩ := hT
            obtain ⟨cc, hcc⟩ := hW.ocell hc
            refine c_invV (vs := [.int 41]) dX11_atom_76 oX2_take q816 q815 hcc q817 (Or.inl rfl) rfl rfl (Nat.le_of_ble_eq_true rfl) rfl hW hF hT ?_ ?_
            · intro _ s80 f81 hT h hW hF
              obtain ⟨rfl, hT⟩ := hT
              refine x_aload_n dX11_atom_79 rfl rfl rfl ?_
              exact x_aret dX11_atom_80 rfl (by first | exact Or.inl ⟨_, rfl⟩ | exact Or.inr ⟨_, rfl⟩) rfl ⟨_, _, hW, hF, Or.inl ⟨_, rfl, hT⟩⟩
            · intro k s80 f81 hT h a hW hx hF
              exact c_out (rfl) hW hx hF hT
          · intro k s76 f77 hT h a hW hx hF
            exact c_out (rfl) hW hx hF hT
        · intro k s74 f75 hT h a hW hx hF
          exact c_out (rfl) hW hx hF hT
    · intro k s6 f7 hT h a hW hx hF
      exact c_out (rfl) hW hx hF hT
  · replace hT := hT.2 c
    obtain ⟨hr, hT⟩ := hT
    refine c_newG (k := 15) dX11_atom_19 (by decide) q911 q190 hr hW hF ?_
    intro a86 f87 ea86 ef87 h hW hF
    replace hT := hT a86 f87 ea86 ef87
    refine x_dup dX11_atom_22 rfl ?_
    refine x_aload_n dX11_atom_23 rfl rfl rfl ?_
    obtain ⟨hc, hT⟩ := hT
    obtain ⟨a88, ev, hT⟩ := hT
    refine c_fgetG dX11_atom_24 f_TallySlate_Reader_23 hc (by decide) (by decide) hW ev ?_
    obtain ⟨hc, hT⟩ := hT
    obtain ⟨v89, ev, hT⟩ := hT
    refine c_fgetG dX11_atom_27 f_TallySlate_Reader_276 hc (by decide) (by decide) hW ev ?_
    refine c_invI (b := a86) (vs := [.int v89]) dX11_atom_30 oX17_init rfl rfl rfl q914 (Or.inl q913) rfl rfl (Nat.le_of_ble_eq_true rfl) rfl hW hF hT ?_ ?_
    · intro _ s90 f91 hT h hW hF
      obtain ⟨rfl, hT⟩ := hT
      refine x_astore_n (lo' := [some (.ref x0), some (.int v2), some (.ref a86)]) dX11_atom_33 rfl (Nat.le_of_ble_eq_true rfl) rfl rfl ?_
      refine x_aload_n dX11_atom_34 rfl rfl rfl ?_
      obtain ⟨hc, hT⟩ := hT
      obtain ⟨a92, ev, hT⟩ := hT
      refine c_fgetG dX11_atom_35 f_TallySlate_Reader_23 hc (by decide) (by decide) hW ev ?_
      obtain ⟨hc, hT⟩ := hT
      obtain ⟨cc, hcc⟩ := hW.ocell hc
      refine c_invV (vs := []) dX11_atom_38 oX2_next q610 q609 hcc q611 (Or.inl rfl) rfl rfl (Nat.le_of_ble_eq_true rfl) rfl hW hF hT ?_ ?_
      · intro _ s93 f94 hT h hW hF
        obtain ⟨rfl, hT⟩ := hT
        refine x_goto (tgt := 153) dX11_atom_41 rfl ?_
        refine x_aload_n dX11_atom_153 rfl rfl rfl ?_
        refine x_iload_n dX11_atom_154 rfl rfl ?_
        obtain ⟨k96, hc, hj, h30, hz, hT⟩ := hT
        refine c_fputG dX11_atom_155 f_TallySlate_Reader_326 hc hj h30 hz (Or.inl rfl) rfl rfl hW hF ?_
        intro f95 ef95 h hW hF
        replace hT := hT f95 ef95
        refine x_aload_n dX11_atom_158 rfl rfl rfl ?_
        exact x_aret dX11_atom_159 rfl (by first | exact Or.inl ⟨_, rfl⟩ | exact Or.inr ⟨_, rfl⟩) rfl ⟨_, _, hW, hF, Or.inl ⟨_, rfl, hT⟩⟩
      · intro k s93 f94 hT h a hW hx hF
        exact c_out (rfl) hW hx hF hT
    · intro k s90 f91 hT h a hW hx hF
      exact c_out (rfl) hW hx hF hT
theorem eX11_atom {l : Launch} {E : EN} {w : CO} {d : Nat} {s : CS} {f : RH} {Q : KO → CS → RH → Prop} {x0 : Nat}  (hst : l.stackTraces = false) (hT : (oc f x0 11 ∧ (∃ a1 : Nat, vl f x0 147 = .ref a1 ∧ (oc f a1 2 ∧ (∃ v2 : Int32, vl f a1 21 = .int v2 ∧ (oc f x0 11 ∧ (∃ a3 : Nat, vl f x0 147 = .ref a3 ∧ (oc f a3 2 ∧ (∃ v4 : Int32, vl f a3 20 = .int v4 ∧ ((¬ v4 = 2 → (oc f x0 11 ∧ (∃ a5 : Nat, vl f x0 147 = .ref a5 ∧ (oc f a5 2 ∧ EvC l E w d MX2_is [.ref a5, .int 40] s f (fun o s6 f7 => KP o (fun r => ∃ v8 : Int32, r = some (.int v8) ∧ ((v8 = 0 → (oc f7 x0 11 ∧ (∃ a9 : Nat, vl f7 x0 147 = .ref a9 ∧ (oc f7 a9 2 ∧ EvC l E w d MX2_is [.ref a9, .int 91] s6 f7 (fun o s10 f11 => KP o (fun r => ∃ v12 : Int32, r = some (.int v12) ∧ ((v12 = 0 → (oc f11 x0 11 ∧ (∃ a13 : Nat, vl f11 x0 147 = .ref a13 ∧ (oc f11 a13 2 ∧ (∃ v14 : Int32, vl f11 a13 20 = .int v14 ∧ ((¬ v14 = 1 → (rmF E f11 1 2 ∧ ∀ (a15 : Nat) (f16 : RH), a15 = f11.1 → f16 = fnew f11 20 → (oc f16 x0 11 ∧ EvC l E w d MX11_name [.ref x0] s10 f16 (fun o s17 f18 => KP o (fun r => ∃ v19 : Int32, r = some (.int v19) ∧ (EvC l E w d MX22_init [.ref a15, .int v19] s17 f18 (fun o s20 f21 => KP o (fun r => r = none ∧ (∃ k23 : Nat, oc f21 a15 k23 ∧ 165 ∈ CF k23 ∧ ¬ k23 = 30 ∧ f21.2.2.2 ≤ a15 ∧ ∀ f22 : RH, f22 = fset f21 a15 165 (.int v2) → Q (.inl (some (.ref a15))) s20 f22)) (fun k => Q (.inr k) s20 f21)))) (fun k => Q (.inr k) s17 f18))))) ∧ (v14 = 1 → (oc f11 x0 11 ∧ EvC l E w d MX11_builtIn [.ref x0] s10 f11 (fun o s25 f26 => KP o (fun r => ∃ v27 : Int32, r = some (.int v27) ∧ ((0 ≤ v27 → (oc f26 x0 11 ∧ EvC l E w d MX11_call [.ref x0] s25 f26 (fun o s28 f29 => KP o (fun r => ∃ a30 : Nat, r = some (.ref a30) ∧ Q (.inl (some (.ref a30))) s28 f29) (fun k => Q (.inr k) s28 f29)))) ∧ (¬ 0 ≤ v27 → (oc f26 x0 11 ∧ EvC l E w d MX11_isReserved [.ref x0] s25 f26 (fun o s32 f33 => KP o (fun r => ∃ v34 : Int32, r = some (.int v34) ∧ ((¬ v34 = 0 → (rmF E f33 1 2 ∧ ∀ (a35 : Nat) (f36 : RH), a35 = f33.1 → f36 = fnew f33 20 → (oc f36 x0 11 ∧ EvC l E w d MX11_name [.ref x0] s32 f36 (fun o s37 f38 => KP o (fun r => ∃ v39 : Int32, r = some (.int v39) ∧ (EvC l E w d MX22_init [.ref a35, .int v39] s37 f38 (fun o s40 f41 => KP o (fun r => r = none ∧ (∃ k43 : Nat, oc f41 a35 k43 ∧ 165 ∈ CF k43 ∧ ¬ k43 = 30 ∧ f41.2.2.2 ≤ a35 ∧ ∀ f42 : RH, f42 = fset f41 a35 165 (.int v2) → Q (.inl (some (.ref a35))) s40 f42)) (fun k => Q (.inr k) s40 f41)))) (fun k => Q (.inr k) s37 f38))))) ∧ (v34 = 0 → (oc f33 x0 11 ∧ (∃ a45 : Nat, vl f33 x0 147 = .ref a45 ∧ (oc f33 a45 2 ∧ EvC l E w d MX2_isCalled [.ref a45] s32 f33 (fun o s46 f47 => KP o (fun r => ∃ v48 : Int32, r = some (.int v48) ∧ ((v48 = 0 → (rmF E f47 1 2 ∧ ∀ (a49 : Nat) (f50 : RH), a49 = f47.1 → f50 = fnew f47 20 → (oc f50 x0 11 ∧ EvC l E w d MX11_name [.ref x0] s46 f50 (fun o s51 f52 => KP o (fun r => ∃ v53 : Int32, r = some (.int v53) ∧ (EvC l E w d MX22_init [.ref a49, .int v53] s51 f52 (fun o s54 f55 => KP o (fun r => r = none ∧ (∃ k57 : Nat, oc f55 a49 k57 ∧ 165 ∈ CF k57 ∧ ¬ k57 = 30 ∧ f55.2.2.2 ≤ a49 ∧ ∀ f56 : RH, f56 = fset f55 a49 165 (.int v2) → Q (.inl (some (.ref a49))) s54 f56)) (fun k => Q (.inr k) s54 f55)))) (fun k => Q (.inr k) s51 f52))))) ∧ (¬ v48 = 0 → (oc f47 x0 11 ∧ EvC l E w d MX11_call [.ref x0] s46 f47 (fun o s59 f60 => KP o (fun r => ∃ a61 : Nat, r = some (.ref a61) ∧ Q (.inl (some (.ref a61))) s59 f60) (fun k => Q (.inr k) s59 f60)))))) (fun k => Q (.inr k) s46 f47)))))))) (fun k => Q (.inr k) s32 f33)))))) (fun k => Q (.inr k) s25 f26)))))))))) ∧ (¬ v12 = 0 → (oc f11 x0 11 ∧ EvC l E w d MX11_literal [.ref x0] s10 f11 (fun o s66 f67 => KP o (fun r => ∃ a68 : Nat, r = some (.ref a68) ∧ (∃ k70 : Nat, oc f67 a68 k70 ∧ 165 ∈ CF k70 ∧ ¬ k70 = 30 ∧ f67.2.2.2 ≤ a68 ∧ ∀ f69 : RH, f69 = fset f67 a68 165 (.int v2) → Q (.inl (some (.ref a68))) s66 f69)) (fun k => Q (.inr k) s66 f67)))))) (fun k => Q (.inr k) s10 f11)))))) ∧ (¬ v8 = 0 → (oc f7 x0 11 ∧ (∃ a73 : Nat, vl f7 x0 147 = .ref a73 ∧ (oc f7 a73 2 ∧ EvC l E w d MX2_take [.ref a73, .int 40] s6 f7 (fun o s74 f75 => KP o (fun r => r = none ∧ (oc f75 x0 11 ∧ EvC l E w d MX11_expression [.ref x0] s74 f75 (fun o s76 f77 => KP o (fun r => ∃ a78 : Nat, r = some (.ref a78) ∧ (oc f77 x0 11 ∧ (∃ a79 : Nat, vl f77 x0 147 = .ref a79 ∧ (oc f77 a79 2 ∧ EvC l E w d MX2_take [.ref a79, .int 41] s76 f77 (fun o s80 f81 => KP o (fun r => r = none ∧ Q (.inl (some (.ref a78))) s80 f81) (fun k => Q (.inr k) s80 f81)))))) (fun k => Q (.inr k) s76 f77)))) (fun k => Q (.inr k) s74 f75)))))))) (fun k => Q (.inr k) s6 f7)))))) ∧ (v4 = 2 → (rmF E f 1 2 ∧ ∀ (a86 : Nat) (f87 : RH), a86 = f.1 → f87 = fnew f 15 → (oc f87 x0 11 ∧ (∃ a88 : Nat, vl f87 x0 147 = .ref a88 ∧ (oc f87 a88 2 ∧ (∃ v89 : Int32, vl f87 a88 22 = .int v89 ∧ (EvC l E w d MX17_init [.ref a86, .int v89] s f87 (fun o s90 f91 => KP o (fun r => r = none ∧ (oc f91 x0 11 ∧ (∃ a92 : Nat, vl f91 x0 147 = .ref a92 ∧ (oc f91 a92 2 ∧ EvC l E w d MX2_next [.ref a92] s90 f91 (fun o s93 f94 => KP o (fun r => r = none ∧ (∃ k96 : Nat, oc f94 a86 k96 ∧ 165 ∈ CF k96 ∧ ¬ k96 = 30 ∧ f94.2.2.2 ≤ a86 ∧ ∀ f95 : RH, f95 = fset f94 a86 165 (.int v2) → Q (.inl (some (.ref a86))) s93 f95)) (fun k => Q (.inr k) s93 f94)))))) (fun k => Q (.inr k) s90 f91))))))))))))))))))) : EvC l E w (d + 1) MX11_atom [.ref x0] s f Q :=
  EvC.of hst (by decide) (Nat.le_of_ble_eq_true rfl) (vX11_atom_0  hT)
theorem vX11_literal_0 {l : Launch} {E : EN} {w : CO} {d : Nat} {s : CS} {f : RH} {Q : KO → CS → RH → Prop} {x0 : Nat}  (hT : (rmF E f 1 2 ∧ ∀ (a1 : Nat) (f2 : RH), a1 = f.1 → f2 = fnew f 16 → (EvC l E w d MX18_init [.ref a1] s f2 (fun o s3 f4 => KP o (fun r => r = none ∧ (oc f4 x0 11 ∧ (∃ a5 : Nat, vl f4 x0 147 = .ref a5 ∧ (oc f4 a5 2 ∧ EvC l E w d MX2_take [.ref a5, .int 91] s3 f4 (fun o s6 f7 => KP o (fun r => r = none ∧ (oc f7 x0 11 ∧ (∃ a8 : Nat, vl f7 x0 147 = .ref a8 ∧ (oc f7 a8 2 ∧ EvC l E w d MX2_is [.ref a8, .int 93] s6 f7 (fun o s9 f10 => KP o (fun r => ∃ v11 : Int32, r = some (.int v11) ∧ ((¬ v11 = 0 → ExC l E w (d + 1) MX11_literal 35 [some (.ref x0), some (.ref a1), some (.int 0)] [] s9 f10 Q) ∧ (v11 = 0 → ExC l E w (d + 1) MX11_literal 35 [some (.ref x0), some (.ref a1), some (.int 1)] [] s9 f10 Q))) (fun k => Q (.inr k) s9 f10)))))) (fun k => Q (.inr k) s6 f7)))))) (fun k => Q (.inr k) s3 f4))))) : ExC l E w (d + 1) MX11_literal 0 [some (.ref x0), none, none] [] s f Q := by
  intro f0 h hW hF
  obtain ⟨hr, hT⟩ := hT
  refine c_newG (k := 16) dX11_literal_0 (by decide) q944 q191 hr hW hF ?_
  intro a1 f2 ea1 ef2 h hW hF
  replace hT := hT a1 f2 ea1 ef2
  refine x_dup dX11_literal_3 rfl ?_
  refine c_invI (b := a1) (vs := []) dX11_literal_4 oX18_init rfl rfl rfl q947 (Or.inr ⟨_, q946⟩) rfl rfl (Nat.le_of_ble_eq_true rfl) rfl hW hF hT ?_ ?_
  · intro _ s3 f4 hT h hW hF
    obtain ⟨rfl, hT⟩ := hT
    refine x_astore_n (lo' := [some (.ref x0), some (.ref a1), none]) dX11_literal_7 rfl (Nat.le_of_ble_eq_true rfl) rfl rfl ?_
    refine x_aload_n dX11_literal_8 rfl rfl rfl ?_
    obtain ⟨hc, hT⟩ := hT
    obtain ⟨a5, ev, hT⟩ := hT
    refine c_fgetG dX11_literal_9 f_TallySlate_Reader_23 hc (by decide) (by decide) hW ev ?_
    refine x_bipush (v := 91) dX11_literal_12 rfl ?_
    obtain ⟨hc, hT⟩ := hT
    obtain ⟨cc, hcc⟩ := hW.ocell hc
    refine c_invV (vs := [.int 91]) dX11_literal_14 oX2_take q816 q815 hcc q817 (Or.inl rfl) rfl rfl (Nat.le_of_ble_eq_true rfl) rfl hW hF hT ?_ ?_
    · intro _ s6 f7 hT h hW hF
      obtain ⟨rfl, hT⟩ := hT
      refine x_aload_n dX11_literal_17 rfl rfl rfl ?_
      obtain ⟨hc, hT⟩ := hT
      obtain ⟨a8, ev, hT⟩ := hT
      refine c_fgetG dX11_literal_18 f_TallySlate_Reader_23 hc (by decide) (by decide) hW ev ?_
      refine x_bipush (v := 93) dX11_literal_21 rfl ?_
      obtain ⟨hc, hT⟩ := hT
      obtain ⟨cc, hcc⟩ := hW.ocell hc
      refine c_invV (vs := [.int 93]) dX11_literal_23 oX2_is q820 q824 hcc q821 (Or.inl rfl) rfl rfl (Nat.le_of_ble_eq_true rfl) rfl hW hF hT ?_ ?_
      · intro _ s9 f10 hT h hW hF
        obtain ⟨v11, rfl, hT⟩ := hT
        refine x_if_ne (tgt := 33) dX11_literal_26 rfl (fun c => ?_) (fun c => ?_)
        · replace hT := hT.1 c
          refine x_iconst (v := 0) dX11_literal_33 rfl ?_
          refine x_istore_n (lo' := [some (.ref x0), some (.ref a1), some (.int 0)]) dX11_literal_34 rfl (Nat.le_of_ble_eq_true rfl) rfl ?_
          exact hT f0 h hW hF
        · replace hT := hT.2 c
          refine x_iconst (v := 1) dX11_literal_29 rfl ?_
          refine x_goto (tgt := 34) dX11_literal_30 rfl ?_
          refine x_istore_n (lo' := [some (.ref x0), some (.ref a1), some (.int 1)]) dX11_literal_34 rfl (Nat.le_of_ble_eq_true rfl) rfl ?_
          exact hT f0 h hW hF
      · intro k s9 f10 hT h a hW hx hF
        exact c_out (rfl) hW hx hF hT
    · intro k s6 f7 hT h a hW hx hF
      exact c_out (rfl) hW hx hF hT
  · intro k s3 f4 hT h a hW hx hF
    exact c_out (rfl) hW hx hF hT
theorem eX11_literal {l : Launch} {E : EN} {w : CO} {d : Nat} {s : CS} {f : RH} {Q : KO → CS → RH → Prop} {x0 : Nat}  (hst : l.stackTraces = false) (hT : (rmF E f 1 2 ∧ ∀ (a1 : Nat) (f2 : RH), a1 = f.1 → f2 = fnew f 16 → (EvC l E w d MX18_init [.ref a1] s f2 (fun o s3 f4 => KP o (fun r => r = none ∧ (oc f4 x0 11 ∧ (∃ a5 : Nat, vl f4 x0 147 = .ref a5 ∧ (oc f4 a5 2 ∧ EvC l E w d MX2_take [.ref a5, .int 91] s3 f4 (fun o s6 f7 => KP o (fun r => r = none ∧ (oc f7 x0 11 ∧ (∃ a8 : Nat, vl f7 x0 147 = .ref a8 ∧ (oc f7 a8 2 ∧ EvC l E w d MX2_is [.ref a8, .int 93] s6 f7 (fun o s9 f10 => KP o (fun r => ∃ v11 : Int32, r = some (.int v11) ∧ ((¬ v11 = 0 → ExC l E w (d + 1) MX11_literal 35 [some (.ref x0), some (.ref a1), some (.int 0)] [] s9 f10 Q) ∧ (v11 = 0 → ExC l E w (d + 1) MX11_literal 35 [some (.ref x0), some (.ref a1), some (.int 1)] [] s9 f10 Q))) (fun k => Q (.inr k) s9 f10)))))) (fun k => Q (.inr k) s6 f7)))))) (fun k => Q (.inr k) s3 f4))))) : EvC l E w (d + 1) MX11_literal [.ref x0] s f Q :=
  EvC.of hst (by decide) (Nat.le_of_ble_eq_true rfl) (vX11_literal_0  hT)
set_option maxHeartbeats 16000000 in
theorem vX11_literal_35 {l : Launch} {E : EN} {w : CO} {d : Nat} {s : CS} {f : RH} {Q : KO → CS → RH → Prop} {b0 : Nat} {b1 : Nat} {b2 : Int32}  (hT : ((b2 = 0 → (oc f b0 11 ∧ (∃ a14 : Nat, vl f b0 147 = .ref a14 ∧ (oc f a14 2 ∧ EvC l E w d MX2_take [.ref a14, .int 93] s f (fun o s15 f16 => KP o (fun r => r = none ∧ Q (.inl (some (.ref b1))) s15 f16) (fun k => Q (.inr k) s15 f16)))))) ∧ (¬ b2 = 0 → (oc f b1 16 ∧ (∃ a18 : Nat, vl f b1 167 = .ref a18 ∧ (oc f b0 11 ∧ EvC l E w d MX11_expression [.ref b0] s f (fun o s19 f20 => KP o (fun r => ∃ a21 : Nat, r = some (.ref a21) ∧ (oc f20 a18 17 ∧ EvC l E w d MX19_add [.ref a18, .ref a21, .int 0, .int 0] s19 f20 (fun o s22 f23 => KP o (fun r => r = none ∧ (oc f23 b0 11 ∧ (∃ a24 : Nat, vl f23 b0 147 = .ref a24 ∧ (oc f23 a24 2 ∧ EvC l E w d MX2_is [.ref a24, .int 44] s22 f23 (fun o s25 f26 => KP o (fun r => ∃ v27 : Int32, r = some (.int v27) ∧ ((v27 = 0 → ExC l E w (d + 1) MX11_literal 35 [some (.ref b0), some (.ref b1), some (.int v27)] [] s25 f26 Q) ∧ (¬ v27 = 0 → (oc f26 b0 11 ∧ (∃ a28 : Nat, vl f26 b0 147 = .ref a28 ∧ (oc f26 a28 2 ∧ EvC l E w d MX2_next [.ref a28] s25 f26 (fun o s29 f30 => KP o (fun r => r = none ∧ ExC l E w (d + 1) MX11_literal 35 [some (.ref b0), some (.ref b1), some (.int v27)] [] s29 f30 Q) (fun k => Q (.inr k) s29 f30)))))))) (fun k => Q (.inr k) s25 f26)))))) (fun k => Q (.inr k) s22 f23)))) (fun k => Q (.inr k) s19 f20)))))))) : ExC l E w (d + 1) MX11_literal 35 [some (.ref b0), some (.ref b1), some (.int b2)] [] s f Q := by
  intro f0 h hW hF
  refine x_iload_n dX11_literal_35 rfl rfl ?_
  refine x_if_eq (tgt := 76) dX11_literal_36 rfl (fun c => ?_) (fun c => ?_)
  · replace hT := hT.1 c
    refine x_aload_n dX11_literal_76 rfl rfl rfl ?_
    obtain ⟨hc, hT⟩ := hT
    obtain ⟨a14, ev, hT⟩ := hT
    refine c_fgetG dX11_literal_77 f_TallySlate_Reader_23 hc (by decide) (by decide) hW ev ?_
    refine x_bipush (v := 93) dX11_literal_80 rfl ?_
    obtain ⟨hc, hT⟩ := hT
    obtain ⟨cc, hcc⟩ := hW.ocell hc
    refine c_invV (vs := [.int 93]) dX11_literal_82 oX2_take q816 q815 hcc q817 (Or.inl rfl) rfl rfl (Nat.le_of_ble_eq_true rfl) rfl hW hF hT ?_ ?_
    · intro _ s15 f16 hT h hW hF
      obtain ⟨rfl, hT⟩ := hT
      refine x_aload_n dX11_literal_85 rfl rfl rfl ?_
      exact x_aret dX11_literal_86 rfl (by first | exact Or.inl ⟨_, rfl⟩ | exact Or.inr ⟨_, rfl⟩) rfl ⟨_, _, hW, hF, Or.inl ⟨_, rfl, hT⟩⟩
    · intro k s15 f16 hT h a hW hx hF
      exact c_out (rfl) hW hx hF hT
  · replace hT := hT.2 c
    refine x_aload_n dX11_literal_39 rfl rfl rfl ?_
    obtain ⟨hc, hT⟩ := hT
    obtain ⟨a18, ev, hT⟩ := hT
    refine c_fgetG dX11_literal_40 f_TallySlate_Reader_332 hc (by decide) (by decide) hW ev ?_
    refine x_aload_n dX11_literal_43 rfl rfl rfl ?_
    obtain ⟨hc, hT⟩ := hT
    obtain ⟨cc, hcc⟩ := hW.ocell hc
    refine c_invV (vs := []) dX11_literal_44 oX11_expression q893 q891 hcc qs14 (Or.inl rfl) rfl rfl (Nat.le_of_ble_eq_true rfl) rfl hW hF hT ?_ ?_
    · intro _ s19 f20 hT h hW hF
      obtain ⟨a21, rfl, hT⟩ := hT
      refine x_iconst (v := 0) dX11_literal_47 rfl ?_
      refine x_iconst (v := 0) dX11_literal_48 rfl ?_
      obtain ⟨hc, hT⟩ := hT
      obtain ⟨cc, hcc⟩ := hW.ocell hc
      refine c_invV (vs := [.ref a21, .int 0, .int 0]) dX11_literal_49 oX19_add q992 q991 hcc q993 (Or.inl rfl) rfl rfl (Nat.le_of_ble_eq_true rfl) rfl hW hF hT ?_ ?_
      · intro _ s22 f23 hT h hW hF
        obtain ⟨rfl, hT⟩ := hT
        refine x_aload_n dX11_literal_52 rfl rfl rfl ?_
        obtain ⟨hc, hT⟩ := hT
        obtain ⟨a24, ev, hT⟩ := hT
        refine c_fgetG dX11_literal_53 f_TallySlate_Reader_23 hc (by decide) (by decide) hW ev ?_
        refine x_bipush (v := 44) dX11_literal_56 rfl ?_
        obtain ⟨hc, hT⟩ := hT
        obtain ⟨cc, hcc⟩ := hW.ocell hc
        refine c_invV (vs := [.int 44]) dX11_literal_58 oX2_is q820 q824 hcc q821 (Or.inl rfl) rfl rfl (Nat.le_of_ble_eq_true rfl) rfl hW hF hT ?_ ?_
        · intro _ s25 f26 hT h hW hF
          obtain ⟨v27, rfl, hT⟩ := hT
          refine x_istore_n (lo' := [some (.ref b0), some (.ref b1), some (.int v27)]) dX11_literal_61 rfl (Nat.le_of_ble_eq_true rfl) rfl ?_
          refine x_iload_n dX11_literal_62 rfl rfl ?_
          refine x_if_eq (tgt := 35) dX11_literal_63 rfl (fun c => ?_) (fun c => ?_)
          · replace hT := hT.1 c
            exact hT f0 h hW hF
          · replace hT := hT.2 c
            refine x_aload_n dX11_literal_66 rfl rfl rfl ?_
            obtain ⟨hc, hT⟩ := hT
            obtain ⟨a28, ev, hT⟩ := hT
            refine c_fgetG dX11_literal_67 f_TallySlate_Reader_23 hc (by decide) (by decide) hW ev ?_
            obtain ⟨hc, hT⟩ := hT
            obtain ⟨cc, hcc⟩ := hW.ocell hc
            refine c_invV (vs := []) dX11_literal_70 oX2_next q610 q609 hcc q611 (Or.inl rfl) rfl rfl (Nat.le_of_ble_eq_true rfl) rfl hW hF hT ?_ ?_
            · intro _ s29 f30 hT h hW hF
              obtain ⟨rfl, hT⟩ := hT
              refine x_goto (tgt := 35) dX11_literal_73 rfl ?_
              exact hT f0 h hW hF
            · intro k s29 f30 hT h a hW hx hF
              exact c_out (rfl) hW hx hF hT
        · intro k s25 f26 hT h a hW hx hF
          exact c_out (rfl) hW hx hF hT
      · intro k s22 f23 hT h a hW hx hF
        exact c_out (rfl) hW hx hF hT
    · intro k s19 f20 hT h a hW hx hF
      exact c_out (rfl) hW hx hF hT
set_option maxHeartbeats 16000000 in
theorem vX11_call_0 {l : Launch} {E : EN} {w : CO} {d : Nat} {s : CS} {f : RH} {Q : KO → CS → RH → Prop} {x0 : Nat}  (hT : (oc f x0 11 ∧ (∃ a1 : Nat, vl f x0 147 = .ref a1 ∧ (oc f a1 2 ∧ (∃ v2 : Int32, vl f a1 21 = .int v2 ∧ (oc f x0 11 ∧ EvC l E w d MX11_builtIn [.ref x0] s f (fun o s3 f4 => KP o (fun r => ∃ v5 : Int32, r = some (.int v5) ∧ ((v5 < 0 → (rmF E f4 1 7 ∧ ∀ (a6 : Nat) (f7 : RH), a6 = f4.1 → f7 = fnew f4 19 → ((0 ≤ v5 → (EvC l E w d MX21_init [.ref a6, .int v5] s3 f7 (fun o s8 f9 => KP o (fun r => r = none ∧ (∃ k11 : Nat, oc f9 a6 k11 ∧ 165 ∈ CF k11 ∧ ¬ k11 = 30 ∧ f9.2.2.2 ≤ a6 ∧ ∀ f10 : RH, f10 = fset f9 a6 165 (.int v2) → ((0 ≤ v5 → ExC l E w (d + 1) MX11_call 61 [some (.ref x0), none, some (.int v5), some (.ref a6), none] [] s8 f10 Q) ∧ (¬ 0 ≤ v5 → (oc f10 x0 11 ∧ EvC l E w d MX11_remember [.ref x0, .ref a6] s8 f10 (fun o s12 f13 => KP o (fun r => r = none ∧ ExC l E w (d + 1) MX11_call 61 [some (.ref x0), none, some (.int v5), some (.ref a6), none] [] s12 f13 Q) (fun k => Q (.inr k) s12 f13))))))) (fun k => Q (.inr k) s8 f9)))) ∧ (¬ 0 ≤ v5 → (EvC l E w d MX21_init [.ref a6, .int 0] s3 f7 (fun o s15 f16 => KP o (fun r => r = none ∧ (∃ k18 : Nat, oc f16 a6 k18 ∧ 165 ∈ CF k18 ∧ ¬ k18 = 30 ∧ f16.2.2.2 ≤ a6 ∧ ∀ f17 : RH, f17 = fset f16 a6 165 (.int v2) → ((0 ≤ v5 → ExC l E w (d + 1) MX11_call 61 [some (.ref x0), none, some (.int v5), some (.ref a6), none] [] s15 f17 Q) ∧ (¬ 0 ≤ v5 → (oc f17 x0 11 ∧ EvC l E w d MX11_remember [.ref x0, .ref a6] s15 f17 (fun o s19 f20 => KP o (fun r => r = none ∧ ExC l E w (d + 1) MX11_call 61 [some (.ref x0), none, some (.int v5), some (.ref a6), none] [] s19 f20 Q) (fun k => Q (.inr k) s19 f20))))))) (fun k => Q (.inr k) s15 f16))))))) ∧ (¬ v5 < 0 → ((28 ≤ v5 → (rmF E f4 1 7 ∧ ∀ (a22 : Nat) (f23 : RH), a22 = f4.1 → f23 = fnew f4 19 → ((0 ≤ v5 → (EvC l E w d MX21_init [.ref a22, .int v5] s3 f23 (fun o s24 f25 => KP o (fun r => r = none ∧ (∃ k27 : Nat, oc f25 a22 k27 ∧ 165 ∈ CF k27 ∧ ¬ k27 = 30 ∧ f25.2.2.2 ≤ a22 ∧ ∀ f26 : RH, f26 = fset f25 a22 165 (.int v2) → ((0 ≤ v5 → ExC l E w (d + 1) MX11_call 61 [some (.ref x0), none, some (.int v5), some (.ref a22), none] [] s24 f26 Q) ∧ (¬ 0 ≤ v5 → (oc f26 x0 11 ∧ EvC l E w d MX11_remember [.ref x0, .ref a22] s24 f26 (fun o s28 f29 => KP o (fun r => r = none ∧ ExC l E w (d + 1) MX11_call 61 [some (.ref x0), none, some (.int v5), some (.ref a22), none] [] s28 f29 Q) (fun k => Q (.inr k) s28 f29))))))) (fun k => Q (.inr k) s24 f25)))) ∧ (¬ 0 ≤ v5 → (EvC l E w d MX21_init [.ref a22, .int 0] s3 f23 (fun o s31 f32 => KP o (fun r => r = none ∧ (∃ k34 : Nat, oc f32 a22 k34 ∧ 165 ∈ CF k34 ∧ ¬ k34 = 30 ∧ f32.2.2.2 ≤ a22 ∧ ∀ f33 : RH, f33 = fset f32 a22 165 (.int v2) → ((0 ≤ v5 → ExC l E w (d + 1) MX11_call 61 [some (.ref x0), none, some (.int v5), some (.ref a22), none] [] s31 f33 Q) ∧ (¬ 0 ≤ v5 → (oc f33 x0 11 ∧ EvC l E w d MX11_remember [.ref x0, .ref a22] s31 f33 (fun o s35 f36 => KP o (fun r => r = none ∧ ExC l E w (d + 1) MX11_call 61 [some (.ref x0), none, some (.int v5), some (.ref a22), none] [] s35 f36 Q) (fun k => Q (.inr k) s35 f36))))))) (fun k => Q (.inr k) s31 f32))))))) ∧ (¬ 28 ≤ v5 → (oc f4 x0 11 ∧ EvC l E w d MX11_builtIn_2 [.ref x0, .int v5, .int v2] s3 f4 (fun o s38 f39 => KP o (fun r => ∃ a40 : Nat, r = some (.ref a40) ∧ Q (.inl (some (.ref a40))) s38 f39) (fun k => Q (.inr k) s38 f39)))))))) (fun k => Q (.inr k) s3 f4)))))))) : ExC l E w (d + 1) MX11_call 0 [some (.ref x0), none, none, none, none] [] s f Q := by
  intro f0 h hW hF
  refine x_aload_n dX11_call_0 rfl rfl rfl ?_
  obtain ⟨hc, hT⟩ := hT
  obtain ⟨a1, ev, hT⟩ := hT
  refine c_fgetG dX11_call_1 f_TallySlate_Reader_23 hc (by decide) (by decide) hW ev ?_
  obtain ⟨hc, hT⟩ := hT
  obtain ⟨v2, ev, hT⟩ := hT
  refine c_fgetG dX11_call_4 f_TallySlate_Reader_45 hc (by decide) (by decide) hW ev ?_
  refine x_istore_n (lo' := [some (.ref x0), some (.int v2), none, none, none]) dX11_call_7 rfl (Nat.le_of_ble_eq_true rfl) rfl ?_
  refine x_aload_n dX11_call_8 rfl rfl rfl ?_
  obtain ⟨hc, hT⟩ := hT
  obtain ⟨cc, hcc⟩ := hW.ocell hc
  refine c_invV (vs := []) dX11_call_9 oX11_builtIn q768 q766 hcc qs9 (Or.inl rfl) rfl rfl (Nat.le_of_ble_eq_true rfl) rfl hW hF hT ?_ ?_
  · intro _ s3 f4 hT h hW hF
    obtain ⟨v5, rfl, hT⟩ := hT
    refine x_istore_n (lo' := [some (.ref x0), some (.int v2), some (.int v5), none, none]) dX11_call_12 rfl (Nat.le_of_ble_eq_true rfl) rfl ?_
    refine x_iload_n dX11_call_13 rfl rfl ?_
    refine x_if_lt (tgt := 30) dX11_call_14 rfl (fun c => ?_) (fun c => ?_)
    · replace hT := hT.1 c
      obtain ⟨hr, hT⟩ := hT
      refine c_newG (k := 19) dX11_call_30 (by decide) q582 q194 hr hW hF ?_
      intro a6 f7 ea6 ef7 h hW hF
      replace hT := hT a6 f7 ea6 ef7
      refine x_dup dX11_call_33 rfl ?_
      refine x_iload_n dX11_call_34 rfl rfl ?_
      refine x_if_ge (tgt := 42) dX11_call_35 rfl (fun c => ?_) (fun c => ?_)
      · replace hT := hT.1 c
        refine x_iload_n dX11_call_42 rfl rfl ?_
        refine c_invI (b := a6) (vs := [.int v5]) dX11_call_43 oX21_init rfl rfl rfl q1036 (Or.inl q1035) rfl rfl (Nat.le_of_ble_eq_true rfl) rfl hW hF hT ?_ ?_
        · intro _ s8 f9 hT h hW hF
          obtain ⟨rfl, hT⟩ := hT
          refine x_astore_n (lo' := [some (.ref x0), some (.int v2), some (.int v5), some (.ref a6), none]) dX11_call_46 rfl (Nat.le_of_ble_eq_true rfl) rfl rfl ?_
          refine x_aload_n dX11_call_47 rfl rfl rfl ?_
          refine x_iload_n dX11_call_48 rfl rfl ?_
          obtain ⟨k11, hc, hj, h30, hz, hT⟩ := hT
          refine c_fputG dX11_call_49 f_TallySlate_Reader_337 hc hj h30 hz (Or.inl rfl) rfl rfl hW hF ?_
          intro f10 ef10 h hW hF
          replace hT := hT f10 ef10
          refine x_iload_n dX11_call_52 rfl rfl ?_
          refine x_if_ge (tgt := 61) dX11_call_53 rfl (fun c => ?_) (fun c => ?_)
          · replace hT := hT.1 c
            refine Ex.wkl (lo' := [some (.ref x0), none, some (.int v5), some (.ref a6), none]) ⟨rfl, rfl, rfl, trivial⟩ ?_
            exact hT f0 h hW hF
          · replace hT := hT.2 c
            refine x_aload_n dX11_call_56 rfl rfl rfl ?_
            refine x_aload_n dX11_call_57 rfl rfl rfl ?_
            obtain ⟨hc, hT⟩ := hT
            obtain ⟨cc, hcc⟩ := hW.ocell hc
            refine c_invV (vs := [.ref a6]) dX11_call_58 oX11_remember q1065 q1063 hcc qs24 (Or.inl rfl) rfl rfl (Nat.le_of_ble_eq_true rfl) rfl hW hF hT ?_ ?_
            · intro _ s12 f13 hT h hW hF
              obtain ⟨rfl, hT⟩ := hT
              refine Ex.wkl (lo' := [some (.ref x0), none, some (.int v5), some (.ref a6), none]) ⟨rfl, rfl, rfl, trivial⟩ ?_
              exact hT f0 h hW hF
            · intro k s12 f13 hT h a hW hx hF
              exact c_out (rfl) hW hx hF hT
        · intro k s8 f9 hT h a hW hx hF
          exact c_out (rfl) hW hx hF hT
      · replace hT := hT.2 c
        refine x_iconst (v := 0) dX11_call_38 rfl ?_
        refine x_goto (tgt := 43) dX11_call_39 rfl ?_
        refine c_invI (b := a6) (vs := [.int 0]) dX11_call_43 oX21_init rfl rfl rfl q1036 (Or.inl q1035) rfl rfl (Nat.le_of_ble_eq_true rfl) rfl hW hF hT ?_ ?_
        · intro _ s15 f16 hT h hW hF
          obtain ⟨rfl, hT⟩ := hT
          refine x_astore_n (lo' := [some (.ref x0), some (.int v2), some (.int v5), some (.ref a6), none]) dX11_call_46 rfl (Nat.le_of_ble_eq_true rfl) rfl rfl ?_
          refine x_aload_n dX11_call_47 rfl rfl rfl ?_
          refine x_iload_n dX11_call_48 rfl rfl ?_
          obtain ⟨k18, hc, hj, h30, hz, hT⟩ := hT
          refine c_fputG dX11_call_49 f_TallySlate_Reader_337 hc hj h30 hz (Or.inl rfl) rfl rfl hW hF ?_
          intro f17 ef17 h hW hF
          replace hT := hT f17 ef17
          refine x_iload_n dX11_call_52 rfl rfl ?_
          refine x_if_ge (tgt := 61) dX11_call_53 rfl (fun c => ?_) (fun c => ?_)
          · replace hT := hT.1 c
            refine Ex.wkl (lo' := [some (.ref x0), none, some (.int v5), some (.ref a6), none]) ⟨rfl, rfl, rfl, trivial⟩ ?_
            exact hT f0 h hW hF
          · replace hT := hT.2 c
            refine x_aload_n dX11_call_56 rfl rfl rfl ?_
            refine x_aload_n dX11_call_57 rfl rfl rfl ?_
            obtain ⟨hc, hT⟩ := hT
            obtain ⟨cc, hcc⟩ := hW.ocell hc
            refine c_invV (vs := [.ref a6]) dX11_call_58 oX11_remember q1065 q1063 hcc qs24 (Or.inl rfl) rfl rfl (Nat.le_of_ble_eq_true rfl) rfl hW hF hT ?_ ?_
            · intro _ s19 f20 hT h hW hF
              obtain ⟨rfl, hT⟩ := hT
              refine Ex.wkl (lo' := [some (.ref x0), none, some (.int v5), some (.ref a6), none]) ⟨rfl, rfl, rfl, trivial⟩ ?_
              exact hT f0 h hW hF
            · intro k s19 f20 hT h a hW hx hF
              exact c_out (rfl) hW hx hF hT
        · intro k s15 f16 hT h a hW hx hF
          exact c_out (rfl) hW hx hF hT
    · replace hT := hT.2 c
      refine x_iload_n dX11_call_17 rfl rfl ?_
      refine x_bipush (v := 28) dX11_call_18 rfl ?_
      refine x_icmp_ge (tgt := 30) dX11_call_20 rfl (fun c => ?_) (fun c => ?_)
      · replace hT := hT.1 c
        obtain ⟨hr, hT⟩ := hT
        refine c_newG (k := 19) dX11_call_30 (by decide) q582 q194 hr hW hF ?_
        intro a22 f23 ea22 ef23 h hW hF
        replace hT := hT a22 f23 ea22 ef23
        refine x_dup dX11_call_33 rfl ?_
        refine x_iload_n dX11_call_34 rfl rfl ?_
        refine x_if_ge (tgt := 42) dX11_call_35 rfl (fun c => ?_) (fun c => ?_)
        · replace hT := hT.1 c
          refine x_iload_n dX11_call_42 rfl rfl ?_
          refine c_invI (b := a22) (vs := [.int v5]) dX11_call_43 oX21_init rfl rfl rfl q1036 (Or.inl q1035) rfl rfl (Nat.le_of_ble_eq_true rfl) rfl hW hF hT ?_ ?_
          · intro _ s24 f25 hT h hW hF
            obtain ⟨rfl, hT⟩ := hT
            refine x_astore_n (lo' := [some (.ref x0), some (.int v2), some (.int v5), some (.ref a22), none]) dX11_call_46 rfl (Nat.le_of_ble_eq_true rfl) rfl rfl ?_
            refine x_aload_n dX11_call_47 rfl rfl rfl ?_
            refine x_iload_n dX11_call_48 rfl rfl ?_
            obtain ⟨k27, hc, hj, h30, hz, hT⟩ := hT
            refine c_fputG dX11_call_49 f_TallySlate_Reader_337 hc hj h30 hz (Or.inl rfl) rfl rfl hW hF ?_
            intro f26 ef26 h hW hF
            replace hT := hT f26 ef26
            refine x_iload_n dX11_call_52 rfl rfl ?_
            refine x_if_ge (tgt := 61) dX11_call_53 rfl (fun c => ?_) (fun c => ?_)
            · replace hT := hT.1 c
              refine Ex.wkl (lo' := [some (.ref x0), none, some (.int v5), some (.ref a22), none]) ⟨rfl, rfl, rfl, trivial⟩ ?_
              exact hT f0 h hW hF
            · replace hT := hT.2 c
              refine x_aload_n dX11_call_56 rfl rfl rfl ?_
              refine x_aload_n dX11_call_57 rfl rfl rfl ?_
              obtain ⟨hc, hT⟩ := hT
              obtain ⟨cc, hcc⟩ := hW.ocell hc
              refine c_invV (vs := [.ref a22]) dX11_call_58 oX11_remember q1065 q1063 hcc qs24 (Or.inl rfl) rfl rfl (Nat.le_of_ble_eq_true rfl) rfl hW hF hT ?_ ?_
              · intro _ s28 f29 hT h hW hF
                obtain ⟨rfl, hT⟩ := hT
                refine Ex.wkl (lo' := [some (.ref x0), none, some (.int v5), some (.ref a22), none]) ⟨rfl, rfl, rfl, trivial⟩ ?_
                exact hT f0 h hW hF
              · intro k s28 f29 hT h a hW hx hF
                exact c_out (rfl) hW hx hF hT
          · intro k s24 f25 hT h a hW hx hF
            exact c_out (rfl) hW hx hF hT
        · replace hT := hT.2 c
          refine x_iconst (v := 0) dX11_call_38 rfl ?_
          refine x_goto (tgt := 43) dX11_call_39 rfl ?_
          refine c_invI (b := a22) (vs := [.int 0]) dX11_call_43 oX21_init rfl rfl rfl q1036 (Or.inl q1035) rfl rfl (Nat.le_of_ble_eq_true rfl) rfl hW hF hT ?_ ?_
          · intro _ s31 f32 hT h hW hF
            obtain ⟨rfl, hT⟩ := hT
            refine x_astore_n (lo' := [some (.ref x0), some (.int v2), some (.int v5), some (.ref a22), none]) dX11_call_46 rfl (Nat.le_of_ble_eq_true rfl) rfl rfl ?_
            refine x_aload_n dX11_call_47 rfl rfl rfl ?_
            refine x_iload_n dX11_call_48 rfl rfl ?_
            obtain ⟨k34, hc, hj, h30, hz, hT⟩ := hT
            refine c_fputG dX11_call_49 f_TallySlate_Reader_337 hc hj h30 hz (Or.inl rfl) rfl rfl hW hF ?_
            intro f33 ef33 h hW hF
            replace hT := hT f33 ef33
            refine x_iload_n dX11_call_52 rfl rfl ?_
            refine x_if_ge (tgt := 61) dX11_call_53 rfl (fun c => ?_) (fun c => ?_)
            · replace hT := hT.1 c
              refine Ex.wkl (lo' := [some (.ref x0), none, some (.int v5), some (.ref a22), none]) ⟨rfl, rfl, rfl, trivial⟩ ?_
              exact hT f0 h hW hF
            · replace hT := hT.2 c
              refine x_aload_n dX11_call_56 rfl rfl rfl ?_
              refine x_aload_n dX11_call_57 rfl rfl rfl ?_
              obtain ⟨hc, hT⟩ := hT
              obtain ⟨cc, hcc⟩ := hW.ocell hc
              refine c_invV (vs := [.ref a22]) dX11_call_58 oX11_remember q1065 q1063 hcc qs24 (Or.inl rfl) rfl rfl (Nat.le_of_ble_eq_true rfl) rfl hW hF hT ?_ ?_
              · intro _ s35 f36 hT h hW hF
                obtain ⟨rfl, hT⟩ := hT
                refine Ex.wkl (lo' := [some (.ref x0), none, some (.int v5), some (.ref a22), none]) ⟨rfl, rfl, rfl, trivial⟩ ?_
                exact hT f0 h hW hF
              · intro k s35 f36 hT h a hW hx hF
                exact c_out (rfl) hW hx hF hT
          · intro k s31 f32 hT h a hW hx hF
            exact c_out (rfl) hW hx hF hT
      · replace hT := hT.2 c
        refine x_aload_n dX11_call_23 rfl rfl rfl ?_
        refine x_iload_n dX11_call_24 rfl rfl ?_
        refine x_iload_n dX11_call_25 rfl rfl ?_
        obtain ⟨hc, hT⟩ := hT
        obtain ⟨cc, hcc⟩ := hW.ocell hc
        refine c_invV (vs := [.int v5, .int v2]) dX11_call_26 oX11_builtIn_2 q1009 q1007 hcc qs22 (Or.inl rfl) rfl rfl (Nat.le_of_ble_eq_true rfl) rfl hW hF hT ?_ ?_
        · intro _ s38 f39 hT h hW hF
          obtain ⟨a40, rfl, hT⟩ := hT
          exact x_aret dX11_call_29 rfl (by first | exact Or.inl ⟨_, rfl⟩ | exact Or.inr ⟨_, rfl⟩) rfl ⟨_, _, hW, hF, Or.inl ⟨_, rfl, hT⟩⟩
        · intro k s38 f39 hT h a hW hx hF
          exact c_out (rfl) hW hx hF hT
  · intro k s3 f4 hT h a hW hx hF
    exact c_out (rfl) hW hx hF hT
theorem eX11_call {l : Launch} {E : EN} {w : CO} {d : Nat} {s : CS} {f : RH} {Q : KO → CS → RH → Prop} {x0 : Nat}  (hst : l.stackTraces = false) (hT : (oc f x0 11 ∧ (∃ a1 : Nat, vl f x0 147 = .ref a1 ∧ (oc f a1 2 ∧ (∃ v2 : Int32, vl f a1 21 = .int v2 ∧ (oc f x0 11 ∧ EvC l E w d MX11_builtIn [.ref x0] s f (fun o s3 f4 => KP o (fun r => ∃ v5 : Int32, r = some (.int v5) ∧ ((v5 < 0 → (rmF E f4 1 7 ∧ ∀ (a6 : Nat) (f7 : RH), a6 = f4.1 → f7 = fnew f4 19 → ((0 ≤ v5 → (EvC l E w d MX21_init [.ref a6, .int v5] s3 f7 (fun o s8 f9 => KP o (fun r => r = none ∧ (∃ k11 : Nat, oc f9 a6 k11 ∧ 165 ∈ CF k11 ∧ ¬ k11 = 30 ∧ f9.2.2.2 ≤ a6 ∧ ∀ f10 : RH, f10 = fset f9 a6 165 (.int v2) → ((0 ≤ v5 → ExC l E w (d + 1) MX11_call 61 [some (.ref x0), none, some (.int v5), some (.ref a6), none] [] s8 f10 Q) ∧ (¬ 0 ≤ v5 → (oc f10 x0 11 ∧ EvC l E w d MX11_remember [.ref x0, .ref a6] s8 f10 (fun o s12 f13 => KP o (fun r => r = none ∧ ExC l E w (d + 1) MX11_call 61 [some (.ref x0), none, some (.int v5), some (.ref a6), none] [] s12 f13 Q) (fun k => Q (.inr k) s12 f13))))))) (fun k => Q (.inr k) s8 f9)))) ∧ (¬ 0 ≤ v5 → (EvC l E w d MX21_init [.ref a6, .int 0] s3 f7 (fun o s15 f16 => KP o (fun r => r = none ∧ (∃ k18 : Nat, oc f16 a6 k18 ∧ 165 ∈ CF k18 ∧ ¬ k18 = 30 ∧ f16.2.2.2 ≤ a6 ∧ ∀ f17 : RH, f17 = fset f16 a6 165 (.int v2) → ((0 ≤ v5 → ExC l E w (d + 1) MX11_call 61 [some (.ref x0), none, some (.int v5), some (.ref a6), none] [] s15 f17 Q) ∧ (¬ 0 ≤ v5 → (oc f17 x0 11 ∧ EvC l E w d MX11_remember [.ref x0, .ref a6] s15 f17 (fun o s19 f20 => KP o (fun r => r = none ∧ ExC l E w (d + 1) MX11_call 61 [some (.ref x0), none, some (.int v5), some (.ref a6), none] [] s19 f20 Q) (fun k => Q (.inr k) s19 f20))))))) (fun k => Q (.inr k) s15 f16))))))) ∧ (¬ v5 < 0 → ((28 ≤ v5 → (rmF E f4 1 7 ∧ ∀ (a22 : Nat) (f23 : RH), a22 = f4.1 → f23 = fnew f4 19 → ((0 ≤ v5 → (EvC l E w d MX21_init [.ref a22, .int v5] s3 f23 (fun o s24 f25 => KP o (fun r => r = none ∧ (∃ k27 : Nat, oc f25 a22 k27 ∧ 165 ∈ CF k27 ∧ ¬ k27 = 30 ∧ f25.2.2.2 ≤ a22 ∧ ∀ f26 : RH, f26 = fset f25 a22 165 (.int v2) → ((0 ≤ v5 → ExC l E w (d + 1) MX11_call 61 [some (.ref x0), none, some (.int v5), some (.ref a22), none] [] s24 f26 Q) ∧ (¬ 0 ≤ v5 → (oc f26 x0 11 ∧ EvC l E w d MX11_remember [.ref x0, .ref a22] s24 f26 (fun o s28 f29 => KP o (fun r => r = none ∧ ExC l E w (d + 1) MX11_call 61 [some (.ref x0), none, some (.int v5), some (.ref a22), none] [] s28 f29 Q) (fun k => Q (.inr k) s28 f29))))))) (fun k => Q (.inr k) s24 f25)))) ∧ (¬ 0 ≤ v5 → (EvC l E w d MX21_init [.ref a22, .int 0] s3 f23 (fun o s31 f32 => KP o (fun r => r = none ∧ (∃ k34 : Nat, oc f32 a22 k34 ∧ 165 ∈ CF k34 ∧ ¬ k34 = 30 ∧ f32.2.2.2 ≤ a22 ∧ ∀ f33 : RH, f33 = fset f32 a22 165 (.int v2) → ((0 ≤ v5 → ExC l E w (d + 1) MX11_call 61 [some (.ref x0), none, some (.int v5), some (.ref a22), none] [] s31 f33 Q) ∧ (¬ 0 ≤ v5 → (oc f33 x0 11 ∧ EvC l E w d MX11_remember [.ref x0, .ref a22] s31 f33 (fun o s35 f36 => KP o (fun r => r = none ∧ ExC l E w (d + 1) MX11_call 61 [some (.ref x0), none, some (.int v5), some (.ref a22), none] [] s35 f36 Q) (fun k => Q (.inr k) s35 f36))))))) (fun k => Q (.inr k) s31 f32))))))) ∧ (¬ 28 ≤ v5 → (oc f4 x0 11 ∧ EvC l E w d MX11_builtIn_2 [.ref x0, .int v5, .int v2] s3 f4 (fun o s38 f39 => KP o (fun r => ∃ a40 : Nat, r = some (.ref a40) ∧ Q (.inl (some (.ref a40))) s38 f39) (fun k => Q (.inr k) s38 f39)))))))) (fun k => Q (.inr k) s3 f4)))))))) : EvC l E w (d + 1) MX11_call [.ref x0] s f Q :=
  EvC.of hst (by decide) (Nat.le_of_ble_eq_true rfl) (vX11_call_0  hT)
set_option maxHeartbeats 16000000 in
theorem vX11_call_61 {l : Launch} {E : EN} {w : CO} {d : Nat} {s : CS} {f : RH} {Q : KO → CS → RH → Prop} {b0 : Nat} {b2 : Int32} {b3 : Nat}  (hT : (oc f b0 11 ∧ (∃ a43 : Nat, vl f b0 147 = .ref a43 ∧ (oc f a43 2 ∧ EvC l E w d MX2_next [.ref a43] s f (fun o s44 f45 => KP o (fun r => r = none ∧ (oc f45 b0 11 ∧ (∃ a46 : Nat, vl f45 b0 147 = .ref a46 ∧ (oc f45 a46 2 ∧ EvC l E w d MX2_take [.ref a46, .int 40] s44 f45 (fun o s47 f48 => KP o (fun r => r = none ∧ ((b2 < 0 → (oc f48 b0 11 ∧ (∃ a49 : Nat, vl f48 b0 147 = .ref a49 ∧ (oc f48 a49 2 ∧ EvC l E w d MX2_is [.ref a49, .int 41] s47 f48 (fun o s50 f51 => KP o (fun r => ∃ v52 : Int32, r = some (.int v52) ∧ ((¬ v52 = 0 → ExC l E w (d + 1) MX11_call 182 [some (.ref b0), none, none, some (.ref b3), some (.int 0)] [] s50 f51 Q) ∧ (v52 = 0 → ExC l E w (d + 1) MX11_call 182 [some (.ref b0), none, none, some (.ref b3), some (.int 1)] [] s50 f51 Q))) (fun k => Q (.inr k) s50 f51)))))) ∧ (¬ b2 < 0 → (oc f48 b0 11 ∧ EvC l E w d MX11_wantName [.ref b0] s47 f48 (fun o s54 f55 => KP o (fun r => r = none ∧ (oc f55 b0 11 ∧ EvC l E w d MX11_remember [.ref b0, .ref b3] s54 f55 (fun o s56 f57 => KP o (fun r => r = none ∧ ((¬ b2 = 28 → (oc f57 b3 19 ∧ f57.2.2.2 ≤ b3 ∧ ∀ f58 : RH, f58 = fset f57 b3 177 (.int 2) → (oc f58 b0 11 ∧ (∃ a59 : Nat, vl f58 b0 147 = .ref a59 ∧ (oc f58 a59 2 ∧ EvC l E w d MX2_next [.ref a59] s56 f58 (fun o s60 f61 => KP o (fun r => r = none ∧ ExC l E w (d + 1) MX11_call 115 [some (.ref b0), none, none, some (.ref b3), some (.int 0)] [] s60 f61 Q) (fun k => Q (.inr k) s60 f61))))))) ∧ (b2 = 28 → (oc f57 b3 19 ∧ f57.2.2.2 ≤ b3 ∧ ∀ f63 : RH, f63 = fset f57 b3 177 (.int 1) → (oc f63 b0 11 ∧ (∃ a64 : Nat, vl f63 b0 147 = .ref a64 ∧ (oc f63 a64 2 ∧ EvC l E w d MX2_next [.ref a64] s56 f63 (fun o s65 f66 => KP o (fun r => r = none ∧ ExC l E w (d + 1) MX11_call 115 [some (.ref b0), none, none, some (.ref b3), some (.int 0)] [] s65 f66 Q) (fun k => Q (.inr k) s65 f66))))))))) (fun k => Q (.inr k) s56 f57)))) (fun k => Q (.inr k) s54 f55)))))) (fun k => Q (.inr k) s47 f48)))))) (fun k => Q (.inr k) s44 f45)))))) : ExC l E w (d + 1) MX11_call 61 [some (.ref b0), none, some (.int b2), some (.ref b3), none] [] s f Q := by
  intro f0 h hW hF
  refine x_aload_n dX11_call_61 rfl rfl rfl ?_
  obtain ⟨hc, hT⟩ := hT
  obtain ⟨a43, ev, hT⟩ := hT
  refine c_fgetG dX11_call_62 f_TallySlate_Reader_23 hc (by decide) (by decide) hW ev ?_
  obtain ⟨hc, hT⟩ := hT
  obtain ⟨cc, hcc⟩ := hW.ocell hc
  refine c_invV (vs := []) dX11_call_65 oX2_next q610 q609 hcc q611 (Or.inl rfl) rfl rfl (Nat.le_of_ble_eq_true rfl) rfl hW hF hT ?_ ?_
  · intro _ s44 f45 hT h hW hF
    obtain ⟨rfl, hT⟩ := hT
    refine x_aload_n dX11_call_68 rfl rfl rfl ?_
    obtain ⟨hc, hT⟩ := hT
    obtain ⟨a46, ev, hT⟩ := hT
    refine c_fgetG dX11_call_69 f_TallySlate_Reader_23 hc (by decide) (by decide) hW ev ?_
    refine x_bipush (v := 40) dX11_call_72 rfl ?_
    obtain ⟨hc, hT⟩ := hT
    obtain ⟨cc, hcc⟩ := hW.ocell hc
    refine c_invV (vs := [.int 40]) dX11_call_74 oX2_take q816 q815 hcc q817 (Or.inl rfl) rfl rfl (Nat.le_of_ble_eq_true rfl) rfl hW hF hT ?_ ?_
    · intro _ s47 f48 hT h hW hF
      obtain ⟨rfl, hT⟩ := hT
      refine x_iload_n dX11_call_77 rfl rfl ?_
      refine x_if_lt (tgt := 163) dX11_call_78 rfl (fun c => ?_) (fun c => ?_)
      · replace hT := hT.1 c
        refine x_aload_n dX11_call_163 rfl rfl rfl ?_
        obtain ⟨hc, hT⟩ := hT
        obtain ⟨a49, ev, hT⟩ := hT
        refine c_fgetG dX11_call_164 f_TallySlate_Reader_23 hc (by decide) (by decide) hW ev ?_
        refine x_bipush (v := 41) dX11_call_167 rfl ?_
        obtain ⟨hc, hT⟩ := hT
        obtain ⟨cc, hcc⟩ := hW.ocell hc
        refine c_invV (vs := [.int 41]) dX11_call_169 oX2_is q820 q824 hcc q821 (Or.inl rfl) rfl rfl (Nat.le_of_ble_eq_true rfl) rfl hW hF hT ?_ ?_
        · intro _ s50 f51 hT h hW hF
          obtain ⟨v52, rfl, hT⟩ := hT
          refine x_if_ne (tgt := 179) dX11_call_172 rfl (fun c => ?_) (fun c => ?_)
          · replace hT := hT.1 c
            refine x_iconst (v := 0) dX11_call_179 rfl ?_
            refine x_istore (lo' := [some (.ref b0), none, some (.int b2), some (.ref b3), some (.int 0)]) dX11_call_180 (Nat.le_of_ble_eq_true rfl) rfl ?_
            refine Ex.wkl (lo' := [some (.ref b0), none, none, some (.ref b3), some (.int 0)]) ⟨rfl, rfl, rfl, trivial⟩ ?_
            exact hT f0 h hW hF
          · replace hT := hT.2 c
            refine x_iconst (v := 1) dX11_call_175 rfl ?_
            refine x_goto (tgt := 180) dX11_call_176 rfl ?_
            refine x_istore (lo' := [some (.ref b0), none, some (.int b2), some (.ref b3), some (.int 1)]) dX11_call_180 (Nat.le_of_ble_eq_true rfl) rfl ?_
            refine Ex.wkl (lo' := [some (.ref b0), none, none, some (.ref b3), some (.int 1)]) ⟨rfl, rfl, rfl, trivial⟩ ?_
            exact hT f0 h hW hF
        · intro k s50 f51 hT h a hW hx hF
          exact c_out (rfl) hW hx hF hT
      · replace hT := hT.2 c
        refine x_aload_n dX11_call_81 rfl rfl rfl ?_
        obtain ⟨hc, hT⟩ := hT
        obtain ⟨cc, hcc⟩ := hW.ocell hc
        refine c_invV (vs := []) dX11_call_82 oX11_wantName q758 q756 hcc qs7 (Or.inl rfl) rfl rfl (Nat.le_of_ble_eq_true rfl) rfl hW hF hT ?_ ?_
        · intro _ s54 f55 hT h hW hF
          obtain ⟨rfl, hT⟩ := hT
          refine x_aload_n dX11_call_85 rfl rfl rfl ?_
          refine x_aload_n dX11_call_86 rfl rfl rfl ?_
          obtain ⟨hc, hT⟩ := hT
          obtain ⟨cc, hcc⟩ := hW.ocell hc
          refine c_invV (vs := [.ref b3]) dX11_call_87 oX11_remember q1065 q1063 hcc qs24 (Or.inl rfl) rfl rfl (Nat.le_of_ble_eq_true rfl) rfl hW hF hT ?_ ?_
          · intro _ s56 f57 hT h hW hF
            obtain ⟨rfl, hT⟩ := hT
            refine x_aload_n dX11_call_90 rfl rfl rfl ?_
            refine x_iload_n dX11_call_91 rfl rfl ?_
            refine x_bipush (v := 28) dX11_call_92 rfl ?_
            refine x_icmp_ne (tgt := 101) dX11_call_94 rfl (fun c => ?_) (fun c => ?_)
            · replace hT := hT.1 c
              refine x_iconst (v := 2) dX11_call_101 rfl ?_
              obtain ⟨hc, hz, hT⟩ := hT
              refine c_fputG dX11_call_102 f_TallySlate_Reader_73 hc (by decide) (by decide) hz (Or.inl rfl) rfl rfl hW hF ?_
              intro f58 ef58 h hW hF
              replace hT := hT f58 ef58
              refine x_aload_n dX11_call_105 rfl rfl rfl ?_
              obtain ⟨hc, hT⟩ := hT
              obtain ⟨a59, ev, hT⟩ := hT
              refine c_fgetG dX11_call_106 f_TallySlate_Reader_23 hc (by decide) (by decide) hW ev ?_
              obtain ⟨hc, hT⟩ := hT
              obtain ⟨cc, hcc⟩ := hW.ocell hc
              refine c_invV (vs := []) dX11_call_109 oX2_next q610 q609 hcc q611 (Or.inl rfl) rfl rfl (Nat.le_of_ble_eq_true rfl) rfl hW hF hT ?_ ?_
              · intro _ s60 f61 hT h hW hF
                obtain ⟨rfl, hT⟩ := hT
                refine x_iconst (v := 0) dX11_call_112 rfl ?_
                refine x_istore (lo' := [some (.ref b0), none, some (.int b2), some (.ref b3), some (.int 0)]) dX11_call_113 (Nat.le_of_ble_eq_true rfl) rfl ?_
                refine Ex.wkl (lo' := [some (.ref b0), none, none, some (.ref b3), some (.int 0)]) ⟨rfl, rfl, rfl, trivial⟩ ?_
                exact hT f0 h hW hF
              · intro k s60 f61 hT h a hW hx hF
                exact c_out (rfl) hW hx hF hT
            · replace hT := hT.2 c
              refine x_iconst (v := 1) dX11_call_97 rfl ?_
              refine x_goto (tgt := 102) dX11_call_98 rfl ?_
              obtain ⟨hc, hz, hT⟩ := hT
              refine c_fputG dX11_call_102 f_TallySlate_Reader_73 hc (by decide) (by decide) hz (Or.inl rfl) rfl rfl hW hF ?_
              intro f63 ef63 h hW hF
              replace hT := hT f63 ef63
              refine x_aload_n dX11_call_105 rfl rfl rfl ?_
              obtain ⟨hc, hT⟩ := hT
              obtain ⟨a64, ev, hT⟩ := hT
              refine c_fgetG dX11_call_106 f_TallySlate_Reader_23 hc (by decide) (by decide) hW ev ?_
              obtain ⟨hc, hT⟩ := hT
              obtain ⟨cc, hcc⟩ := hW.ocell hc
              refine c_invV (vs := []) dX11_call_109 oX2_next q610 q609 hcc q611 (Or.inl rfl) rfl rfl (Nat.le_of_ble_eq_true rfl) rfl hW hF hT ?_ ?_
              · intro _ s65 f66 hT h hW hF
                obtain ⟨rfl, hT⟩ := hT
                refine x_iconst (v := 0) dX11_call_112 rfl ?_
                refine x_istore (lo' := [some (.ref b0), none, some (.int b2), some (.ref b3), some (.int 0)]) dX11_call_113 (Nat.le_of_ble_eq_true rfl) rfl ?_
                refine Ex.wkl (lo' := [some (.ref b0), none, none, some (.ref b3), some (.int 0)]) ⟨rfl, rfl, rfl, trivial⟩ ?_
                exact hT f0 h hW hF
              · intro k s65 f66 hT h a hW hx hF
                exact c_out (rfl) hW hx hF hT
          · intro k s56 f57 hT h a hW hx hF
            exact c_out (rfl) hW hx hF hT
        · intro k s54 f55 hT h a hW hx hF
          exact c_out (rfl) hW hx hF hT
    · intro k s47 f48 hT h a hW hx hF
      exact c_out (rfl) hW hx hF hT
  · intro k s44 f45 hT h a hW hx hF
    exact c_out (rfl) hW hx hF hT
set_option maxHeartbeats 16000000 in
theorem vX11_call_182 {l : Launch} {E : EN} {w : CO} {d : Nat} {s : CS} {f : RH} {Q : KO → CS → RH → Prop} {b0 : Nat} {b3 : Nat} {b4 : Int32}  (hT : ((b4 = 0 → (oc f b0 11 ∧ (∃ a72 : Nat, vl f b0 147 = .ref a72 ∧ (oc f a72 2 ∧ EvC l E w d MX2_take [.ref a72, .int 41] s f (fun o s73 f74 => KP o (fun r => r = none ∧ (oc f74 b3 19 ∧ (∃ a75 : Nat, vl f74 b3 179 = .ref a75 ∧ (oc f74 a75 17 ∧ (∃ v76 : Int32, vl f74 a75 171 = .int v76 ∧ (oc f74 b3 19 ∧ f74.2.2.2 ≤ b3 ∧ ∀ f77 : RH, f77 = fset f74 b3 177 (.int v76) → Q (.inl (some (.ref b3))) s73 f77)))))) (fun k => Q (.inr k) s73 f74)))))) ∧ (¬ b4 = 0 → (oc f b3 19 ∧ (∃ a79 : Nat, vl f b3 179 = .ref a79 ∧ (oc f b0 11 ∧ EvC l E w d MX11_expression [.ref b0] s f (fun o s80 f81 => KP o (fun r => ∃ a82 : Nat, r = some (.ref a82) ∧ (oc f81 a79 17 ∧ EvC l E w d MX19_add [.ref a79, .ref a82, .int 0, .int 0] s80 f81 (fun o s83 f84 => KP o (fun r => r = none ∧ (oc f84 b0 11 ∧ (∃ a85 : Nat, vl f84 b0 147 = .ref a85 ∧ (oc f84 a85 2 ∧ EvC l E w d MX2_is [.ref a85, .int 44] s83 f84 (fun o s86 f87 => KP o (fun r => ∃ v88 : Int32, r = some (.int v88) ∧ ((v88 = 0 → ExC l E w (d + 1) MX11_call 182 [some (.ref b0), none, none, some (.ref b3), some (.int v88)] [] s86 f87 Q) ∧ (¬ v88 = 0 → (oc f87 b0 11 ∧ (∃ a89 : Nat, vl f87 b0 147 = .ref a89 ∧ (oc f87 a89 2 ∧ EvC l E w d MX2_next [.ref a89] s86 f87 (fun o s90 f91 => KP o (fun r => r = none ∧ ExC l E w (d + 1) MX11_call 182 [some (.ref b0), none, none, some (.ref b3), some (.int v88)] [] s90 f91 Q) (fun k => Q (.inr k) s90 f91)))))))) (fun k => Q (.inr k) s86 f87)))))) (fun k => Q (.inr k) s83 f84)))) (fun k => Q (.inr k) s80 f81)))))))) : ExC l E w (d + 1) MX11_call 182 [some (.ref b0), none, none, some (.ref b3), some (.int b4)] [] s f Q := by
  intro f0 h hW hF
  refine x_iload dX11_call_182 rfl ?_
  refine x_if_eq (tgt := 226) dX11_call_184 rfl (fun c => ?_) (fun c => ?_)
  · replace hT := hT.1 c
    refine x_aload_n dX11_call_226 rfl rfl rfl ?_
    obtain ⟨hc, hT⟩ := hT
    obtain ⟨a72, ev, hT⟩ := hT
    refine c_fgetG dX11_call_227 f_TallySlate_Reader_23 hc (by decide) (by decide) hW ev ?_
    refine x_bipush (v := 41) dX11_call_230 rfl ?_
    obtain ⟨hc, hT⟩ := hT
    obtain ⟨cc, hcc⟩ := hW.ocell hc
    refine c_invV (vs := [.int 41]) dX11_call_232 oX2_take q816 q815 hcc q817 (Or.inl rfl) rfl rfl (Nat.le_of_ble_eq_true rfl) rfl hW hF hT ?_ ?_
    · intro _ s73 f74 hT h hW hF
      obtain ⟨rfl, hT⟩ := hT
      refine x_aload_n dX11_call_235 rfl rfl rfl ?_
      refine x_aload_n dX11_call_236 rfl rfl rfl ?_
      obtain ⟨hc, hT⟩ := hT
      obtain ⟨a75, ev, hT⟩ := hT
      refine c_fgetG dX11_call_237 f_TallySlate_Reader_341 hc (by decide) (by decide) hW ev ?_
      obtain ⟨hc, hT⟩ := hT
      obtain ⟨v76, ev, hT⟩ := hT
      refine c_fgetG dX11_call_240 f_TallySlate_Reader_342 hc (by decide) (by decide) hW ev ?_
      obtain ⟨hc, hz, hT⟩ := hT
      refine c_fputG dX11_call_243 f_TallySlate_Reader_73 hc (by decide) (by decide) hz (Or.inl rfl) rfl rfl hW hF ?_
      intro f77 ef77 h hW hF
      replace hT := hT f77 ef77
      refine x_aload_n dX11_call_246 rfl rfl rfl ?_
      exact x_aret dX11_call_247 rfl (by first | exact Or.inl ⟨_, rfl⟩ | exact Or.inr ⟨_, rfl⟩) rfl ⟨_, _, hW, hF, Or.inl ⟨_, rfl, hT⟩⟩
    · intro k s73 f74 hT h a hW hx hF
      exact c_out (rfl) hW hx hF hT
  · replace hT := hT.2 c
    refine x_aload_n dX11_call_187 rfl rfl rfl ?_
    obtain ⟨hc, hT⟩ := hT
    obtain ⟨a79, ev, hT⟩ := hT
    refine c_fgetG dX11_call_188 f_TallySlate_Reader_341 hc (by decide) (by decide) hW ev ?_
    refine x_aload_n dX11_call_191 rfl rfl rfl ?_
    obtain ⟨hc, hT⟩ := hT
    obtain ⟨cc, hcc⟩ := hW.ocell hc
    refine c_invV (vs := []) dX11_call_192 oX11_expression q893 q891 hcc qs14 (Or.inl rfl) rfl rfl (Nat.le_of_ble_eq_true rfl) rfl hW hF hT ?_ ?_
    · intro _ s80 f81 hT h hW hF
      obtain ⟨a82, rfl, hT⟩ := hT
      refine x_iconst (v := 0) dX11_call_195 rfl ?_
      refine x_iconst (v := 0) dX11_call_196 rfl ?_
      obtain ⟨hc, hT⟩ := hT
      obtain ⟨cc, hcc⟩ := hW.ocell hc
      refine c_invV (vs := [.ref a82, .int 0, .int 0]) dX11_call_197 oX19_add q992 q991 hcc q993 (Or.inl rfl) rfl rfl (Nat.le_of_ble_eq_true rfl) rfl hW hF hT ?_ ?_
      · intro _ s83 f84 hT h hW hF
        obtain ⟨rfl, hT⟩ := hT
        refine x_aload_n dX11_call_200 rfl rfl rfl ?_
        obtain ⟨hc, hT⟩ := hT
        obtain ⟨a85, ev, hT⟩ := hT
        refine c_fgetG dX11_call_201 f_TallySlate_Reader_23 hc (by decide) (by decide) hW ev ?_
        refine x_bipush (v := 44) dX11_call_204 rfl ?_
        obtain ⟨hc, hT⟩ := hT
        obtain ⟨cc, hcc⟩ := hW.ocell hc
        refine c_invV (vs := [.int 44]) dX11_call_206 oX2_is q820 q824 hcc q821 (Or.inl rfl) rfl rfl (Nat.le_of_ble_eq_true rfl) rfl hW hF hT ?_ ?_
        · intro _ s86 f87 hT h hW hF
          obtain ⟨v88, rfl, hT⟩ := hT
          refine x_istore (lo' := [some (.ref b0), none, none, some (.ref b3), some (.int v88)]) dX11_call_209 (Nat.le_of_ble_eq_true rfl) rfl ?_
          refine x_iload dX11_call_211 rfl ?_
          refine x_if_eq (tgt := 182) dX11_call_213 rfl (fun c => ?_) (fun c => ?_)
          · replace hT := hT.1 c
            exact hT f0 h hW hF
          · replace hT := hT.2 c
            refine x_aload_n dX11_call_216 rfl rfl rfl ?_
            obtain ⟨hc, hT⟩ := hT
            obtain ⟨a89, ev, hT⟩ := hT
            refine c_fgetG dX11_call_217 f_TallySlate_Reader_23 hc (by decide) (by decide) hW ev ?_
            obtain ⟨hc, hT⟩ := hT
            obtain ⟨cc, hcc⟩ := hW.ocell hc
            refine c_invV (vs := []) dX11_call_220 oX2_next q610 q609 hcc q611 (Or.inl rfl) rfl rfl (Nat.le_of_ble_eq_true rfl) rfl hW hF hT ?_ ?_
            · intro _ s90 f91 hT h hW hF
              obtain ⟨rfl, hT⟩ := hT
              refine x_goto (tgt := 182) dX11_call_223 rfl ?_
              exact hT f0 h hW hF
            · intro k s90 f91 hT h a hW hx hF
              exact c_out (rfl) hW hx hF hT
        · intro k s86 f87 hT h a hW hx hF
          exact c_out (rfl) hW hx hF hT
      · intro k s83 f84 hT h a hW hx hF
        exact c_out (rfl) hW hx hF hT
    · intro k s80 f81 hT h a hW hx hF
      exact c_out (rfl) hW hx hF hT
theorem vX11_call_115 {l : Launch} {E : EN} {w : CO} {d : Nat} {s : CS} {f : RH} {Q : KO → CS → RH → Prop} {b0 : Nat} {b3 : Nat} {b4 : Int32}  (hT : (oc f b3 19 ∧ (∃ v96 : Int32, vl f b3 177 = .int v96 ∧ ((v96 ≤ b4 → (oc f b0 11 ∧ (∃ a97 : Nat, vl f b0 147 = .ref a97 ∧ (oc f a97 2 ∧ EvC l E w d MX2_take [.ref a97, .int 41] s f (fun o s98 f99 => KP o (fun r => r = none ∧ Q (.inl (some (.ref b3))) s98 f99) (fun k => Q (.inr k) s98 f99)))))) ∧ (¬ v96 ≤ b4 → (oc f b0 11 ∧ (∃ a101 : Nat, vl f b0 147 = .ref a101 ∧ (oc f a101 2 ∧ EvC l E w d MX2_take [.ref a101, .int 44] s f (fun o s102 f103 => KP o (fun r => r = none ∧ (oc f103 b3 19 ∧ (∃ a104 : Nat, vl f103 b3 179 = .ref a104 ∧ (oc f103 b0 11 ∧ EvC l E w d MX11_expression [.ref b0] s102 f103 (fun o s105 f106 => KP o (fun r => ∃ a107 : Nat, r = some (.ref a107) ∧ (oc f106 a104 17 ∧ EvC l E w d MX19_add [.ref a104, .ref a107, .int 0, .int 0] s105 f106 (fun o s108 f109 => KP o (fun r => r = none ∧ ExC l E w (d + 1) MX11_call 115 [some (.ref b0), none, none, some (.ref b3), some (.int (b4 + 1))] [] s108 f109 Q) (fun k => Q (.inr k) s108 f109)))) (fun k => Q (.inr k) s105 f106)))))) (fun k => Q (.inr k) s102 f103)))))))))) : ExC l E w (d + 1) MX11_call 115 [some (.ref b0), none, none, some (.ref b3), some (.int b4)] [] s f Q := by
  intro f0 h hW hF
  refine x_iload dX11_call_115 rfl ?_
  refine x_aload_n dX11_call_117 rfl rfl rfl ?_
  obtain ⟨hc, hT⟩ := hT
  obtain ⟨v96, ev, hT⟩ := hT
  refine c_fgetG dX11_call_118 f_TallySlate_Reader_73 hc (by decide) (by decide) hW ev ?_
  refine x_icmp_ge (tgt := 152) dX11_call_121 rfl (fun c => ?_) (fun c => ?_)
  · replace hT := hT.1 c
    refine x_aload_n dX11_call_152 rfl rfl rfl ?_
    obtain ⟨hc, hT⟩ := hT
    obtain ⟨a97, ev, hT⟩ := hT
    refine c_fgetG dX11_call_153 f_TallySlate_Reader_23 hc (by decide) (by decide) hW ev ?_
    refine x_bipush (v := 41) dX11_call_156 rfl ?_
    obtain ⟨hc, hT⟩ := hT
    obtain ⟨cc, hcc⟩ := hW.ocell hc
    refine c_invV (vs := [.int 41]) dX11_call_158 oX2_take q816 q815 hcc q817 (Or.inl rfl) rfl rfl (Nat.le_of_ble_eq_true rfl) rfl hW hF hT ?_ ?_
    · intro _ s98 f99 hT h hW hF
      obtain ⟨rfl, hT⟩ := hT
      refine x_aload_n dX11_call_161 rfl rfl rfl ?_
      exact x_aret dX11_call_162 rfl (by first | exact Or.inl ⟨_, rfl⟩ | exact Or.inr ⟨_, rfl⟩) rfl ⟨_, _, hW, hF, Or.inl ⟨_, rfl, hT⟩⟩
    · intro k s98 f99 hT h a hW hx hF
      exact c_out (rfl) hW hx hF hT
  · replace hT := hT.2 c
    refine x_aload_n dX11_call_124 rfl rfl rfl ?_
    obtain ⟨hc, hT⟩ := hT
    obtain ⟨a101, ev, hT⟩ := hT
    refine c_fgetG dX11_call_125 f_TallySlate_Reader_23 hc (by decide) (by decide) hW ev ?_
    refine x_bipush (v := 44) dX11_call_128 rfl ?_
    obtain ⟨hc, hT⟩ := hT
    obtain ⟨cc, hcc⟩ := hW.ocell hc
    refine c_invV (vs := [.int 44]) dX11_call_130 oX2_take q816 q815 hcc q817 (Or.inl rfl) rfl rfl (Nat.le_of_ble_eq_true rfl) rfl hW hF hT ?_ ?_
    · intro _ s102 f103 hT h hW hF
      obtain ⟨rfl, hT⟩ := hT
      refine x_aload_n dX11_call_133 rfl rfl rfl ?_
      obtain ⟨hc, hT⟩ := hT
      obtain ⟨a104, ev, hT⟩ := hT
      refine c_fgetG dX11_call_134 f_TallySlate_Reader_341 hc (by decide) (by decide) hW ev ?_
      refine x_aload_n dX11_call_137 rfl rfl rfl ?_
      obtain ⟨hc, hT⟩ := hT
      obtain ⟨cc, hcc⟩ := hW.ocell hc
      refine c_invV (vs := []) dX11_call_138 oX11_expression q893 q891 hcc qs14 (Or.inl rfl) rfl rfl (Nat.le_of_ble_eq_true rfl) rfl hW hF hT ?_ ?_
      · intro _ s105 f106 hT h hW hF
        obtain ⟨a107, rfl, hT⟩ := hT
        refine x_iconst (v := 0) dX11_call_141 rfl ?_
        refine x_iconst (v := 0) dX11_call_142 rfl ?_
        obtain ⟨hc, hT⟩ := hT
        obtain ⟨cc, hcc⟩ := hW.ocell hc
        refine c_invV (vs := [.ref a107, .int 0, .int 0]) dX11_call_143 oX19_add q992 q991 hcc q993 (Or.inl rfl) rfl rfl (Nat.le_of_ble_eq_true rfl) rfl hW hF hT ?_ ?_
        · intro _ s108 f109 hT h hW hF
          obtain ⟨rfl, hT⟩ := hT
          refine x_iinc (lo' := [some (.ref b0), none, none, some (.ref b3), some (.int (b4 + 1))]) dX11_call_146 rfl (show _ = (b4 + 1) from rfl) rfl ?_
          refine x_goto (tgt := 115) dX11_call_149 rfl ?_
          exact hT f0 h hW hF
        · intro k s108 f109 hT h a hW hx hF
          exact c_out (rfl) hW hx hF hT
      · intro k s105 f106 hT h a hW hx hF
        exact c_out (rfl) hW hx hF hT
    · intro k s102 f103 hT h a hW hx hF
      exact c_out (rfl) hW hx hF hT
set_option maxHeartbeats 16000000 in
theorem vX11_builtIn_2_0 {l : Launch} {E : EN} {w : CO} {d : Nat} {s : CS} {f : RH} {Q : KO → CS → RH → Prop} {x0 : Nat} {x1 : Int32} {x2 : Int32}  (hT : (rmF E f 1 3 ∧ ∀ (a1 : Nat) (f2 : RH), a1 = f.1 → f2 = fnew f 18 → (EvC l E w d MX20_init [.ref a1, .int x1] s f2 (fun o s3 f4 => KP o (fun r => r = none ∧ (∃ k6 : Nat, oc f4 a1 k6 ∧ 165 ∈ CF k6 ∧ ¬ k6 = 30 ∧ f4.2.2.2 ≤ a1 ∧ ∀ f5 : RH, f5 = fset f4 a1 165 (.int x2) → (oc f5 x0 11 ∧ (∃ a7 : Nat, vl f5 x0 147 = .ref a7 ∧ (oc f5 a7 2 ∧ EvC l E w d MX2_next [.ref a7] s3 f5 (fun o s8 f9 => KP o (fun r => r = none ∧ (oc f9 x0 11 ∧ (∃ a10 : Nat, vl f9 x0 147 = .ref a10 ∧ (oc f9 a10 2 ∧ EvC l E w d MX2_take [.ref a10, .int 40] s8 f9 (fun o s11 f12 => KP o (fun r => r = none ∧ (oc f12 a1 18 ∧ (∃ a13 : Nat, vl f12 a1 173 = .ref a13 ∧ ((¬ x1 = 5 → (∃ a14 : Nat, eSV E 1 = .ref a14 ∧ (tg f12 a14 = some (.inr 0) ∧ inB x1 (ln f12 a14) ∧ (∃ v15 : Int32, vl f12 a14 x1.toNatClampNeg = .int v15 ∧ (∃ a16 : Nat, eSV E 1 = .ref a16 ∧ (tg f12 a16 = some (.inr 0) ∧ inB x1 (ln f12 a16) ∧ (∃ v17 : Int32, vl f12 a16 x1.toNatClampNeg = .int v17 ∧ (oc f12 x0 11 ∧ EvC l E w d MX11_parts [.ref x0, .ref a13, .int v15, .int v17] s11 f12 (fun o s18 f19 => KP o (fun r => r = none ∧ Q (.inl (some (.ref a1))) s18 f19) (fun k => Q (.inr k) s18 f19)))))))))) ∧ (x1 = 5 → (∃ a21 : Nat, eSV E 1 = .ref a21 ∧ (tg f12 a21 = some (.inr 0) ∧ inB x1 (ln f12 a21) ∧ (∃ v22 : Int32, vl f12 a21 x1.toNatClampNeg = .int v22 ∧ (oc f12 x0 11 ∧ EvC l E w d MX11_parts [.ref x0, .ref a13, .int 0, .int v22] s11 f12 (fun o s23 f24 => KP o (fun r => r = none ∧ Q (.inl (some (.ref a1))) s23 f24) (fun k => Q (.inr k) s23 f24))))))))))) (fun k => Q (.inr k) s11 f12)))))) (fun k => Q (.inr k) s8 f9))))))) (fun k => Q (.inr k) s3 f4))))) : ExC l E w (d + 1) MX11_builtIn_2 0 [some (.ref x0), some (.int x1), some (.int x2), none] [] s f Q := by
  intro f0 h hW hF
  obtain ⟨hr, hT⟩ := hT
  refine c_newG (k := 18) dX11_builtIn_2_0 (by decide) q1011 q193 hr hW hF ?_
  intro a1 f2 ea1 ef2 h hW hF
  replace hT := hT a1 f2 ea1 ef2
  refine x_dup dX11_builtIn_2_3 rfl ?_
  refine x_iload_n dX11_builtIn_2_4 rfl rfl ?_
  refine c_invI (b := a1) (vs := [.int x1]) dX11_builtIn_2_5 oX20_init rfl rfl rfl q1014 (Or.inl q1013) rfl rfl (Nat.le_of_ble_eq_true rfl) rfl hW hF hT ?_ ?_
  · intro _ s3 f4 hT h hW hF
    obtain ⟨rfl, hT⟩ := hT
    refine x_astore_n (lo' := [some (.ref x0), some (.int x1), some (.int x2), some (.ref a1)]) dX11_builtIn_2_8 rfl (Nat.le_of_ble_eq_true rfl) rfl rfl ?_
    refine x_aload_n dX11_builtIn_2_9 rfl rfl rfl ?_
    refine x_iload_n dX11_builtIn_2_10 rfl rfl ?_
    obtain ⟨k6, hc, hj, h30, hz, hT⟩ := hT
    refine c_fputG dX11_builtIn_2_11 f_TallySlate_Reader_346 hc hj h30 hz (Or.inl rfl) rfl rfl hW hF ?_
    intro f5 ef5 h hW hF
    replace hT := hT f5 ef5
    refine x_aload_n dX11_builtIn_2_14 rfl rfl rfl ?_
    obtain ⟨hc, hT⟩ := hT
    obtain ⟨a7, ev, hT⟩ := hT
    refine c_fgetG dX11_builtIn_2_15 f_TallySlate_Reader_23 hc (by decide) (by decide) hW ev ?_
    obtain ⟨hc, hT⟩ := hT
    obtain ⟨cc, hcc⟩ := hW.ocell hc
    refine c_invV (vs := []) dX11_builtIn_2_18 oX2_next q610 q609 hcc q611 (Or.inl rfl) rfl rfl (Nat.le_of_ble_eq_true rfl) rfl hW hF hT ?_ ?_
    · intro _ s8 f9 hT h hW hF
      obtain ⟨rfl, hT⟩ := hT
      refine x_aload_n dX11_builtIn_2_21 rfl rfl rfl ?_
      obtain ⟨hc, hT⟩ := hT
      obtain ⟨a10, ev, hT⟩ := hT
      refine c_fgetG dX11_builtIn_2_22 f_TallySlate_Reader_23 hc (by decide) (by decide) hW ev ?_
      refine x_bipush (v := 40) dX11_builtIn_2_25 rfl ?_
      obtain ⟨hc, hT⟩ := hT
      obtain ⟨cc, hcc⟩ := hW.ocell hc
      refine c_invV (vs := [.int 40]) dX11_builtIn_2_27 oX2_take q816 q815 hcc q817 (Or.inl rfl) rfl rfl (Nat.le_of_ble_eq_true rfl) rfl hW hF hT ?_ ?_
      · intro _ s11 f12 hT h hW hF
        obtain ⟨rfl, hT⟩ := hT
        refine x_aload_n dX11_builtIn_2_30 rfl rfl rfl ?_
        refine x_aload_n dX11_builtIn_2_31 rfl rfl rfl ?_
        obtain ⟨hc, hT⟩ := hT
        obtain ⟨a13, ev, hT⟩ := hT
        refine c_fgetG dX11_builtIn_2_32 f_TallySlate_Reader_347 hc (by decide) (by decide) hW ev ?_
        refine x_iload_n dX11_builtIn_2_35 rfl rfl ?_
        refine x_iconst (v := 5) dX11_builtIn_2_36 rfl ?_
        refine x_icmp_ne (tgt := 44) dX11_builtIn_2_37 rfl (fun c => ?_) (fun c => ?_)
        · replace hT := hT.1 c
          obtain ⟨a14, es, hT⟩ := hT
          refine x_getstatic (i := 1) (ref := "") dX11_builtIn_2_44 rfl (Or.inr ⟨_, q1028⟩) ?_
          rw [es]
          refine x_iload_n dX11_builtIn_2_47 rfl rfl ?_
          obtain ⟨hc, hT⟩ := hT
          obtain ⟨hb, hT⟩ := hT
          obtain ⟨v15, ev, hT⟩ := hT
          refine c_fiald dX11_builtIn_2_48 hc hb hW ev ?_
          obtain ⟨a16, es, hT⟩ := hT
          refine x_getstatic (i := 1) (ref := "") dX11_builtIn_2_49 rfl (Or.inr ⟨_, q1028⟩) ?_
          rw [es]
          refine x_iload_n dX11_builtIn_2_52 rfl rfl ?_
          obtain ⟨hc, hT⟩ := hT
          obtain ⟨hb, hT⟩ := hT
          obtain ⟨v17, ev, hT⟩ := hT
          refine c_fiald dX11_builtIn_2_53 hc hb hW ev ?_
          obtain ⟨hc, hT⟩ := hT
          obtain ⟨cc, hcc⟩ := hW.ocell hc
          refine c_invV (vs := [.ref a13, .int v15, .int v17]) dX11_builtIn_2_54 oX11_parts q1032 q1030 hcc qs23 (Or.inl rfl) rfl rfl (Nat.le_of_ble_eq_true rfl) rfl hW hF hT ?_ ?_
          · intro _ s18 f19 hT h hW hF
            obtain ⟨rfl, hT⟩ := hT
            refine x_aload_n dX11_builtIn_2_57 rfl rfl rfl ?_
            exact x_aret dX11_builtIn_2_58 rfl (by first | exact Or.inl ⟨_, rfl⟩ | exact Or.inr ⟨_, rfl⟩) rfl ⟨_, _, hW, hF, Or.inl ⟨_, rfl, hT⟩⟩
          · intro k s18 f19 hT h a hW hx hF
            exact c_out (rfl) hW hx hF hT
        · replace hT := hT.2 c
          refine x_iconst (v := 0) dX11_builtIn_2_40 rfl ?_
          refine x_goto (tgt := 49) dX11_builtIn_2_41 rfl ?_
          obtain ⟨a21, es, hT⟩ := hT
          refine x_getstatic (i := 1) (ref := "") dX11_builtIn_2_49 rfl (Or.inr ⟨_, q1028⟩) ?_
          rw [es]
          refine x_iload_n dX11_builtIn_2_52 rfl rfl ?_
          obtain ⟨hc, hT⟩ := hT
          obtain ⟨hb, hT⟩ := hT
          obtain ⟨v22, ev, hT⟩ := hT
          refine c_fiald dX11_builtIn_2_53 hc hb hW ev ?_
          obtain ⟨hc, hT⟩ := hT
          obtain ⟨cc, hcc⟩ := hW.ocell hc
          refine c_invV (vs := [.ref a13, .int 0, .int v22]) dX11_builtIn_2_54 oX11_parts q1032 q1030 hcc qs23 (Or.inl rfl) rfl rfl (Nat.le_of_ble_eq_true rfl) rfl hW hF hT ?_ ?_
          · intro _ s23 f24 hT h hW hF
            obtain ⟨rfl, hT⟩ := hT
            refine x_aload_n dX11_builtIn_2_57 rfl rfl rfl ?_
            exact x_aret dX11_builtIn_2_58 rfl (by first | exact Or.inl ⟨_, rfl⟩ | exact Or.inr ⟨_, rfl⟩) rfl ⟨_, _, hW, hF, Or.inl ⟨_, rfl, hT⟩⟩
          · intro k s23 f24 hT h a hW hx hF
            exact c_out (rfl) hW hx hF hT
      · intro k s11 f12 hT h a hW hx hF
        exact c_out (rfl) hW hx hF hT
    · intro k s8 f9 hT h a hW hx hF
      exact c_out (rfl) hW hx hF hT
  · intro k s3 f4 hT h a hW hx hF
    exact c_out (rfl) hW hx hF hT
theorem eX11_builtIn_2 {l : Launch} {E : EN} {w : CO} {d : Nat} {s : CS} {f : RH} {Q : KO → CS → RH → Prop} {x0 : Nat} {x1 : Int32} {x2 : Int32}  (hst : l.stackTraces = false) (hT : (rmF E f 1 3 ∧ ∀ (a1 : Nat) (f2 : RH), a1 = f.1 → f2 = fnew f 18 → (EvC l E w d MX20_init [.ref a1, .int x1] s f2 (fun o s3 f4 => KP o (fun r => r = none ∧ (∃ k6 : Nat, oc f4 a1 k6 ∧ 165 ∈ CF k6 ∧ ¬ k6 = 30 ∧ f4.2.2.2 ≤ a1 ∧ ∀ f5 : RH, f5 = fset f4 a1 165 (.int x2) → (oc f5 x0 11 ∧ (∃ a7 : Nat, vl f5 x0 147 = .ref a7 ∧ (oc f5 a7 2 ∧ EvC l E w d MX2_next [.ref a7] s3 f5 (fun o s8 f9 => KP o (fun r => r = none ∧ (oc f9 x0 11 ∧ (∃ a10 : Nat, vl f9 x0 147 = .ref a10 ∧ (oc f9 a10 2 ∧ EvC l E w d MX2_take [.ref a10, .int 40] s8 f9 (fun o s11 f12 => KP o (fun r => r = none ∧ (oc f12 a1 18 ∧ (∃ a13 : Nat, vl f12 a1 173 = .ref a13 ∧ ((¬ x1 = 5 → (∃ a14 : Nat, eSV E 1 = .ref a14 ∧ (tg f12 a14 = some (.inr 0) ∧ inB x1 (ln f12 a14) ∧ (∃ v15 : Int32, vl f12 a14 x1.toNatClampNeg = .int v15 ∧ (∃ a16 : Nat, eSV E 1 = .ref a16 ∧ (tg f12 a16 = some (.inr 0) ∧ inB x1 (ln f12 a16) ∧ (∃ v17 : Int32, vl f12 a16 x1.toNatClampNeg = .int v17 ∧ (oc f12 x0 11 ∧ EvC l E w d MX11_parts [.ref x0, .ref a13, .int v15, .int v17] s11 f12 (fun o s18 f19 => KP o (fun r => r = none ∧ Q (.inl (some (.ref a1))) s18 f19) (fun k => Q (.inr k) s18 f19)))))))))) ∧ (x1 = 5 → (∃ a21 : Nat, eSV E 1 = .ref a21 ∧ (tg f12 a21 = some (.inr 0) ∧ inB x1 (ln f12 a21) ∧ (∃ v22 : Int32, vl f12 a21 x1.toNatClampNeg = .int v22 ∧ (oc f12 x0 11 ∧ EvC l E w d MX11_parts [.ref x0, .ref a13, .int 0, .int v22] s11 f12 (fun o s23 f24 => KP o (fun r => r = none ∧ Q (.inl (some (.ref a1))) s23 f24) (fun k => Q (.inr k) s23 f24))))))))))) (fun k => Q (.inr k) s11 f12)))))) (fun k => Q (.inr k) s8 f9))))))) (fun k => Q (.inr k) s3 f4))))) : EvC l E w (d + 1) MX11_builtIn_2 [.ref x0, .int x1, .int x2] s f Q :=
  EvC.of hst (by decide) (Nat.le_of_ble_eq_true rfl) (vX11_builtIn_2_0  hT)
theorem vX11_parts_0 {l : Launch} {E : EN} {w : CO} {d : Nat} {s : CS} {f : RH} {Q : KO → CS → RH → Prop} {x0 : Nat} {x1 : Nat} {x2 : Int32} {x3 : Int32}  (hT : (oc f x0 11 ∧ (∃ a1 : Nat, vl f x0 147 = .ref a1 ∧ (oc f a1 2 ∧ EvC l E w d MX2_is [.ref a1, .int 41] s f (fun o s2 f3 => KP o (fun r => ∃ v4 : Int32, r = some (.int v4) ∧ ((¬ v4 = 0 → ExC l E w (d + 1) MX11_parts 19 [some (.ref x0), some (.ref x1), some (.int x2), some (.int x3), some (.int 0)] [] s2 f3 Q) ∧ (v4 = 0 → ExC l E w (d + 1) MX11_parts 19 [some (.ref x0), some (.ref x1), some (.int x2), some (.int x3), some (.int 1)] [] s2 f3 Q))) (fun k => Q (.inr k) s2 f3)))))) : ExC l E w (d + 1) MX11_parts 0 [some (.ref x0), some (.ref x1), some (.int x2), some (.int x3), none] [] s f Q := by
  intro f0 h hW hF
  refine x_aload_n dX11_parts_0 rfl rfl rfl ?_
  obtain ⟨hc, hT⟩ := hT
  obtain ⟨a1, ev, hT⟩ := hT
  refine c_fgetG dX11_parts_1 f_TallySlate_Reader_23 hc (by decide) (by decide) hW ev ?_
  refine x_bipush (v := 41) dX11_parts_4 rfl ?_
  obtain ⟨hc, hT⟩ := hT
  obtain ⟨cc, hcc⟩ := hW.ocell hc
  refine c_invV (vs := [.int 41]) dX11_parts_6 oX2_is q820 q824 hcc q821 (Or.inl rfl) rfl rfl (Nat.le_of_ble_eq_true rfl) rfl hW hF hT ?_ ?_
  · intro _ s2 f3 hT h hW hF
    obtain ⟨v4, rfl, hT⟩ := hT
    refine x_if_ne (tgt := 16) dX11_parts_9 rfl (fun c => ?_) (fun c => ?_)
    · replace hT := hT.1 c
      refine x_iconst (v := 0) dX11_parts_16 rfl ?_
      refine x_istore (lo' := [some (.ref x0), some (.ref x1), some (.int x2), some (.int x3), some (.int 0)]) dX11_parts_17 (Nat.le_of_ble_eq_true rfl) rfl ?_
      exact hT f0 h hW hF
    · replace hT := hT.2 c
      refine x_iconst (v := 1) dX11_parts_12 rfl ?_
      refine x_goto (tgt := 17) dX11_parts_13 rfl ?_
      refine x_istore (lo' := [some (.ref x0), some (.ref x1), some (.int x2), some (.int x3), some (.int 1)]) dX11_parts_17 (Nat.le_of_ble_eq_true rfl) rfl ?_
      exact hT f0 h hW hF
  · intro k s2 f3 hT h a hW hx hF
    exact c_out (rfl) hW hx hF hT
theorem eX11_parts {l : Launch} {E : EN} {w : CO} {d : Nat} {s : CS} {f : RH} {Q : KO → CS → RH → Prop} {x0 : Nat} {x1 : Nat} {x2 : Int32} {x3 : Int32}  (hst : l.stackTraces = false) (hT : (oc f x0 11 ∧ (∃ a1 : Nat, vl f x0 147 = .ref a1 ∧ (oc f a1 2 ∧ EvC l E w d MX2_is [.ref a1, .int 41] s f (fun o s2 f3 => KP o (fun r => ∃ v4 : Int32, r = some (.int v4) ∧ ((¬ v4 = 0 → ExC l E w (d + 1) MX11_parts 19 [some (.ref x0), some (.ref x1), some (.int x2), some (.int x3), some (.int 0)] [] s2 f3 Q) ∧ (v4 = 0 → ExC l E w (d + 1) MX11_parts 19 [some (.ref x0), some (.ref x1), some (.int x2), some (.int x3), some (.int 1)] [] s2 f3 Q))) (fun k => Q (.inr k) s2 f3)))))) : EvC l E w (d + 1) MX11_parts [.ref x0, .ref x1, .int x2, .int x3] s f Q :=
  EvC.of hst (by decide) (Nat.le_of_ble_eq_true rfl) (vX11_parts_0  hT)
set_option maxHeartbeats 16000000 in
theorem vX11_parts_19 {l : Launch} {E : EN} {w : CO} {d : Nat} {s : CS} {f : RH} {Q : KO → CS → RH → Prop} {b0 : Nat} {b1 : Nat} {b2 : Int32} {b3 : Int32} {b4 : Int32}  (hT : ((b4 = 0 → (oc f b0 11 ∧ (∃ a6 : Nat, vl f b0 147 = .ref a6 ∧ (oc f a6 2 ∧ EvC l E w d MX2_is [.ref a6, .int 41] s f (fun o s7 f8 => KP o (fun r => ∃ v9 : Int32, r = some (.int v9) ∧ ((v9 = 0 → (oc f8 b0 11 ∧ (∃ a10 : Nat, vl f8 b0 147 = .ref a10 ∧ (oc f8 a10 2 ∧ EvC l E w d MX2_take [.ref a10, .int 41] s7 f8 (fun o s11 f12 => KP o (fun r => r = none ∧ Q (.inl none) s11 f12) (fun k => Q (.inr k) s11 f12)))))) ∧ (¬ v9 = 0 → (oc f8 b1 17 ∧ (∃ v14 : Int32, vl f8 b1 171 = .int v14 ∧ ((b2 ≤ v14 → (oc f8 b0 11 ∧ (∃ a15 : Nat, vl f8 b0 147 = .ref a15 ∧ (oc f8 a15 2 ∧ EvC l E w d MX2_take [.ref a15, .int 41] s7 f8 (fun o s16 f17 => KP o (fun r => r = none ∧ Q (.inl none) s16 f17) (fun k => Q (.inr k) s16 f17)))))) ∧ (¬ b2 ≤ v14 → (oc f8 b0 11 ∧ (∃ a19 : Nat, vl f8 b0 147 = .ref a19 ∧ (oc f8 b0 11 ∧ (∃ a20 : Nat, vl f8 b0 147 = .ref a20 ∧ (oc f8 a20 2 ∧ (∃ v21 : Int32, vl f8 a20 21 = .int v21 ∧ (oc f8 a19 2 ∧ EvC l E w d MX2_wrong [.ref a19, .int 5, .int v21] s7 f8 (fun o s22 f23 => KP o (fun r => r = some (.ref (w.1 1)) ∧ Q (.inr 1) s22 f23) (fun k => Q (.inr k) s22 f23)))))))))))))))) (fun k => Q (.inr k) s7 f8)))))) ∧ (¬ b4 = 0 → (oc f b0 11 ∧ EvC l E w d MX11_expression [.ref b0] s f (fun o s26 f27 => KP o (fun r => ∃ a28 : Nat, r = some (.ref a28) ∧ (oc f27 b1 17 ∧ EvC l E w d MX19_add [.ref b1, .ref a28, .int 0, .int 0] s26 f27 (fun o s29 f30 => KP o (fun r => r = none ∧ (oc f30 b0 11 ∧ (∃ a31 : Nat, vl f30 b0 147 = .ref a31 ∧ (oc f30 a31 2 ∧ EvC l E w d MX2_is [.ref a31, .int 44] s29 f30 (fun o s32 f33 => KP o (fun r => ∃ v34 : Int32, r = some (.int v34) ∧ ((v34 = 0 → ((v34 = 0 → ExC l E w (d + 1) MX11_parts 19 [some (.ref b0), some (.ref b1), some (.int b2), some (.int b3), some (.int v34)] [] s32 f33 Q) ∧ (¬ v34 = 0 → (oc f33 b0 11 ∧ (∃ a35 : Nat, vl f33 b0 147 = .ref a35 ∧ (oc f33 a35 2 ∧ EvC l E w d MX2_next [.ref a35] s32 f33 (fun o s36 f37 => KP o (fun r => r = none ∧ ExC l E w (d + 1) MX11_parts 19 [some (.ref b0), some (.ref b1), some (.int b2), some (.int b3), some (.int v34)] [] s36 f37 Q) (fun k => Q (.inr k) s36 f37)))))))) ∧ (¬ v34 = 0 → (oc f33 b1 17 ∧ (∃ v39 : Int32, vl f33 b1 171 = .int v39 ∧ ((¬ v39 = b3 → ((v34 = 0 → ExC l E w (d + 1) MX11_parts 19 [some (.ref b0), some (.ref b1), some (.int b2), some (.int b3), some (.int v34)] [] s32 f33 Q) ∧ (¬ v34 = 0 → (oc f33 b0 11 ∧ (∃ a40 : Nat, vl f33 b0 147 = .ref a40 ∧ (oc f33 a40 2 ∧ EvC l E w d MX2_next [.ref a40] s32 f33 (fun o s41 f42 => KP o (fun r => r = none ∧ ExC l E w (d + 1) MX11_parts 19 [some (.ref b0), some (.ref b1), some (.int b2), some (.int b3), some (.int v34)] [] s41 f42 Q) (fun k => Q (.inr k) s41 f42)))))))) ∧ (v39 = b3 → (oc f33 b0 11 ∧ (∃ a44 : Nat, vl f33 b0 147 = .ref a44 ∧ (oc f33 b0 11 ∧ (∃ a45 : Nat, vl f33 b0 147 = .ref a45 ∧ (oc f33 a45 2 ∧ (∃ v46 : Int32, vl f33 a45 21 = .int v46 ∧ (oc f33 a44 2 ∧ EvC l E w d MX2_wrong [.ref a44, .int 5, .int v46] s32 f33 (fun o s47 f48 => KP o (fun r => r = some (.ref (w.1 1)) ∧ Q (.inr 1) s47 f48) (fun k => Q (.inr k) s47 f48)))))))))))))))) (fun k => Q (.inr k) s32 f33)))))) (fun k => Q (.inr k) s29 f30)))) (fun k => Q (.inr k) s26 f27)))))) : ExC l E w (d + 1) MX11_parts 19 [some (.ref b0), some (.ref b1), some (.int b2), some (.int b3), some (.int b4)] [] s f Q := by
  intro f0 h hW hF
  refine x_iload dX11_parts_19 rfl ?_
  refine x_if_eq (tgt := 89) dX11_parts_21 rfl (fun c => ?_) (fun c => ?_)
  · replace hT := hT.1 c
    refine x_aload_n dX11_parts_89 rfl rfl rfl ?_
    obtain ⟨hc, hT⟩ := hT
    obtain ⟨a6, ev, hT⟩ := hT
    refine c_fgetG dX11_parts_90 f_TallySlate_Reader_23 hc (by decide) (by decide) hW ev ?_
    refine x_bipush (v := 41) dX11_parts_93 rfl ?_
    obtain ⟨hc, hT⟩ := hT
    obtain ⟨cc, hcc⟩ := hW.ocell hc
    refine c_invV (vs := [.int 41]) dX11_parts_95 oX2_is q820 q824 hcc q821 (Or.inl rfl) rfl rfl (Nat.le_of_ble_eq_true rfl) rfl hW hF hT ?_ ?_
    · intro _ s7 f8 hT h hW hF
      obtain ⟨v9, rfl, hT⟩ := hT
      refine x_if_eq (tgt := 125) dX11_parts_98 rfl (fun c => ?_) (fun c => ?_)
      · replace hT := hT.1 c
        refine x_aload_n dX11_parts_125 rfl rfl rfl ?_
        obtain ⟨hc, hT⟩ := hT
        obtain ⟨a10, ev, hT⟩ := hT
        refine c_fgetG dX11_parts_126 f_TallySlate_Reader_23 hc (by decide) (by decide) hW ev ?_
        refine x_bipush (v := 41) dX11_parts_129 rfl ?_
        obtain ⟨hc, hT⟩ := hT
        obtain ⟨cc, hcc⟩ := hW.ocell hc
        refine c_invV (vs := [.int 41]) dX11_parts_131 oX2_take q816 q815 hcc q817 (Or.inl rfl) rfl rfl (Nat.le_of_ble_eq_true rfl) rfl hW hF hT ?_ ?_
        · intro _ s11 f12 hT h hW hF
          obtain ⟨rfl, hT⟩ := hT
          exact x_vret dX11_parts_134 rfl ⟨_, _, hW, hF, Or.inl ⟨_, rfl, hT⟩⟩
        · intro k s11 f12 hT h a hW hx hF
          exact c_out (rfl) hW hx hF hT
      · replace hT := hT.2 c
        refine x_aload_n dX11_parts_101 rfl rfl rfl ?_
        obtain ⟨hc, hT⟩ := hT
        obtain ⟨v14, ev, hT⟩ := hT
        refine c_fgetG dX11_parts_102 f_TallySlate_Reader_342 hc (by decide) (by decide) hW ev ?_
        refine x_iload_n dX11_parts_105 rfl rfl ?_
        refine x_icmp_ge (tgt := 125) dX11_parts_106 rfl (fun c => ?_) (fun c => ?_)
        · replace hT := hT.1 c
          refine x_aload_n dX11_parts_125 rfl rfl rfl ?_
          obtain ⟨hc, hT⟩ := hT
          obtain ⟨a15, ev, hT⟩ := hT
          refine c_fgetG dX11_parts_126 f_TallySlate_Reader_23 hc (by decide) (by decide) hW ev ?_
          refine x_bipush (v := 41) dX11_parts_129 rfl ?_
          obtain ⟨hc, hT⟩ := hT
          obtain ⟨cc, hcc⟩ := hW.ocell hc
          refine c_invV (vs := [.int 41]) dX11_parts_131 oX2_take q816 q815 hcc q817 (Or.inl rfl) rfl rfl (Nat.le_of_ble_eq_true rfl) rfl hW hF hT ?_ ?_
          · intro _ s16 f17 hT h hW hF
            obtain ⟨rfl, hT⟩ := hT
            exact x_vret dX11_parts_134 rfl ⟨_, _, hW, hF, Or.inl ⟨_, rfl, hT⟩⟩
          · intro k s16 f17 hT h a hW hx hF
            exact c_out (rfl) hW hx hF hT
        · replace hT := hT.2 c
          refine x_aload_n dX11_parts_109 rfl rfl rfl ?_
          obtain ⟨hc, hT⟩ := hT
          obtain ⟨a19, ev, hT⟩ := hT
          refine c_fgetG dX11_parts_110 f_TallySlate_Reader_23 hc (by decide) (by decide) hW ev ?_
          refine x_iconst (v := 5) dX11_parts_113 rfl ?_
          refine x_aload_n dX11_parts_114 rfl rfl rfl ?_
          obtain ⟨hc, hT⟩ := hT
          obtain ⟨a20, ev, hT⟩ := hT
          refine c_fgetG dX11_parts_115 f_TallySlate_Reader_23 hc (by decide) (by decide) hW ev ?_
          obtain ⟨hc, hT⟩ := hT
          obtain ⟨v21, ev, hT⟩ := hT
          refine c_fgetG dX11_parts_118 f_TallySlate_Reader_45 hc (by decide) (by decide) hW ev ?_
          obtain ⟨hc, hT⟩ := hT
          obtain ⟨cc, hcc⟩ := hW.ocell hc
          refine c_invV (vs := [.int 5, .int v21]) dX11_parts_121 oX2_wrong q564 q772 hcc q565 (Or.inl rfl) rfl rfl (Nat.le_of_ble_eq_true rfl) rfl hW hF hT ?_ ?_
          · intro _ s22 f23 hT h hW hF
            obtain ⟨rfl, hT⟩ := hT
            refine x_athrow dX11_parts_124 ?_
            exact c_out (rfl) hW (Or.inr (Or.inl ⟨rfl, rfl⟩)) hF hT
          · intro k s22 f23 hT h a hW hx hF
            exact c_out (rfl) hW hx hF hT
    · intro k s7 f8 hT h a hW hx hF
      exact c_out (rfl) hW hx hF hT
  · replace hT := hT.2 c
    refine x_aload_n dX11_parts_24 rfl rfl rfl ?_
    refine x_aload_n dX11_parts_25 rfl rfl rfl ?_
    obtain ⟨hc, hT⟩ := hT
    obtain ⟨cc, hcc⟩ := hW.ocell hc
    refine c_invV (vs := []) dX11_parts_26 oX11_expression q893 q891 hcc qs14 (Or.inl rfl) rfl rfl (Nat.le_of_ble_eq_true rfl) rfl hW hF hT ?_ ?_
    · intro _ s26 f27 hT h hW hF
      obtain ⟨a28, rfl, hT⟩ := hT
      refine x_iconst (v := 0) dX11_parts_29 rfl ?_
      refine x_iconst (v := 0) dX11_parts_30 rfl ?_
      obtain ⟨hc, hT⟩ := hT
      obtain ⟨cc, hcc⟩ := hW.ocell hc
      refine c_invV (vs := [.ref a28, .int 0, .int 0]) dX11_parts_31 oX19_add q992 q991 hcc q993 (Or.inl rfl) rfl rfl (Nat.le_of_ble_eq_true rfl) rfl hW hF hT ?_ ?_
      · intro _ s29 f30 hT h hW hF
        obtain ⟨rfl, hT⟩ := hT
        refine x_aload_n dX11_parts_34 rfl rfl rfl ?_
        obtain ⟨hc, hT⟩ := hT
        obtain ⟨a31, ev, hT⟩ := hT
        refine c_fgetG dX11_parts_35 f_TallySlate_Reader_23 hc (by decide) (by decide) hW ev ?_
        refine x_bipush (v := 44) dX11_parts_38 rfl ?_
        obtain ⟨hc, hT⟩ := hT
        obtain ⟨cc, hcc⟩ := hW.ocell hc
        refine c_invV (vs := [.int 44]) dX11_parts_40 oX2_is q820 q824 hcc q821 (Or.inl rfl) rfl rfl (Nat.le_of_ble_eq_true rfl) rfl hW hF hT ?_ ?_
        · intro _ s32 f33 hT h hW hF
          obtain ⟨v34, rfl, hT⟩ := hT
          refine x_istore (lo' := [some (.ref b0), some (.ref b1), some (.int b2), some (.int b3), some (.int v34)]) dX11_parts_43 (Nat.le_of_ble_eq_true rfl) rfl ?_
          refine x_iload dX11_parts_45 rfl ?_
          refine x_if_eq (tgt := 74) dX11_parts_47 rfl (fun c => ?_) (fun c => ?_)
          · replace hT := hT.1 c
            refine x_iload dX11_parts_74 rfl ?_
            refine x_if_eq (tgt := 19) dX11_parts_76 rfl (fun c => ?_) (fun c => ?_)
            · replace hT := hT.1 c
              exact hT f0 h hW hF
            · replace hT := hT.2 c
              refine x_aload_n dX11_parts_79 rfl rfl rfl ?_
              obtain ⟨hc, hT⟩ := hT
              obtain ⟨a35, ev, hT⟩ := hT
              refine c_fgetG dX11_parts_80 f_TallySlate_Reader_23 hc (by decide) (by decide) hW ev ?_
              obtain ⟨hc, hT⟩ := hT
              obtain ⟨cc, hcc⟩ := hW.ocell hc
              refine c_invV (vs := []) dX11_parts_83 oX2_next q610 q609 hcc q611 (Or.inl rfl) rfl rfl (Nat.le_of_ble_eq_true rfl) rfl hW hF hT ?_ ?_
              · intro _ s36 f37 hT h hW hF
                obtain ⟨rfl, hT⟩ := hT
                refine x_goto (tgt := 19) dX11_parts_86 rfl ?_
                exact hT f0 h hW hF
              · intro k s36 f37 hT h a hW hx hF
                exact c_out (rfl) hW hx hF hT
          · replace hT := hT.2 c
            refine x_aload_n dX11_parts_50 rfl rfl rfl ?_
            obtain ⟨hc, hT⟩ := hT
            obtain ⟨v39, ev, hT⟩ := hT
            refine c_fgetG dX11_parts_51 f_TallySlate_Reader_342 hc (by decide) (by decide) hW ev ?_
            refine x_iload_n dX11_parts_54 rfl rfl ?_
            refine x_icmp_ne (tgt := 74) dX11_parts_55 rfl (fun c => ?_) (fun c => ?_)
            · replace hT := hT.1 c
              refine x_iload dX11_parts_74 rfl ?_
              refine x_if_eq (tgt := 19) dX11_parts_76 rfl (fun c => ?_) (fun c => ?_)
              · replace hT := hT.1 c
                exact hT f0 h hW hF
              · replace hT := hT.2 c
                refine x_aload_n dX11_parts_79 rfl rfl rfl ?_
                obtain ⟨hc, hT⟩ := hT
                obtain ⟨a40, ev, hT⟩ := hT
                refine c_fgetG dX11_parts_80 f_TallySlate_Reader_23 hc (by decide) (by decide) hW ev ?_
                obtain ⟨hc, hT⟩ := hT
                obtain ⟨cc, hcc⟩ := hW.ocell hc
                refine c_invV (vs := []) dX11_parts_83 oX2_next q610 q609 hcc q611 (Or.inl rfl) rfl rfl (Nat.le_of_ble_eq_true rfl) rfl hW hF hT ?_ ?_
                · intro _ s41 f42 hT h hW hF
                  obtain ⟨rfl, hT⟩ := hT
                  refine x_goto (tgt := 19) dX11_parts_86 rfl ?_
                  exact hT f0 h hW hF
                · intro k s41 f42 hT h a hW hx hF
                  exact c_out (rfl) hW hx hF hT
            · replace hT := hT.2 c
              refine x_aload_n dX11_parts_58 rfl rfl rfl ?_
              obtain ⟨hc, hT⟩ := hT
              obtain ⟨a44, ev, hT⟩ := hT
              refine c_fgetG dX11_parts_59 f_TallySlate_Reader_23 hc (by decide) (by decide) hW ev ?_
              refine x_iconst (v := 5) dX11_parts_62 rfl ?_
              refine x_aload_n dX11_parts_63 rfl rfl rfl ?_
              obtain ⟨hc, hT⟩ := hT
              obtain ⟨a45, ev, hT⟩ := hT
              refine c_fgetG dX11_parts_64 f_TallySlate_Reader_23 hc (by decide) (by decide) hW ev ?_
              obtain ⟨hc, hT⟩ := hT
              obtain ⟨v46, ev, hT⟩ := hT
              refine c_fgetG dX11_parts_67 f_TallySlate_Reader_45 hc (by decide) (by decide) hW ev ?_
              obtain ⟨hc, hT⟩ := hT
              obtain ⟨cc, hcc⟩ := hW.ocell hc
              refine c_invV (vs := [.int 5, .int v46]) dX11_parts_70 oX2_wrong q564 q772 hcc q565 (Or.inl rfl) rfl rfl (Nat.le_of_ble_eq_true rfl) rfl hW hF hT ?_ ?_
              · intro _ s47 f48 hT h hW hF
                obtain ⟨rfl, hT⟩ := hT
                refine x_athrow dX11_parts_73 ?_
                exact c_out (rfl) hW (Or.inr (Or.inl ⟨rfl, rfl⟩)) hF hT
              · intro k s47 f48 hT h a hW hx hF
                exact c_out (rfl) hW hx hF hT
        · intro k s32 f33 hT h a hW hx hF
          exact c_out (rfl) hW hx hF hT
      · intro k s29 f30 hT h a hW hx hF
        exact c_out (rfl) hW hx hF hT
    · intro k s26 f27 hT h a hW hx hF
      exact c_out (rfl) hW hx hF hT
set_option maxHeartbeats 16000000 in
theorem vX11_remember_0 {l : Launch} {E : EN} {w : CO} {d : Nat} {s : CS} {f : RH} {Q : KO → CS → RH → Prop} {x0 : Nat} {x1 : Nat}  (hT : (oc f x0 11 ∧ (∃ a1 : Nat, vl f x0 147 = .ref a1 ∧ (oc f a1 2 ∧ EvC l E w d MX2_name [.ref a1] s f (fun o s2 f3 => KP o (fun r => ∃ v4 : Int64, r = some (.long v4) ∧ (oc f3 x1 19 ∧ f3.2.2.2 ≤ x1 ∧ ∀ f5 : RH, f5 = fset f3 x1 175 (.long v4) → (oc f5 x0 11 ∧ (∃ a6 : Nat, vl f5 x0 147 = .ref a6 ∧ (oc f5 a6 2 ∧ (∃ v7 : Int32, vl f5 a6 21 = .int v7 ∧ (oc f5 x1 19 ∧ f5.2.2.2 ≤ x1 ∧ ∀ f8 : RH, f8 = fset f5 x1 176 (.int v7) → (oc f8 x0 11 ∧ (∃ v9 : Int32, vl f8 x0 152 = .int v9 ∧ (oc f8 x0 11 ∧ (∃ a10 : Nat, vl f8 x0 151 = .ref a10 ∧ (∃ t11 : Nat, tg f8 a10 = some (.inr t11) ∧ ((¬ v9 = (nI (ln f8 a10)) → (oc f8 x0 11 ∧ (∃ a12 : Nat, vl f8 x0 151 = .ref a12 ∧ (oc f8 x0 11 ∧ (∃ v13 : Int32, vl f8 x0 152 = .int v13 ∧ (∃ k17 : Nat, (tg f8 a12 = some (.inr 8) ∧ tg f8 x1 = some (.inl k17) ∧ k17 ∈ CKs 8 ∧ inB v13 (ln f8 a12) ∧ f8.2.2.2 ≤ a12 ∧ ∀ f14 : RH, f14 = fset f8 a12 v13.toNatClampNeg (.ref x1) → (oc f14 x0 11 ∧ (∃ v15 : Int32, vl f14 x0 152 = .int v15 ∧ (oc f14 x0 11 ∧ f14.2.2.2 ≤ x0 ∧ ∀ f16 : RH, f16 = fset f14 x0 152 (.int (v15 + 1)) → Q (.inl none) s2 f16)))))))))) ∧ (v9 = (nI (ln f8 a10)) → (oc f8 x0 11 ∧ (∃ v18 : Int32, vl f8 x0 152 = .int v18 ∧ (¬ (4 * v18) < 0 ∧ (4 * v18).toNatClampNeg ≤ 60000000 ∧ rmF E f8 1 (4 * v18).toNatClampNeg ∧ ∀ (a19 : Nat) (f20 : RH), a19 = f8.1 → f20 = fnewA f8 8 (4 * v18).toNatClampNeg → ExC l E w (d + 1) MX11_remember 46 [some (.ref x0), some (.ref x1), some (.ref a19), some (.int 0)] [] s2 f20 Q))))))))))))))))) (fun k => Q (.inr k) s2 f3)))))) : ExC l E w (d + 1) MX11_remember 0 [some (.ref x0), some (.ref x1), none, none] [] s f Q := by
  intro f0 h hW hF
  refine x_aload_n dX11_remember_0 rfl rfl rfl ?_
  refine x_aload_n dX11_remember_1 rfl rfl rfl ?_
  obtain ⟨hc, hT⟩ := hT
  obtain ⟨a1, ev, hT⟩ := hT
  refine c_fgetG dX11_remember_2 f_TallySlate_Reader_23 hc (by decide) (by decide) hW ev ?_
  obtain ⟨hc, hT⟩ := hT
  obtain ⟨cc, hcc⟩ := hW.ocell hc
  refine c_invV (vs := []) dX11_remember_5 oX2_name q806 q805 hcc q807 (Or.inl rfl) rfl rfl (Nat.le_of_ble_eq_true rfl) rfl hW hF hT ?_ ?_
  · intro _ s2 f3 hT h hW hF
    obtain ⟨v4, rfl, hT⟩ := hT
    obtain ⟨hc, hz, hT⟩ := hT
    refine c_fputG dX11_remember_8 f_TallySlate_Reader_66 hc (by decide) (by decide) hz (Or.inl rfl) rfl rfl hW hF ?_
    intro f5 ef5 h hW hF
    replace hT := hT f5 ef5
    refine x_aload_n dX11_remember_11 rfl rfl rfl ?_
    refine x_aload_n dX11_remember_12 rfl rfl rfl ?_
    obtain ⟨hc, hT⟩ := hT
    obtain ⟨a6, ev, hT⟩ := hT
    refine c_fgetG dX11_remember_13 f_TallySlate_Reader_23 hc (by decide) (by decide) hW ev ?_
    obtain ⟨hc, hT⟩ := hT
    obtain ⟨v7, ev, hT⟩ := hT
    refine c_fgetG dX11_remember_16 f_TallySlate_Reader_45 hc (by decide) (by decide) hW ev ?_
    obtain ⟨hc, hz, hT⟩ := hT
    refine c_fputG dX11_remember_19 f_TallySlate_Reader_76 hc (by decide) (by decide) hz (Or.inl rfl) rfl rfl hW hF ?_
    intro f8 ef8 h hW hF
    replace hT := hT f8 ef8
    refine x_aload_n dX11_remember_22 rfl rfl rfl ?_
    obtain ⟨hc, hT⟩ := hT
    obtain ⟨v9, ev, hT⟩ := hT
    refine c_fgetG dX11_remember_23 f_TallySlate_Reader_52 hc (by decide) (by decide) hW ev ?_
    refine x_aload_n dX11_remember_26 rfl rfl rfl ?_
    obtain ⟨hc, hT⟩ := hT
    obtain ⟨a10, ev, hT⟩ := hT
    refine c_fgetG dX11_remember_27 f_TallySlate_Reader_19 hc (by decide) (by decide) hW ev ?_
    obtain ⟨t11, hc, hT⟩ := hT
    refine c_alen dX11_remember_30 hc hW ?_
    refine x_icmp_ne (tgt := 74) dX11_remember_31 rfl (fun c => ?_) (fun c => ?_)
    · replace hT := hT.1 c
      refine x_aload_n dX11_remember_74 rfl rfl rfl ?_
      obtain ⟨hc, hT⟩ := hT
      obtain ⟨a12, ev, hT⟩ := hT
      refine c_fgetG dX11_remember_75 f_TallySlate_Reader_19 hc (by decide) (by decide) hW ev ?_
      refine x_aload_n dX11_remember_78 rfl rfl rfl ?_
      obtain ⟨hc, hT⟩ := hT
      obtain ⟨v13, ev, hT⟩ := hT
      refine c_fgetG dX11_remember_79 f_TallySlate_Reader_52 hc (by decide) (by decide) hW ev ?_
      refine x_aload_n dX11_remember_82 rfl rfl rfl ?_
      obtain ⟨k17, hc, hv, hck, hT⟩ := hT
      obtain ⟨hb, hz, hT⟩ := hT
      refine c_faastG dX11_remember_83 hc (by decide) hv hck hb hz hW hF ?_
      intro f14 ef14 h hW hF
      replace hT := hT f14 ef14
      refine x_aload_n dX11_remember_84 rfl rfl rfl ?_
      refine x_dup dX11_remember_85 rfl ?_
      obtain ⟨hc, hT⟩ := hT
      obtain ⟨v15, ev, hT⟩ := hT
      refine c_fgetG dX11_remember_86 f_TallySlate_Reader_52 hc (by decide) (by decide) hW ev ?_
      refine x_iconst (v := 1) dX11_remember_89 rfl ?_
      refine x_iadd dX11_remember_90 ?_
      obtain ⟨hc, hz, hT⟩ := hT
      refine c_fputG dX11_remember_91 f_TallySlate_Reader_52 hc (by decide) (by decide) hz (Or.inl rfl) rfl rfl hW hF ?_
      intro f16 ef16 h hW hF
      replace hT := hT f16 ef16
      exact x_vret dX11_remember_94 rfl ⟨_, _, hW, hF, Or.inl ⟨_, rfl, hT⟩⟩
    · replace hT := hT.2 c
      refine x_iconst (v := 4) dX11_remember_34 rfl ?_
      refine x_aload_n dX11_remember_35 rfl rfl rfl ?_
      obtain ⟨hc, hT⟩ := hT
      obtain ⟨v18, ev, hT⟩ := hT
      refine c_fgetG dX11_remember_36 f_TallySlate_Reader_52 hc (by decide) (by decide) hW ev ?_
      refine x_imul dX11_remember_39 ?_
      obtain ⟨hn, hT⟩ := hT
      obtain ⟨hb, hr, hT⟩ := hT
      refine c_anewarrayG (t := 8) dX11_remember_40 (by decide) (by decide) (by decide) rfl q583 (Or.inl ⟨_, rfl, q582⟩) hn hb hr hW hF ?_
      intro a19 f20 ea19 ef20 h hW hF
      replace hT := hT a19 f20 ea19 ef20
      refine x_astore_n (lo' := [some (.ref x0), some (.ref x1), some (.ref a19), none]) dX11_remember_43 rfl (Nat.le_of_ble_eq_true rfl) rfl rfl ?_
      refine x_iconst (v := 0) dX11_remember_44 rfl ?_
      refine x_istore_n (lo' := [some (.ref x0), some (.ref x1), some (.ref a19), some (.int 0)]) dX11_remember_45 rfl (Nat.le_of_ble_eq_true rfl) rfl ?_
      exact hT f0 h hW hF
  · intro k s2 f3 hT h a hW hx hF
    exact c_out (rfl) hW hx hF hT
theorem eX11_remember {l : Launch} {E : EN} {w : CO} {d : Nat} {s : CS} {f : RH} {Q : KO → CS → RH → Prop} {x0 : Nat} {x1 : Nat}  (hst : l.stackTraces = false) (hT : (oc f x0 11 ∧ (∃ a1 : Nat, vl f x0 147 = .ref a1 ∧ (oc f a1 2 ∧ EvC l E w d MX2_name [.ref a1] s f (fun o s2 f3 => KP o (fun r => ∃ v4 : Int64, r = some (.long v4) ∧ (oc f3 x1 19 ∧ f3.2.2.2 ≤ x1 ∧ ∀ f5 : RH, f5 = fset f3 x1 175 (.long v4) → (oc f5 x0 11 ∧ (∃ a6 : Nat, vl f5 x0 147 = .ref a6 ∧ (oc f5 a6 2 ∧ (∃ v7 : Int32, vl f5 a6 21 = .int v7 ∧ (oc f5 x1 19 ∧ f5.2.2.2 ≤ x1 ∧ ∀ f8 : RH, f8 = fset f5 x1 176 (.int v7) → (oc f8 x0 11 ∧ (∃ v9 : Int32, vl f8 x0 152 = .int v9 ∧ (oc f8 x0 11 ∧ (∃ a10 : Nat, vl f8 x0 151 = .ref a10 ∧ (∃ t11 : Nat, tg f8 a10 = some (.inr t11) ∧ ((¬ v9 = (nI (ln f8 a10)) → (oc f8 x0 11 ∧ (∃ a12 : Nat, vl f8 x0 151 = .ref a12 ∧ (oc f8 x0 11 ∧ (∃ v13 : Int32, vl f8 x0 152 = .int v13 ∧ (∃ k17 : Nat, (tg f8 a12 = some (.inr 8) ∧ tg f8 x1 = some (.inl k17) ∧ k17 ∈ CKs 8 ∧ inB v13 (ln f8 a12) ∧ f8.2.2.2 ≤ a12 ∧ ∀ f14 : RH, f14 = fset f8 a12 v13.toNatClampNeg (.ref x1) → (oc f14 x0 11 ∧ (∃ v15 : Int32, vl f14 x0 152 = .int v15 ∧ (oc f14 x0 11 ∧ f14.2.2.2 ≤ x0 ∧ ∀ f16 : RH, f16 = fset f14 x0 152 (.int (v15 + 1)) → Q (.inl none) s2 f16)))))))))) ∧ (v9 = (nI (ln f8 a10)) → (oc f8 x0 11 ∧ (∃ v18 : Int32, vl f8 x0 152 = .int v18 ∧ (¬ (4 * v18) < 0 ∧ (4 * v18).toNatClampNeg ≤ 60000000 ∧ rmF E f8 1 (4 * v18).toNatClampNeg ∧ ∀ (a19 : Nat) (f20 : RH), a19 = f8.1 → f20 = fnewA f8 8 (4 * v18).toNatClampNeg → ExC l E w (d + 1) MX11_remember 46 [some (.ref x0), some (.ref x1), some (.ref a19), some (.int 0)] [] s2 f20 Q))))))))))))))))) (fun k => Q (.inr k) s2 f3)))))) : EvC l E w (d + 1) MX11_remember [.ref x0, .ref x1] s f Q :=
  EvC.of hst (by decide) (Nat.le_of_ble_eq_true rfl) (vX11_remember_0  hT)
theorem vX11_remember_46 {l : Launch} {E : EN} {w : CO} {d : Nat} {s : CS} {f : RH} {Q : KO → CS → RH → Prop} {b0 : Nat} {b1 : Nat} {b2 : Nat} {b3 : Int32}  (hT : (oc f b0 11 ∧ (∃ v22 : Int32, vl f b0 152 = .int v22 ∧ ((v22 ≤ b3 → (oc f b0 11 ∧ f.2.2.2 ≤ b0 ∧ ∀ f23 : RH, f23 = fset f b0 151 (.ref b2) → (oc f23 b0 11 ∧ (∃ a24 : Nat, vl f23 b0 151 = .ref a24 ∧ (oc f23 b0 11 ∧ (∃ v25 : Int32, vl f23 b0 152 = .int v25 ∧ (∃ k29 : Nat, (tg f23 a24 = some (.inr 8) ∧ tg f23 b1 = some (.inl k29) ∧ k29 ∈ CKs 8 ∧ inB v25 (ln f23 a24) ∧ f23.2.2.2 ≤ a24 ∧ ∀ f26 : RH, f26 = fset f23 a24 v25.toNatClampNeg (.ref b1) → (oc f26 b0 11 ∧ (∃ v27 : Int32, vl f26 b0 152 = .int v27 ∧ (oc f26 b0 11 ∧ f26.2.2.2 ≤ b0 ∧ ∀ f28 : RH, f28 = fset f26 b0 152 (.int (v27 + 1)) → Q (.inl none) s f28))))))))))) ∧ (¬ v22 ≤ b3 → (oc f b0 11 ∧ (∃ a30 : Nat, vl f b0 151 = .ref a30 ∧ (∃ t31 : Nat, 4 ≤ t31 ∧ (tg f a30 = some (.inr t31) ∧ inB b3 (ln f a30) ∧ (∃ a32 : Nat, vl f a30 b3.toNatClampNeg = .ref a32 ∧ (∃ k34 : Nat, (tg f b2 = some (.inr 8) ∧ tg f a32 = some (.inl k34) ∧ k34 ∈ CKs 8 ∧ inB b3 (ln f b2) ∧ f.2.2.2 ≤ b2 ∧ ∀ f33 : RH, f33 = fset f b2 b3.toNatClampNeg (.ref a32) → ExC l E w (d + 1) MX11_remember 46 [some (.ref b0), some (.ref b1), some (.ref b2), some (.int (b3 + 1))] [] s f33 Q)))))))))))) : ExC l E w (d + 1) MX11_remember 46 [some (.ref b0), some (.ref b1), some (.ref b2), some (.int b3)] [] s f Q := by
  intro f0 h hW hF
  refine x_iload_n dX11_remember_46 rfl rfl ?_
  refine x_aload_n dX11_remember_47 rfl rfl rfl ?_
  obtain ⟨hc, hT⟩ := hT
  obtain ⟨v22, ev, hT⟩ := hT
  refine c_fgetG dX11_remember_48 f_TallySlate_Reader_52 hc (by decide) (by decide) hW ev ?_
  refine x_icmp_ge (tgt := 69) dX11_remember_51 rfl (fun c => ?_) (fun c => ?_)
  · replace hT := hT.1 c
    refine x_aload_n dX11_remember_69 rfl rfl rfl ?_
    refine x_aload_n dX11_remember_70 rfl rfl rfl ?_
    obtain ⟨hc, hz, hT⟩ := hT
    refine c_fputG dX11_remember_71 f_TallySlate_Reader_19 hc (by decide) (by decide) hz (Or.inl rfl) rfl rfl hW hF ?_
    intro f23 ef23 h hW hF
    replace hT := hT f23 ef23
    refine x_aload_n dX11_remember_74 rfl rfl rfl ?_
    obtain ⟨hc, hT⟩ := hT
    obtain ⟨a24, ev, hT⟩ := hT
    refine c_fgetG dX11_remember_75 f_TallySlate_Reader_19 hc (by decide) (by decide) hW ev ?_
    refine x_aload_n dX11_remember_78 rfl rfl rfl ?_
    obtain ⟨hc, hT⟩ := hT
    obtain ⟨v25, ev, hT⟩ := hT
    refine c_fgetG dX11_remember_79 f_TallySlate_Reader_52 hc (by decide) (by decide) hW ev ?_
    refine x_aload_n dX11_remember_82 rfl rfl rfl ?_
    obtain ⟨k29, hc, hv, hck, hT⟩ := hT
    obtain ⟨hb, hz, hT⟩ := hT
    refine c_faastG dX11_remember_83 hc (by decide) hv hck hb hz hW hF ?_
    intro f26 ef26 h hW hF
    replace hT := hT f26 ef26
    refine x_aload_n dX11_remember_84 rfl rfl rfl ?_
    refine x_dup dX11_remember_85 rfl ?_
    obtain ⟨hc, hT⟩ := hT
    obtain ⟨v27, ev, hT⟩ := hT
    refine c_fgetG dX11_remember_86 f_TallySlate_Reader_52 hc (by decide) (by decide) hW ev ?_
    refine x_iconst (v := 1) dX11_remember_89 rfl ?_
    refine x_iadd dX11_remember_90 ?_
    obtain ⟨hc, hz, hT⟩ := hT
    refine c_fputG dX11_remember_91 f_TallySlate_Reader_52 hc (by decide) (by decide) hz (Or.inl rfl) rfl rfl hW hF ?_
    intro f28 ef28 h hW hF
    replace hT := hT f28 ef28
    exact x_vret dX11_remember_94 rfl ⟨_, _, hW, hF, Or.inl ⟨_, rfl, hT⟩⟩
  · replace hT := hT.2 c
    refine x_aload_n dX11_remember_54 rfl rfl rfl ?_
    refine x_iload_n dX11_remember_55 rfl rfl ?_
    refine x_aload_n dX11_remember_56 rfl rfl rfl ?_
    obtain ⟨hc, hT⟩ := hT
    obtain ⟨a30, ev, hT⟩ := hT
    refine c_fgetG dX11_remember_57 f_TallySlate_Reader_19 hc (by decide) (by decide) hW ev ?_
    refine x_iload_n dX11_remember_60 rfl rfl ?_
    obtain ⟨t31, ht2, hc, hT⟩ := hT
    obtain ⟨hb, hT⟩ := hT
    obtain ⟨a32, ev, hT⟩ := hT
    refine c_faald dX11_remember_61 hc ht2 hb hW ev ?_
    obtain ⟨k34, hc, hv, hck, hT⟩ := hT
    obtain ⟨hb, hz, hT⟩ := hT
    refine c_faastG dX11_remember_62 hc (by decide) hv hck hb hz hW hF ?_
    intro f33 ef33 h hW hF
    replace hT := hT f33 ef33
    refine x_iinc (lo' := [some (.ref b0), some (.ref b1), some (.ref b2), some (.int (b3 + 1))]) dX11_remember_63 rfl (show _ = (b3 + 1) from rfl) rfl ?_
    refine x_goto (tgt := 46) dX11_remember_66 rfl ?_
    exact hT f0 h hW hF
