/-! weakest preconditions of methods of the component: printed by wpc.py -/
set_option maxRecDepth 100000
set_option maxHeartbeats 16000000 in
theorem vX7_join_0 {l : Launch} {E : EN} {w : CO} {d : Nat} {s : CS} {f : RH} {Q : KO → CS → RH → Prop} {x1 : Int32} {x2 : Value} {x3 : Value} {x4 : Int32} (ix2 : isR x2 = true) (ix3 : isR x3 = true) (hT : (isT f x2 ∧ ((∀ a2 : Nat, x2 = .ref a2 → tg f a2 = some (.inl 31) → (EvC l E w d MX7_joinPacks [.ref (w.1 7), .int x1, .ref a2, x3, .int x4] s f (fun o s3 f4 => KP o (fun r => ∃ a5 : Nat, r = some (.ref a5) ∧ Q (.inl (some (.ref a5))) s3 f4) (fun k => Q (.inr k) s3 f4)))) ∧ ((∀ z : Nat, x2 = .ref z → ¬ tg f z = some (.inl 31)) → (isT f x3 ∧ ((∀ a7 : Nat, x3 = .ref a7 → tg f a7 = some (.inl 31) → (EvC l E w d MX7_joinPacks [.ref (w.1 7), .int x1, x2, .ref a7, .int x4] s f (fun o s8 f9 => KP o (fun r => ∃ a10 : Nat, r = some (.ref a10) ∧ Q (.inl (some (.ref a10))) s8 f9) (fun k => Q (.inr k) s8 f9)))) ∧ ((∀ z : Nat, x3 = .ref z → ¬ tg f z = some (.inl 31)) → (isT f x2 ∧ ((∀ a12 : Nat, x2 = .ref a12 → tg f a12 = some (.inl 30) → ((x3 = .null → (EvC l E w d MX3_wrong [.ref (w.1 3), .int 3, .int x4] s f (fun o s14 f15 => KP o (fun r => r = some (.ref (w.1 9)) ∧ Q (.inr 9) s14 f15) (fun k => Q (.inr k) s14 f15)))) ∧ (∀ a13 : Nat, x3 = .ref a13 → (isT f (.ref a12) ∧ ((tg f a12 = some (.inl 30) → (∃ P31 : KO → CS → RH → Prop, (∀ o s17 f18, P31 o s17 f18 → KP o (fun r => ∃ v19 : Int32, r = some (.int v19) ∧ (isT f18 (.ref a13) ∧ ((tg f18 a13 = some (.inl 30) → (∃ P27 : KO → CS → RH → Prop, (∀ o s21 f22, P27 o s21 f22 → KP o (fun r => ∃ v23 : Int32, r = some (.int v23) ∧ (¬ (v19 + v23) < 0 ∧ (v19 + v23).toNatClampNeg ≤ 60000000 ∧ rmF E f22 1 (v19 + v23).toNatClampNeg ∧ ∀ (a24 : Nat) (f25 : RH), a24 = f22.1 → f25 = fnewA f22 11 (v19 + v23).toNatClampNeg → ExC l E w (d + 1) MX7_join 100 [some (.ref (w.1 7)), none, some (.ref a12), some (.ref a13), some (.int x4), some (.int v19), some (.ref a24), some (.int 0)] [] s21 f25 Q)) (fun k => Q (.inr k) s21 f22)) ∧ ∃ k26 : Nat, oc f18 a13 k26 ∧ ((k26 = 29 ∧ EvC l E w d MX32_size [.ref a13] s17 f18 P27) ∨ (k26 = 30 ∧ EvC l E w d MX33_size [.ref a13] s17 f18 P27) ∨ (k26 = 31 ∧ EvC l E w d MX34_size [.ref a13] s17 f18 P27) ∨ (k26 = 32 ∧ EvC l E w d MX35_size [.ref a13] s17 f18 P27)))) ∧ (¬ tg f18 a13 = some (.inl 30) → (¬ (v19 + 1) < 0 ∧ (v19 + 1).toNatClampNeg ≤ 60000000 ∧ rmF E f18 1 (v19 + 1).toNatClampNeg ∧ ∀ (a28 : Nat) (f29 : RH), a28 = f18.1 → f29 = fnewA f18 11 (v19 + 1).toNatClampNeg → ExC l E w (d + 1) MX7_join 100 [some (.ref (w.1 7)), none, some (.ref a12), some (.ref a13), some (.int x4), some (.int v19), some (.ref a28), some (.int 0)] [] s17 f29 Q))))) (fun k => Q (.inr k) s17 f18)) ∧ ∃ k30 : Nat, oc f a12 k30 ∧ ((k30 = 29 ∧ EvC l E w d MX32_size [.ref a12] s f P31) ∨ (k30 = 30 ∧ EvC l E w d MX33_size [.ref a12] s f P31) ∨ (k30 = 31 ∧ EvC l E w d MX34_size [.ref a12] s f P31) ∨ (k30 = 32 ∧ EvC l E w d MX35_size [.ref a12] s f P31)))) ∧ (¬ tg f a12 = some (.inl 30) → (isT f (.ref a13) ∧ ((tg f a13 = some (.inl 30) → (∃ P39 : KO → CS → RH → Prop, (∀ o s33 f34, P39 o s33 f34 → KP o (fun r => ∃ v35 : Int32, r = some (.int v35) ∧ (¬ (1 + v35) < 0 ∧ (1 + v35).toNatClampNeg ≤ 60000000 ∧ rmF E f34 1 (1 + v35).toNatClampNeg ∧ ∀ (a36 : Nat) (f37 : RH), a36 = f34.1 → f37 = fnewA f34 11 (1 + v35).toNatClampNeg → ExC l E w (d + 1) MX7_join 100 [some (.ref (w.1 7)), none, some (.ref a12), some (.ref a13), some (.int x4), some (.int 1), some (.ref a36), some (.int 0)] [] s33 f37 Q)) (fun k => Q (.inr k) s33 f34)) ∧ ∃ k38 : Nat, oc f a13 k38 ∧ ((k38 = 29 ∧ EvC l E w d MX32_size [.ref a13] s f P39) ∨ (k38 = 30 ∧ EvC l E w d MX33_size [.ref a13] s f P39) ∨ (k38 = 31 ∧ EvC l E w d MX34_size [.ref a13] s f P39) ∨ (k38 = 32 ∧ EvC l E w d MX35_size [.ref a13] s f P39)))) ∧ (¬ tg f a13 = some (.inl 30) → (¬ ((1 : Int32) + 1) < 0 ∧ ((1 : Int32) + 1).toNatClampNeg ≤ 60000000 ∧ rmF E f 1 ((1 : Int32) + 1).toNatClampNeg ∧ ∀ (a40 : Nat) (f41 : RH), a40 = f.1 → f41 = fnewA f 11 ((1 : Int32) + 1).toNatClampNeg → ExC l E w (d + 1) MX7_join 100 [some (.ref (w.1 7)), none, some (.ref a12), some (.ref a13), some (.int x4), some (.int 1), some (.ref a40), some (.int 0)] [] s f41 Q)))))))))) ∧ ((∀ z : Nat, x2 = .ref z → ¬ tg f z = some (.inl 30)) → (isT f x3 ∧ ((∀ a43 : Nat, x3 = .ref a43 → tg f a43 = some (.inl 30) → ((x2 = .null → (EvC l E w d MX3_wrong [.ref (w.1 3), .int 3, .int x4] s f (fun o s45 f46 => KP o (fun r => r = some (.ref (w.1 9)) ∧ Q (.inr 9) s45 f46) (fun k => Q (.inr k) s45 f46)))) ∧ (∀ a44 : Nat, x2 = .ref a44 → (isT f (.ref a44) ∧ ((tg f a44 = some (.inl 30) → (∃ P62 : KO → CS → RH → Prop, (∀ o s48 f49, P62 o s48 f49 → KP o (fun r => ∃ v50 : Int32, r = some (.int v50) ∧ (isT f49 (.ref a43) ∧ ((tg f49 a43 = some (.inl 30) → (∃ P58 : KO → CS → RH → Prop, (∀ o s52 f53, P58 o s52 f53 → KP o (fun r => ∃ v54 : Int32, r = some (.int v54) ∧ (¬ (v50 + v54) < 0 ∧ (v50 + v54).toNatClampNeg ≤ 60000000 ∧ rmF E f53 1 (v50 + v54).toNatClampNeg ∧ ∀ (a55 : Nat) (f56 : RH), a55 = f53.1 → f56 = fnewA f53 11 (v50 + v54).toNatClampNeg → ExC l E w (d + 1) MX7_join 100 [some (.ref (w.1 7)), none, some (.ref a44), some (.ref a43), some (.int x4), some (.int v50), some (.ref a55), some (.int 0)] [] s52 f56 Q)) (fun k => Q (.inr k) s52 f53)) ∧ ∃ k57 : Nat, oc f49 a43 k57 ∧ ((k57 = 29 ∧ EvC l E w d MX32_size [.ref a43] s48 f49 P58) ∨ (k57 = 30 ∧ EvC l E w d MX33_size [.ref a43] s48 f49 P58) ∨ (k57 = 31 ∧ EvC l E w d MX34_size [.ref a43] s48 f49 P58) ∨ (k57 = 32 ∧ EvC l E w d MX35_size [.ref a43] s48 f49 P58)))) ∧ (¬ tg f49 a43 = some (.inl 30) → (¬ (v50 + 1) < 0 ∧ (v50 + 1).toNatClampNeg ≤ 60000000 ∧ rmF E f49 1 (v50 + 1).toNatClampNeg ∧ ∀ (a59 : Nat) (f60 : RH), a59 = f49.1 → f60 = fnewA f49 11 (v50 + 1).toNatClampNeg → ExC l E w (d + 1) MX7_join 100 [some (.ref (w.1 7)), none, some (.ref a44), some (.ref a43), some (.int x4), some (.int v50), some (.ref a59), some (.int 0)] [] s48 f60 Q))))) (fun k => Q (.inr k) s48 f49)) ∧ ∃ k61 : Nat, oc f a44 k61 ∧ ((k61 = 29 ∧ EvC l E w d MX32_size [.ref a44] s f P62) ∨ (k61 = 30 ∧ EvC l E w d MX33_size [.ref a44] s f P62) ∨ (k61 = 31 ∧ EvC l E w d MX34_size [.ref a44] s f P62) ∨ (k61 = 32 ∧ EvC l E w d MX35_size [.ref a44] s f P62)))) ∧ (¬ tg f a44 = some (.inl 30) → (isT f (.ref a43) ∧ ((tg f a43 = some (.inl 30) → (∃ P70 : KO → CS → RH → Prop, (∀ o s64 f65, P70 o s64 f65 → KP o (fun r => ∃ v66 : Int32, r = some (.int v66) ∧ (¬ (1 + v66) < 0 ∧ (1 + v66).toNatClampNeg ≤ 60000000 ∧ rmF E f65 1 (1 + v66).toNatClampNeg ∧ ∀ (a67 : Nat) (f68 : RH), a67 = f65.1 → f68 = fnewA f65 11 (1 + v66).toNatClampNeg → ExC l E w (d + 1) MX7_join 100 [some (.ref (w.1 7)), none, some (.ref a44), some (.ref a43), some (.int x4), some (.int 1), some (.ref a67), some (.int 0)] [] s64 f68 Q)) (fun k => Q (.inr k) s64 f65)) ∧ ∃ k69 : Nat, oc f a43 k69 ∧ ((k69 = 29 ∧ EvC l E w d MX32_size [.ref a43] s f P70) ∨ (k69 = 30 ∧ EvC l E w d MX33_size [.ref a43] s f P70) ∨ (k69 = 31 ∧ EvC l E w d MX34_size [.ref a43] s f P70) ∨ (k69 = 32 ∧ EvC l E w d MX35_size [.ref a43] s f P70)))) ∧ (¬ tg f a43 = some (.inl 30) → (¬ ((1 : Int32) + 1) < 0 ∧ ((1 : Int32) + 1).toNatClampNeg ≤ 60000000 ∧ rmF E f 1 ((1 : Int32) + 1).toNatClampNeg ∧ ∀ (a71 : Nat) (f72 : RH), a71 = f.1 → f72 = fnewA f 11 ((1 : Int32) + 1).toNatClampNeg → ExC l E w (d + 1) MX7_join 100 [some (.ref (w.1 7)), none, some (.ref a44), some (.ref a43), some (.int x4), some (.int 1), some (.ref a71), some (.int 0)] [] s f72 Q)))))))))) ∧ ((∀ z : Nat, x3 = .ref z → ¬ tg f z = some (.inl 30)) → (EvC l E w d MX7_intsOf [x2] s f (fun o s73 f74 => KP o (fun r => ∃ v75 : Int32, r = some (.int v75) ∧ (EvC l E w d MX7_intsOf [x3] s73 f74 (fun o s76 f77 => KP o (fun r => ∃ v78 : Int32, r = some (.int v78) ∧ (EvC l E w d MX6_ints [.ref (w.1 6), .int (v75 + v78), .int x4] s76 f77 (fun o s79 f80 => KP o (fun r => ∃ a81 : Nat, r = some (.ref a81) ∧ (inB x1 8400 ∧ (EvC l E w d MX7_copyInts [x2, .int (s79.2.2.1 24 x1.toNatClampNeg), .ref a81, .int 0] s79 f80 (fun o s82 f83 => KP o (fun r => r = none ∧ (inB (x1 + 1) 8400 ∧ (EvC l E w d MX7_copyInts [x3, .int (s82.2.2.1 24 (x1 + 1).toNatClampNeg), .ref a81, .int v75] s82 f83 (fun o s84 f85 => KP o (fun r => r = none ∧ (rmF E f85 1 1 ∧ ∀ (a86 : Nat) (f87 : RH), a86 = f85.1 → f87 = fnew f85 29 → (EvC l E w d MX32_init [.ref a86, .ref a81] s84 f87 (fun o s88 f89 => KP o (fun r => r = none ∧ Q (.inl (some (.ref a86))) s88 f89) (fun k => Q (.inr k) s88 f89))))) (fun k => Q (.inr k) s84 f85))))) (fun k => Q (.inr k) s82 f83))))) (fun k => Q (.inr k) s79 f80)))) (fun k => Q (.inr k) s76 f77)))) (fun k => Q (.inr k) s73 f74)))))))))))))))) : ExC l E w (d + 1) MX7_join 0 [some (.ref (w.1 7)), some (.int x1), some (x2), some (x3), some (.int x4), none, none, none] [] s f Q := by
  intro f0 h hW hF
  refine x_aload_n dX7_join_0 rfl rfl ix2 ?_
  obtain ⟨ht, hT⟩ := hT
  refine c_instV (K := 31) dX7_join_1 (by decide) q1812 ht hW (fun a2 ec hi1 => ?_) (fun hi1 => ?_)
  · subst ec
    replace hT := hT.1 a2 rfl hi1
    refine x_if_ne (tgt := 14) dX7_join_4 rfl (fun _ => ?_) (fun c => absurd c (by decide))
    refine x_aload_n dX7_join_14 rfl rfl rfl ?_
    refine x_iload_n dX7_join_15 rfl rfl ?_
    refine x_aload_n dX7_join_16 rfl rfl rfl ?_
    refine x_aload_n dX7_join_17 rfl rfl ix3 ?_
    refine x_iload dX7_join_18 rfl ?_
    obtain ⟨-, -, cc, hcc, -⟩ := hW.ob 7 (by decide)
    refine c_invV (vs := [.int x1, .ref a2, x3, .int x4]) dX7_join_20 oX7_joinPacks q1851 q1849 hcc qs48 (Or.inl rfl) rfl rfl (Nat.le_of_ble_eq_true rfl) rfl hW hF hT ?_ ?_
    · intro _ s3 f4 hT h hW hF
      obtain ⟨a5, rfl, hT⟩ := hT
      exact x_aret dX7_join_23 rfl (by first | exact Or.inl ⟨_, rfl⟩ | exact Or.inr ⟨_, rfl⟩) rfl ⟨_, _, hW, hF, Or.inl ⟨_, rfl, hT⟩⟩
    · intro k s3 f4 hT h a hW hx hF
      exact c_out (rfl) hW hx hF hT
  · replace hT := hT.2 hi1
    refine x_if_ne (tgt := 14) dX7_join_4 rfl (fun c => absurd c (by decide)) (fun _ => ?_)
    refine x_aload_n dX7_join_7 rfl rfl ix3 ?_
    obtain ⟨ht, hT⟩ := hT
    refine c_instV (K := 31) dX7_join_8 (by decide) q1812 ht hW (fun a7 ec hi6 => ?_) (fun hi6 => ?_)
    · subst ec
      replace hT := hT.1 a7 rfl hi6
      refine x_if_eq (tgt := 24) dX7_join_11 rfl (fun c => absurd c (by decide)) (fun _ => ?_)
      refine x_aload_n dX7_join_14 rfl rfl rfl ?_
      refine x_iload_n dX7_join_15 rfl rfl ?_
      refine x_aload_n dX7_join_16 rfl rfl ix2 ?_
      refine x_aload_n dX7_join_17 rfl rfl rfl ?_
      refine x_iload dX7_join_18 rfl ?_
      obtain ⟨-, -, cc, hcc, -⟩ := hW.ob 7 (by decide)
      refine c_invV (vs := [.int x1, x2, .ref a7, .int x4]) dX7_join_20 oX7_joinPacks q1851 q1849 hcc qs48 (Or.inl rfl) rfl rfl (Nat.le_of_ble_eq_true rfl) rfl hW hF hT ?_ ?_
      · intro _ s8 f9 hT h hW hF
        obtain ⟨a10, rfl, hT⟩ := hT
        exact x_aret dX7_join_23 rfl (by first | exact Or.inl ⟨_, rfl⟩ | exact Or.inr ⟨_, rfl⟩) rfl ⟨_, _, hW, hF, Or.inl ⟨_, rfl, hT⟩⟩
      · intro k s8 f9 hT h a hW hx hF
        exact c_out (rfl) hW hx hF hT
    · replace hT := hT.2 hi6
      refine x_if_eq (tgt := 24) dX7_join_11 rfl (fun _ => ?_) (fun c => absurd c (by decide))
      refine x_aload_n dX7_join_24 rfl rfl ix2 ?_
      obtain ⟨ht, hT⟩ := hT
      refine c_instV (K := 30) dX7_join_25 (by decide) q1784 ht hW (fun a12 ec hi11 => ?_) (fun hi11 => ?_)
      · subst ec
        replace hT := hT.1 a12 rfl hi11
        refine x_if_ne (tgt := 38) dX7_join_28 rfl (fun _ => ?_) (fun c => absurd c (by decide))
        refine x_aload_n dX7_join_38 rfl rfl rfl ?_
        refine x_ifnull (tgt := 46) dX7_join_39 rfl rfl (fun e => by cases e) (fun _ _ => ?_)
        refine x_aload_n dX7_join_42 rfl rfl ix3 ?_
        refine x_ifnonnull (tgt := 57) dX7_join_43 rfl ix3 (fun a13 e => ?_) (fun e => ?_)
        · subst e
          replace hT := hT.2 a13 rfl
          refine x_aload_n dX7_join_57 rfl rfl rfl ?_
          obtain ⟨ht, hT⟩ := hT
          refine c_inst (K := 30) dX7_join_58 (by decide) q1784 ht hW (fun hi16 => ?_) (fun hi16 => ?_)
          · replace hT := hT.1 hi16
            refine x_if_eq (tgt := 71) dX7_join_61 rfl (fun c => absurd c (by decide)) (fun _ => ?_)
            refine x_aload_n dX7_join_64 rfl rfl rfl ?_
            obtain ⟨P31, hP, k30, hc, hT⟩ := hT
            have kr : ∀ r s17 f18, P31 (.inl r) s17 f18 → ∀ h, CW E w s17 f18 h → Frz f0 f18 → Ex l E (d + 1) MX7_join (65 + 3) [some (.ref (w.1 7)), some (.int x1), some (.ref a12), some (.ref a13), some (.int x4), none, none, none] (r.toList ++ []) h (PoC E w f0 Q) := by
              intro r s17 f18 h0 h hW hF
              have hT := hP _ _ _ h0
              clear h0
              obtain ⟨v19, rfl, hT⟩ := hT
              refine x_goto (tgt := 72) dX7_join_68 rfl ?_
              refine x_istore (lo' := [some (.ref (w.1 7)), some (.int x1), some (.ref a12), some (.ref a13), some (.int x4), some (.int v19), none, none]) dX7_join_72 (Nat.le_of_ble_eq_true rfl) rfl ?_
              refine x_iload dX7_join_74 rfl ?_
              refine x_aload_n dX7_join_76 rfl rfl rfl ?_
              obtain ⟨ht, hT⟩ := hT
              refine c_inst (K := 30) dX7_join_77 (by decide) q1784 ht hW (fun hi20 => ?_) (fun hi20 => ?_)
              · replace hT := hT.1 hi20
                refine x_if_eq (tgt := 90) dX7_join_80 rfl (fun c => absurd c (by decide)) (fun _ => ?_)
                refine x_aload_n dX7_join_83 rfl rfl rfl ?_
                obtain ⟨P27, hP, k26, hc, hT⟩ := hT
                have kr : ∀ r s21 f22, P27 (.inl r) s21 f22 → ∀ h, CW E w s21 f22 h → Frz f0 f22 → Ex l E (d + 1) MX7_join (84 + 3) [some (.ref (w.1 7)), some (.int x1), some (.ref a12), some (.ref a13), some (.int x4), some (.int v19), none, none] (r.toList ++ [.int v19]) h (PoC E w f0 Q) := by
                  intro r s21 f22 h0 h hW hF
                  have hT := hP _ _ _ h0
                  clear h0
                  obtain ⟨v23, rfl, hT⟩ := hT
                  refine x_goto (tgt := 91) dX7_join_87 rfl ?_
                  refine x_iadd dX7_join_91 ?_
                  obtain ⟨hn, hT⟩ := hT
                  obtain ⟨hb, hr, hT⟩ := hT
                  refine c_anewarrayG (t := 11) dX7_join_92 (by decide) (by decide) (by decide) rfl q1463 (Or.inr ⟨_, rfl, q1798⟩) hn hb hr hW hF ?_
                  intro a24 f25 ea24 ef25 h hW hF
                  replace hT := hT a24 f25 ea24 ef25
                  refine x_astore (lo' := [some (.ref (w.1 7)), some (.int x1), some (.ref a12), some (.ref a13), some (.int x4), some (.int v19), some (.ref a24), none]) dX7_join_95 (Nat.le_of_ble_eq_true rfl) rfl rfl ?_
                  refine x_iconst (v := 0) dX7_join_97 rfl ?_
                  refine x_istore (lo' := [some (.ref (w.1 7)), some (.int x1), some (.ref a12), some (.ref a13), some (.int x4), some (.int v19), some (.ref a24), some (.int 0)]) dX7_join_98 (Nat.le_of_ble_eq_true rfl) rfl ?_
                  refine Ex.wkl (lo' := [some (.ref (w.1 7)), none, some (.ref a12), some (.ref a13), some (.int x4), some (.int v19), some (.ref a24), some (.int 0)]) ⟨rfl, rfl, rfl, rfl, rfl, rfl, rfl, trivial⟩ ?_
                  exact hT f0 h hW hF
                have kt : ∀ k s21 f22, P27 (.inr k) s21 f22 → ∀ h a, CW E w s21 f22 h → xA w h k a → Frz f0 f22 → ExT l E (d + 1) MX7_join 84 [some (.ref (w.1 7)), some (.int x1), some (.ref a12), some (.ref a13), some (.int x4), some (.int v19), none, none] [.int v19] a h (PoC E w f0 Q) := by
                  intro k s21 f22 h0 h a hW hx hF
                  have hT := hP _ _ _ h0
                  clear h0
                  exact c_out (rfl) hW hx hF hT
                obtain ⟨cc, hcc⟩ := hW.ocell hc
                rcases hT with ⟨rfl, hT⟩ | ⟨rfl, hT⟩ | ⟨rfl, hT⟩ | ⟨rfl, hT⟩
                · exact c_invV (vs := []) dX7_join_84 oX32_size q1454 q1746 hcc q1453 (Or.inr hy_Thing_size) rfl rfl (Nat.le_of_ble_eq_true rfl) rfl hW hF hT kr kt
                · exact c_invV (vs := []) dX7_join_84 oX33_size q1457 q1746 hcc q1456 (Or.inr hy_Thing_size) rfl rfl (Nat.le_of_ble_eq_true rfl) rfl hW hF hT kr kt
                · exact c_invV (vs := []) dX7_join_84 oX34_size q1451 q1746 hcc q1450 (Or.inr hy_Thing_size) rfl rfl (Nat.le_of_ble_eq_true rfl) rfl hW hF hT kr kt
                · exact c_invV (vs := []) dX7_join_84 oX35_size q1460 q1746 hcc q1459 (Or.inr hy_Thing_size) rfl rfl (Nat.le_of_ble_eq_true rfl) rfl hW hF hT kr kt
              · replace hT := hT.2 hi20
                refine x_if_eq (tgt := 90) dX7_join_80 rfl (fun _ => ?_) (fun c => absurd c (by decide))
                refine x_iconst (v := 1) dX7_join_90 rfl ?_
                refine x_iadd dX7_join_91 ?_
                obtain ⟨hn, hT⟩ := hT
                obtain ⟨hb, hr, hT⟩ := hT
                refine c_anewarrayG (t := 11) dX7_join_92 (by decide) (by decide) (by decide) rfl q1463 (Or.inr ⟨_, rfl, q1798⟩) hn hb hr hW hF ?_
                intro a28 f29 ea28 ef29 h hW hF
                replace hT := hT a28 f29 ea28 ef29
                refine x_astore (lo' := [some (.ref (w.1 7)), some (.int x1), some (.ref a12), some (.ref a13), some (.int x4), some (.int v19), some (.ref a28), none]) dX7_join_95 (Nat.le_of_ble_eq_true rfl) rfl rfl ?_
                refine x_iconst (v := 0) dX7_join_97 rfl ?_
                refine x_istore (lo' := [some (.ref (w.1 7)), some (.int x1), some (.ref a12), some (.ref a13), some (.int x4), some (.int v19), some (.ref a28), some (.int 0)]) dX7_join_98 (Nat.le_of_ble_eq_true rfl) rfl ?_
                refine Ex.wkl (lo' := [some (.ref (w.1 7)), none, some (.ref a12), some (.ref a13), some (.int x4), some (.int v19), some (.ref a28), some (.int 0)]) ⟨rfl, rfl, rfl, rfl, rfl, rfl, rfl, trivial⟩ ?_
                exact hT f0 h hW hF
            have kt : ∀ k s17 f18, P31 (.inr k) s17 f18 → ∀ h a, CW E w s17 f18 h → xA w h k a → Frz f0 f18 → ExT l E (d + 1) MX7_join 65 [some (.ref (w.1 7)), some (.int x1), some (.ref a12), some (.ref a13), some (.int x4), none, none, none] [] a h (PoC E w f0 Q) := by
              intro k s17 f18 h0 h a hW hx hF
              have hT := hP _ _ _ h0
              clear h0
              exact c_out (rfl) hW hx hF hT
            obtain ⟨cc, hcc⟩ := hW.ocell hc
            rcases hT with ⟨rfl, hT⟩ | ⟨rfl, hT⟩ | ⟨rfl, hT⟩ | ⟨rfl, hT⟩
            · exact c_invV (vs := []) dX7_join_65 oX32_size q1454 q1746 hcc q1453 (Or.inr hy_Thing_size) rfl rfl (Nat.le_of_ble_eq_true rfl) rfl hW hF hT kr kt
            · exact c_invV (vs := []) dX7_join_65 oX33_size q1457 q1746 hcc q1456 (Or.inr hy_Thing_size) rfl rfl (Nat.le_of_ble_eq_true rfl) rfl hW hF hT kr kt
            · exact c_invV (vs := []) dX7_join_65 oX34_size q1451 q1746 hcc q1450 (Or.inr hy_Thing_size) rfl rfl (Nat.le_of_ble_eq_true rfl) rfl hW hF hT kr kt
            · exact c_invV (vs := []) dX7_join_65 oX35_size q1460 q1746 hcc q1459 (Or.inr hy_Thing_size) rfl rfl (Nat.le_of_ble_eq_true rfl) rfl hW hF hT kr kt
          · replace hT := hT.2 hi16
            refine x_if_eq (tgt := 71) dX7_join_61 rfl (fun _ => ?_) (fun c => absurd c (by decide))
            refine x_iconst (v := 1) dX7_join_71 rfl ?_
            refine x_istore (lo' := [some (.ref (w.1 7)), some (.int x1), some (.ref a12), some (.ref a13), some (.int x4), some (.int 1), none, none]) dX7_join_72 (Nat.le_of_ble_eq_true rfl) rfl ?_
            refine x_iload dX7_join_74 rfl ?_
            refine x_aload_n dX7_join_76 rfl rfl rfl ?_
            obtain ⟨ht, hT⟩ := hT
            refine c_inst (K := 30) dX7_join_77 (by decide) q1784 ht hW (fun hi32 => ?_) (fun hi32 => ?_)
            · replace hT := hT.1 hi32
              refine x_if_eq (tgt := 90) dX7_join_80 rfl (fun c => absurd c (by decide)) (fun _ => ?_)
              refine x_aload_n dX7_join_83 rfl rfl rfl ?_
              obtain ⟨P39, hP, k38, hc, hT⟩ := hT
              have kr : ∀ r s33 f34, P39 (.inl r) s33 f34 → ∀ h, CW E w s33 f34 h → Frz f0 f34 → Ex l E (d + 1) MX7_join (84 + 3) [some (.ref (w.1 7)), some (.int x1), some (.ref a12), some (.ref a13), some (.int x4), some (.int 1), none, none] (r.toList ++ [.int 1]) h (PoC E w f0 Q) := by
                intro r s33 f34 h0 h hW hF
                have hT := hP _ _ _ h0
                clear h0
                obtain ⟨v35, rfl, hT⟩ := hT
                refine x_goto (tgt := 91) dX7_join_87 rfl ?_
                refine x_iadd dX7_join_91 ?_
                obtain ⟨hn, hT⟩ := hT
                obtain ⟨hb, hr, hT⟩ := hT
                refine c_anewarrayG (t := 11) dX7_join_92 (by decide) (by decide) (by decide) rfl q1463 (Or.inr ⟨_, rfl, q1798⟩) hn hb hr hW hF ?_
                intro a36 f37 ea36 ef37 h hW hF
                replace hT := hT a36 f37 ea36 ef37
                refine x_astore (lo' := [some (.ref (w.1 7)), some (.int x1), some (.ref a12), some (.ref a13), some (.int x4), some (.int 1), some (.ref a36), none]) dX7_join_95 (Nat.le_of_ble_eq_true rfl) rfl rfl ?_
                refine x_iconst (v := 0) dX7_join_97 rfl ?_
                refine x_istore (lo' := [some (.ref (w.1 7)), some (.int x1), some (.ref a12), some (.ref a13), some (.int x4), some (.int 1), some (.ref a36), some (.int 0)]) dX7_join_98 (Nat.le_of_ble_eq_true rfl) rfl ?_
                refine Ex.wkl (lo' := [some (.ref (w.1 7)), none, some (.ref a12), some (.ref a13), some (.int x4), some (.int 1), some (.ref a36), some (.int 0)]) ⟨rfl, rfl, rfl, rfl, rfl, rfl, rfl, trivial⟩ ?_
                exact hT f0 h hW hF
              have kt : ∀ k s33 f34, P39 (.inr k) s33 f34 → ∀ h a, CW E w s33 f34 h → xA w h k a → Frz f0 f34 → ExT l E (d + 1) MX7_join 84 [some (.ref (w.1 7)), some (.int x1), some (.ref a12), some (.ref a13), some (.int x4), some (.int 1), none, none] [.int 1] a h (PoC E w f0 Q) := by
                intro k s33 f34 h0 h a hW hx hF
                have hT := hP _ _ _ h0
                clear h0
                exact c_out (rfl) hW hx hF hT
              obtain ⟨cc, hcc⟩ := hW.ocell hc
              rcases hT with ⟨rfl, hT⟩ | ⟨rfl, hT⟩ | ⟨rfl, hT⟩ | ⟨rfl, hT⟩
              · exact c_invV (vs := []) dX7_join_84 oX32_size q1454 q1746 hcc q1453 (Or.inr hy_Thing_size) rfl rfl (Nat.le_of_ble_eq_true rfl) rfl hW hF hT kr kt
              · exact c_invV (vs := []) dX7_join_84 oX33_size q1457 q1746 hcc q1456 (Or.inr hy_Thing_size) rfl rfl (Nat.le_of_ble_eq_true rfl) rfl hW hF hT kr kt
              · exact c_invV (vs := []) dX7_join_84 oX34_size q1451 q1746 hcc q1450 (Or.inr hy_Thing_size) rfl rfl (Nat.le_of_ble_eq_true rfl) rfl hW hF hT kr kt
              · exact c_invV (vs := []) dX7_join_84 oX35_size q1460 q1746 hcc q1459 (Or.inr hy_Thing_size) rfl rfl (Nat.le_of_ble_eq_true rfl) rfl hW hF hT kr kt
            · replace hT := hT.2 hi32
              refine x_if_eq (tgt := 90) dX7_join_80 rfl (fun _ => ?_) (fun c => absurd c (by decide))
              refine x_iconst (v := 1) dX7_join_90 rfl ?_
              refine x_iadd dX7_join_91 ?_
              obtain ⟨hn, hT⟩ := hT
              obtain ⟨hb, hr, hT⟩ := hT
              refine c_anewarrayG (t := 11) dX7_join_92 (by decide) (by decide) (by decide) rfl q1463 (Or.inr ⟨_, rfl, q1798⟩) hn hb hr hW hF ?_
              intro a40 f41 ea40 ef41 h hW hF
              replace hT := hT a40 f41 ea40 ef41
              refine x_astore (lo' := [some (.ref (w.1 7)), some (.int x1), some (.ref a12), some (.ref a13), some (.int x4), some (.int 1), some (.ref a40), none]) dX7_join_95 (Nat.le_of_ble_eq_true rfl) rfl rfl ?_
              refine x_iconst (v := 0) dX7_join_97 rfl ?_
              refine x_istore (lo' := [some (.ref (w.1 7)), some (.int x1), some (.ref a12), some (.ref a13), some (.int x4), some (.int 1), some (.ref a40), some (.int 0)]) dX7_join_98 (Nat.le_of_ble_eq_true rfl) rfl ?_
              refine Ex.wkl (lo' := [some (.ref (w.1 7)), none, some (.ref a12), some (.ref a13), some (.int x4), some (.int 1), some (.ref a40), some (.int 0)]) ⟨rfl, rfl, rfl, rfl, rfl, rfl, rfl, trivial⟩ ?_
              exact hT f0 h hW hF
        · subst e
          replace hT := hT.1 rfl
          refine x_aload_n dX7_join_46 rfl rfl rfl ?_
          refine c_getO dX7_join_47 f_TallySlate_Works_9 (by decide) (by decide) rfl hW ?_
          refine x_iconst (v := 3) dX7_join_50 rfl ?_
          refine x_iload dX7_join_51 rfl ?_
          obtain ⟨-, -, cc, hcc, -⟩ := hW.ob 3 (by decide)
          refine c_invV (vs := [.int 3, .int x4]) dX7_join_53 oX3_wrong q1323 q1745 hcc q1324 (Or.inl rfl) rfl rfl (Nat.le_of_ble_eq_true rfl) rfl hW hF hT ?_ ?_
          · intro _ s14 f15 hT h hW hF
            obtain ⟨rfl, hT⟩ := hT
            refine x_athrow dX7_join_56 ?_
            exact c_out (rfl) hW (Or.inl ⟨rfl, rfl⟩) hF hT
          · intro k s14 f15 hT h a hW hx hF
            exact c_out (rfl) hW hx hF hT
      · replace hT := hT.2 hi11
        refine x_if_ne (tgt := 38) dX7_join_28 rfl (fun c => absurd c (by decide)) (fun _ => ?_)
        refine x_aload_n dX7_join_31 rfl rfl ix3 ?_
        obtain ⟨ht, hT⟩ := hT
        refine c_instV (K := 30) dX7_join_32 (by decide) q1784 ht hW (fun a43 ec hi42 => ?_) (fun hi42 => ?_)
        · subst ec
          replace hT := hT.1 a43 rfl hi42
          refine x_if_eq (tgt := 159) dX7_join_35 rfl (fun c => absurd c (by decide)) (fun _ => ?_)
          refine x_aload_n dX7_join_38 rfl rfl ix2 ?_
          refine x_ifnull (tgt := 46) dX7_join_39 rfl ix2 (fun e => ?_) (fun a44 e => ?_)
          · subst e
            replace hT := hT.1 rfl
            refine x_aload_n dX7_join_46 rfl rfl rfl ?_
            refine c_getO dX7_join_47 f_TallySlate_Works_9 (by decide) (by decide) rfl hW ?_
            refine x_iconst (v := 3) dX7_join_50 rfl ?_
            refine x_iload dX7_join_51 rfl ?_
            obtain ⟨-, -, cc, hcc, -⟩ := hW.ob 3 (by decide)
            refine c_invV (vs := [.int 3, .int x4]) dX7_join_53 oX3_wrong q1323 q1745 hcc q1324 (Or.inl rfl) rfl rfl (Nat.le_of_ble_eq_true rfl) rfl hW hF hT ?_ ?_
            · intro _ s45 f46 hT h hW hF
              obtain ⟨rfl, hT⟩ := hT
              refine x_athrow dX7_join_56 ?_
              exact c_out (rfl) hW (Or.inl ⟨rfl, rfl⟩) hF hT
            · intro k s45 f46 hT h a hW hx hF
              exact c_out (rfl) hW hx hF hT
          · subst e
            replace hT := hT.2 a44 rfl
            refine x_aload_n dX7_join_42 rfl rfl rfl ?_
            refine x_ifnonnull (tgt := 57) dX7_join_43 rfl rfl (fun _ _ => ?_) (fun e => by cases e)
            refine x_aload_n dX7_join_57 rfl rfl rfl ?_
            obtain ⟨ht, hT⟩ := hT
            refine c_inst (K := 30) dX7_join_58 (by decide) q1784 ht hW (fun hi47 => ?_) (fun hi47 => ?_)
            · replace hT := hT.1 hi47
              refine x_if_eq (tgt := 71) dX7_join_61 rfl (fun c => absurd c (by decide)) (fun _ => ?_)
              refine x_aload_n dX7_join_64 rfl rfl rfl ?_
              obtain ⟨P62, hP, k61, hc, hT⟩ := hT
              have kr : ∀ r s48 f49, P62 (.inl r) s48 f49 → ∀ h, CW E w s48 f49 h → Frz f0 f49 → Ex l E (d + 1) MX7_join (65 + 3) [some (.ref (w.1 7)), some (.int x1), some (.ref a44), some (.ref a43), some (.int x4), none, none, none] (r.toList ++ []) h (PoC E w f0 Q) := by
                intro r s48 f49 h0 h hW hF
                have hT := hP _ _ _ h0
                clear h0
                obtain ⟨v50, rfl, hT⟩ := hT
                refine x_goto (tgt := 72) dX7_join_68 rfl ?_
                refine x_istore (lo' := [some (.ref (w.1 7)), some (.int x1), some (.ref a44), some (.ref a43), some (.int x4), some (.int v50), none, none]) dX7_join_72 (Nat.le_of_ble_eq_true rfl) rfl ?_
                refine x_iload dX7_join_74 rfl ?_
                refine x_aload_n dX7_join_76 rfl rfl rfl ?_
                obtain ⟨ht, hT⟩ := hT
                refine c_inst (K := 30) dX7_join_77 (by decide) q1784 ht hW (fun hi51 => ?_) (fun hi51 => ?_)
                · replace hT := hT.1 hi51
                  refine x_if_eq (tgt := 90) dX7_join_80 rfl (fun c => absurd c (by decide)) (fun _ => ?_)
                  refine x_aload_n dX7_join_83 rfl rfl rfl ?_
                  obtain ⟨P58, hP, k57, hc, hT⟩ := hT
                  have kr : ∀ r s52 f53, P58 (.inl r) s52 f53 → ∀ h, CW E w s52 f53 h → Frz f0 f53 → Ex l E (d + 1) MX7_join (84 + 3) [some (.ref (w.1 7)), some (.int x1), some (.ref a44), some (.ref a43), some (.int x4), some (.int v50), none, none] (r.toList ++ [.int v50]) h (PoC E w f0 Q) := by
                    intro r s52 f53 h0 h hW hF
                    have hT := hP _ _ _ h0
                    clear h0
                    obtain ⟨v54, rfl, hT⟩ := hT
                    refine x_goto (tgt := 91) dX7_join_87 rfl ?_
                    refine x_iadd dX7_join_91 ?_
                    obtain ⟨hn, hT⟩ := hT
                    obtain ⟨hb, hr, hT⟩ := hT
                    refine c_anewarrayG (t := 11) dX7_join_92 (by decide) (by decide) (by decide) rfl q1463 (Or.inr ⟨_, rfl, q1798⟩) hn hb hr hW hF ?_
                    intro a55 f56 ea55 ef56 h hW hF
                    replace hT := hT a55 f56 ea55 ef56
                    refine x_astore (lo' := [some (.ref (w.1 7)), some (.int x1), some (.ref a44), some (.ref a43), some (.int x4), some (.int v50), some (.ref a55), none]) dX7_join_95 (Nat.le_of_ble_eq_true rfl) rfl rfl ?_
                    refine x_iconst (v := 0) dX7_join_97 rfl ?_
                    refine x_istore (lo' := [some (.ref (w.1 7)), some (.int x1), some (.ref a44), some (.ref a43), some (.int x4), some (.int v50), some (.ref a55), some (.int 0)]) dX7_join_98 (Nat.le_of_ble_eq_true rfl) rfl ?_
                    refine Ex.wkl (lo' := [some (.ref (w.1 7)), none, some (.ref a44), some (.ref a43), some (.int x4), some (.int v50), some (.ref a55), some (.int 0)]) ⟨rfl, rfl, rfl, rfl, rfl, rfl, rfl, trivial⟩ ?_
                    exact hT f0 h hW hF
                  have kt : ∀ k s52 f53, P58 (.inr k) s52 f53 → ∀ h a, CW E w s52 f53 h → xA w h k a → Frz f0 f53 → ExT l E (d + 1) MX7_join 84 [some (.ref (w.1 7)), some (.int x1), some (.ref a44), some (.ref a43), some (.int x4), some (.int v50), none, none] [.int v50] a h (PoC E w f0 Q) := by
                    intro k s52 f53 h0 h a hW hx hF
                    have hT := hP _ _ _ h0
                    clear h0
                    exact c_out (rfl) hW hx hF hT
                  obtain ⟨cc, hcc⟩ := hW.ocell hc
                  rcases hT with ⟨rfl, hT⟩ | ⟨rfl, hT⟩ | ⟨rfl, hT⟩ | ⟨rfl, hT⟩
                  · exact c_invV (vs := []) dX7_join_84 oX32_size q1454 q1746 hcc q1453 (Or.inr hy_Thing_size) rfl rfl (Nat.le_of_ble_eq_true rfl) rfl hW hF hT kr kt
                  · exact c_invV (vs := []) dX7_join_84 oX33_size q1457 q1746 hcc q1456 (Or.inr hy_Thing_size) rfl rfl (Nat.le_of_ble_eq_true rfl) rfl hW hF hT kr kt
                  · exact c_invV (vs := []) dX7_join_84 oX34_size q1451 q1746 hcc q1450 (Or.inr hy_Thing_size) rfl rfl (Nat.le_of_ble_eq_true rfl) rfl hW hF hT kr kt
                  · exact c_invV (vs := []) dX7_join_84 oX35_size q1460 q1746 hcc q1459 (Or.inr hy_Thing_size) rfl rfl (Nat.le_of_ble_eq_true rfl) rfl hW hF hT kr kt
                · replace hT := hT.2 hi51
                  refine x_if_eq (tgt := 90) dX7_join_80 rfl (fun _ => ?_) (fun c => absurd c (by decide))
                  refine x_iconst (v := 1) dX7_join_90 rfl ?_
                  refine x_iadd dX7_join_91 ?_
                  obtain ⟨hn, hT⟩ := hT
                  obtain ⟨hb, hr, hT⟩ := hT
                  refine c_anewarrayG (t := 11) dX7_join_92 (by decide) (by decide) (by decide) rfl q1463 (Or.inr ⟨_, rfl, q1798⟩) hn hb hr hW hF ?_
                  intro a59 f60 ea59 ef60 h hW hF
                  replace hT := hT a59 f60 ea59 ef60
                  refine x_astore (lo' := [some (.ref (w.1 7)), some (.int x1), some (.ref a44), some (.ref a43), some (.int x4), some (.int v50), some (.ref a59), none]) dX7_join_95 (Nat.le_of_ble_eq_true rfl) rfl rfl ?_
                  refine x_iconst (v := 0) dX7_join_97 rfl ?_
                  refine x_istore (lo' := [some (.ref (w.1 7)), some (.int x1), some (.ref a44), some (.ref a43), some (.int x4), some (.int v50), some (.ref a59), some (.int 0)]) dX7_join_98 (Nat.le_of_ble_eq_true rfl) rfl ?_
                  refine Ex.wkl (lo' := [some (.ref (w.1 7)), none, some (.ref a44), some (.ref a43), some (.int x4), some (.int v50), some (.ref a59), some (.int 0)]) ⟨rfl, rfl, rfl, rfl, rfl, rfl, rfl, trivial⟩ ?_
                  exact hT f0 h hW hF
              have kt : ∀ k s48 f49, P62 (.inr k) s48 f49 → ∀ h a, CW E w s48 f49 h → xA w h k a → Frz f0 f49 → ExT l E (d + 1) MX7_join 65 [some (.ref (w.1 7)), some (.int x1), some (.ref a44), some (.ref a43), some (.int x4), none, none, none] [] a h (PoC E w f0 Q) := by
                intro k s48 f49 h0 h a hW hx hF
                have hT := hP _ _ _ h0
                clear h0
                exact c_out (rfl) hW hx hF hT
              obtain ⟨cc, hcc⟩ := hW.ocell hc
              rcases hT with ⟨rfl, hT⟩ | ⟨rfl, hT⟩ | ⟨rfl, hT⟩ | ⟨rfl, hT⟩
              · exact c_invV (vs := []) dX7_join_65 oX32_size q1454 q1746 hcc q1453 (Or.inr hy_Thing_size) rfl rfl (Nat.le_of_ble_eq_true rfl) rfl hW hF hT kr kt
              · exact c_invV (vs := []) dX7_join_65 oX33_size q1457 q1746 hcc q1456 (Or.inr hy_Thing_size) rfl rfl (Nat.le_of_ble_eq_true rfl) rfl hW hF hT kr kt
              · exact c_invV (vs := []) dX7_join_65 oX34_size q1451 q1746 hcc q1450 (Or.inr hy_Thing_size) rfl rfl (Nat.le_of_ble_eq_true rfl) rfl hW hF hT kr kt
              · exact c_invV (vs := []) dX7_join_65 oX35_size q1460 q1746 hcc q1459 (Or.inr hy_Thing_size) rfl rfl (Nat.le_of_ble_eq_true rfl) rfl hW hF hT kr kt
            · replace hT := hT.2 hi47
              refine x_if_eq (tgt := 71) dX7_join_61 rfl (fun _ => ?_) (fun c => absurd c (by decide))
              refine x_iconst (v := 1) dX7_join_71 rfl ?_
              refine x_istore (lo' := [some (.ref (w.1 7)), some (.int x1), some (.ref a44), some (.ref a43), some (.int x4), some (.int 1), none, none]) dX7_join_72 (Nat.le_of_ble_eq_true rfl) rfl ?_
              refine x_iload dX7_join_74 rfl ?_
              refine x_aload_n dX7_join_76 rfl rfl rfl ?_
              obtain ⟨ht, hT⟩ := hT
              refine c_inst (K := 30) dX7_join_77 (by decide) q1784 ht hW (fun hi63 => ?_) (fun hi63 => ?_)
              · replace hT := hT.1 hi63
                refine x_if_eq (tgt := 90) dX7_join_80 rfl (fun c => absurd c (by decide)) (fun _ => ?_)
                refine x_aload_n dX7_join_83 rfl rfl rfl ?_
                obtain ⟨P70, hP, k69, hc, hT⟩ := hT
                have kr : ∀ r s64 f65, P70 (.inl r) s64 f65 → ∀ h, CW E w s64 f65 h → Frz f0 f65 → Ex l E (d + 1) MX7_join (84 + 3) [some (.ref (w.1 7)), some (.int x1), some (.ref a44), some (.ref a43), some (.int x4), some (.int 1), none, none] (r.toList ++ [.int 1]) h (PoC E w f0 Q) := by
                  intro r s64 f65 h0 h hW hF
                  have hT := hP _ _ _ h0
                  clear h0
                  obtain ⟨v66, rfl, hT⟩ := hT
                  refine x_goto (tgt := 91) dX7_join_87 rfl ?_
                  refine x_iadd dX7_join_91 ?_
                  obtain ⟨hn, hT⟩ := hT
                  obtain ⟨hb, hr, hT⟩ := hT
                  refine c_anewarrayG (t := 11) dX7_join_92 (by decide) (by decide) (by decide) rfl q1463 (Or.inr ⟨_, rfl, q1798⟩) hn hb hr hW hF ?_
                  intro a67 f68 ea67 ef68 h hW hF
                  replace hT := hT a67 f68 ea67 ef68
                  refine x_astore (lo' := [some (.ref (w.1 7)), some (.int x1), some (.ref a44), some (.ref a43), some (.int x4), some (.int 1), some (.ref a67), none]) dX7_join_95 (Nat.le_of_ble_eq_true rfl) rfl rfl ?_
                  refine x_iconst (v := 0) dX7_join_97 rfl ?_
                  refine x_istore (lo' := [some (.ref (w.1 7)), some (.int x1), some (.ref a44), some (.ref a43), some (.int x4), some (.int 1), some (.ref a67), some (.int 0)]) dX7_join_98 (Nat.le_of_ble_eq_true rfl) rfl ?_
                  refine Ex.wkl (lo' := [some (.ref (w.1 7)), none, some (.ref a44), some (.ref a43), some (.int x4), some (.int 1), some (.ref a67), some (.int 0)]) ⟨rfl, rfl, rfl, rfl, rfl, rfl, rfl, trivial⟩ ?_
                  exact hT f0 h hW hF
                have kt : ∀ k s64 f65, P70 (.inr k) s64 f65 → ∀ h a, CW E w s64 f65 h → xA w h k a → Frz f0 f65 → ExT l E (d + 1) MX7_join 84 [some (.ref (w.1 7)), some (.int x1), some (.ref a44), some (.ref a43), some (.int x4), some (.int 1), none, none] [.int 1] a h (PoC E w f0 Q) := by
                  intro k s64 f65 h0 h a hW hx hF
                  have hT := hP _ _ _ h0
                  clear h0
                  exact c_out (rfl) hW hx hF hT
                obtain ⟨cc, hcc⟩ := hW.ocell hc
                rcases hT with ⟨rfl, hT⟩ | ⟨rfl, hT⟩ | ⟨rfl, hT⟩ | ⟨rfl, hT⟩
                · exact c_invV (vs := []) dX7_join_84 oX32_size q1454 q1746 hcc q1453 (Or.inr hy_Thing_size) rfl rfl (Nat.le_of_ble_eq_true rfl) rfl hW hF hT kr kt
                · exact c_invV (vs := []) dX7_join_84 oX33_size q1457 q1746 hcc q1456 (Or.inr hy_Thing_size) rfl rfl (Nat.le_of_ble_eq_true rfl) rfl hW hF hT kr kt
                · exact c_invV (vs := []) dX7_join_84 oX34_size q1451 q1746 hcc q1450 (Or.inr hy_Thing_size) rfl rfl (Nat.le_of_ble_eq_true rfl) rfl hW hF hT kr kt
                · exact c_invV (vs := []) dX7_join_84 oX35_size q1460 q1746 hcc q1459 (Or.inr hy_Thing_size) rfl rfl (Nat.le_of_ble_eq_true rfl) rfl hW hF hT kr kt
              · replace hT := hT.2 hi63
                refine x_if_eq (tgt := 90) dX7_join_80 rfl (fun _ => ?_) (fun c => absurd c (by decide))
                refine x_iconst (v := 1) dX7_join_90 rfl ?_
                refine x_iadd dX7_join_91 ?_
                obtain ⟨hn, hT⟩ := hT
                obtain ⟨hb, hr, hT⟩ := hT
                refine c_anewarrayG (t := 11) dX7_join_92 (by decide) (by decide) (by decide) rfl q1463 (Or.inr ⟨_, rfl, q1798⟩) hn hb hr hW hF ?_
                intro a71 f72 ea71 ef72 h hW hF
                replace hT := hT a71 f72 ea71 ef72
                refine x_astore (lo' := [some (.ref (w.1 7)), some (.int x1), some (.ref a44), some (.ref a43), some (.int x4), some (.int 1), some (.ref a71), none]) dX7_join_95 (Nat.le_of_ble_eq_true rfl) rfl rfl ?_
                refine x_iconst (v := 0) dX7_join_97 rfl ?_
                refine x_istore (lo' := [some (.ref (w.1 7)), some (.int x1), some (.ref a44), some (.ref a43), some (.int x4), some (.int 1), some (.ref a71), some (.int 0)]) dX7_join_98 (Nat.le_of_ble_eq_true rfl) rfl ?_
                refine Ex.wkl (lo' := [some (.ref (w.1 7)), none, some (.ref a44), some (.ref a43), some (.int x4), some (.int 1), some (.ref a71), some (.int 0)]) ⟨rfl, rfl, rfl, rfl, rfl, rfl, rfl, trivial⟩ ?_
                exact hT f0 h hW hF
        · replace hT := hT.2 hi42
          refine x_if_eq (tgt := 159) dX7_join_35 rfl (fun _ => ?_) (fun c => absurd c (by decide))
          refine x_aload_n dX7_join_159 rfl rfl ix2 ?_
          refine c_invS (vs := [x2]) dX7_join_160 oX7_intsOf q1823 (Or.inl q1822) rfl rfl (Nat.le_of_ble_eq_true rfl) rfl hW hF hT ?_ ?_
          · intro _ s73 f74 hT h hW hF
            obtain ⟨v75, rfl, hT⟩ := hT
            refine x_istore (lo' := [some (.ref (w.1 7)), some (.int x1), some (x2), some (x3), some (.int x4), some (.int v75), none, none]) dX7_join_163 (Nat.le_of_ble_eq_true rfl) rfl ?_
            refine x_aload_n dX7_join_165 rfl rfl rfl ?_
            refine c_getO dX7_join_166 f_TallySlate_Works_9 (by decide) (by decide) rfl hW ?_
            refine c_getO dX7_join_169 f_TallySlate_Works_177 (by decide) (by decide) rfl hW ?_
            refine x_iload dX7_join_172 rfl ?_
            refine x_aload_n dX7_join_174 rfl rfl ix3 ?_
            refine c_invS (vs := [x3]) dX7_join_175 oX7_intsOf q1823 (Or.inl q1822) rfl rfl (Nat.le_of_ble_eq_true rfl) rfl hW hF hT ?_ ?_
            · intro _ s76 f77 hT h hW hF
              obtain ⟨v78, rfl, hT⟩ := hT
              refine x_iadd dX7_join_178 ?_
              refine x_iload dX7_join_179 rfl ?_
              obtain ⟨-, -, cc, hcc, -⟩ := hW.ob 6 (by decide)
              refine c_invV (vs := [.int (v75 + v78), .int x4]) dX7_join_181 oX6_ints q1701 q1819 hcc q1702 (Or.inl rfl) rfl rfl (Nat.le_of_ble_eq_true rfl) rfl hW hF hT ?_ ?_
              · intro _ s79 f80 hT h hW hF
                obtain ⟨a81, rfl, hT⟩ := hT
                refine x_astore (lo' := [some (.ref (w.1 7)), some (.int x1), some (x2), some (x3), some (.int x4), some (.int v75), some (.ref a81), none]) dX7_join_184 (Nat.le_of_ble_eq_true rfl) rfl rfl ?_
                refine x_aload_n dX7_join_186 rfl rfl ix2 ?_
                refine x_aload_n dX7_join_187 rfl rfl rfl ?_
                refine c_getO dX7_join_188 f_TallySlate_Works_9 (by decide) (by decide) rfl hW ?_
                refine c_getA dX7_join_191 f_TallySlate_Works_138 (by decide) (by decide) rfl hW ?_
                refine x_iload_n dX7_join_194 rfl rfl ?_
                obtain ⟨hb, hT⟩ := hT
                refine c_iald (v := (s79.2.2.1 24 x1.toNatClampNeg)) dX7_join_195 rfl hb hW rfl ?_
                refine x_aload dX7_join_196 rfl rfl ?_
                refine x_iconst (v := 0) dX7_join_198 rfl ?_
                refine c_invS (vs := [x2, .int (s79.2.2.1 24 x1.toNatClampNeg), .ref a81, .int 0]) dX7_join_199 oX7_copyInts q1826 (Or.inl q1825) rfl rfl (Nat.le_of_ble_eq_true rfl) rfl hW hF hT ?_ ?_
                · intro _ s82 f83 hT h hW hF
                  obtain ⟨rfl, hT⟩ := hT
                  refine x_aload_n dX7_join_202 rfl rfl ix3 ?_
                  refine x_aload_n dX7_join_203 rfl rfl rfl ?_
                  refine c_getO dX7_join_204 f_TallySlate_Works_9 (by decide) (by decide) rfl hW ?_
                  refine c_getA dX7_join_207 f_TallySlate_Works_138 (by decide) (by decide) rfl hW ?_
                  refine x_iload_n dX7_join_210 rfl rfl ?_
                  refine x_iconst (v := 1) dX7_join_211 rfl ?_
                  refine x_iadd dX7_join_212 ?_
                  obtain ⟨hb, hT⟩ := hT
                  refine c_iald (v := (s82.2.2.1 24 (x1 + 1).toNatClampNeg)) dX7_join_213 rfl hb hW rfl ?_
                  refine x_aload dX7_join_214 rfl rfl ?_
                  refine x_iload dX7_join_216 rfl ?_
                  refine c_invS (vs := [x3, .int (s82.2.2.1 24 (x1 + 1).toNatClampNeg), .ref a81, .int v75]) dX7_join_218 oX7_copyInts q1826 (Or.inl q1825) rfl rfl (Nat.le_of_ble_eq_true rfl) rfl hW hF hT ?_ ?_
                  · intro _ s84 f85 hT h hW hF
                    obtain ⟨rfl, hT⟩ := hT
                    obtain ⟨hr, hT⟩ := hT
                    refine c_newG (k := 29) dX7_join_221 (by decide) q1755 q205 hr hW hF ?_
                    intro a86 f87 ea86 ef87 h hW hF
                    replace hT := hT a86 f87 ea86 ef87
                    refine x_dup dX7_join_224 rfl ?_
                    refine x_aload dX7_join_225 rfl rfl ?_
                    refine c_invI (b := a86) (vs := [.ref a81]) dX7_join_227 oX32_init rfl rfl rfl q1396 (Or.inl q1756) rfl rfl (Nat.le_of_ble_eq_true rfl) rfl hW hF hT ?_ ?_
                    · intro _ s88 f89 hT h hW hF
                      obtain ⟨rfl, hT⟩ := hT
                      exact x_aret dX7_join_230 rfl (by first | exact Or.inl ⟨_, rfl⟩ | exact Or.inr ⟨_, rfl⟩) rfl ⟨_, _, hW, hF, Or.inl ⟨_, rfl, hT⟩⟩
                    · intro k s88 f89 hT h a hW hx hF
                      exact c_out (rfl) hW hx hF hT
                  · intro k s84 f85 hT h a hW hx hF
                    exact c_out (rfl) hW hx hF hT
                · intro k s82 f83 hT h a hW hx hF
                  exact c_out (rfl) hW hx hF hT
              · intro k s79 f80 hT h a hW hx hF
                exact c_out (rfl) hW hx hF hT
            · intro k s76 f77 hT h a hW hx hF
              exact c_out (rfl) hW hx hF hT
          · intro k s73 f74 hT h a hW hx hF
            exact c_out (rfl) hW hx hF hT
theorem eX7_join {l : Launch} {E : EN} {w : CO} {d : Nat} {s : CS} {f : RH} {Q : KO → CS → RH → Prop} {x1 : Int32} {x2 : Value} {x3 : Value} {x4 : Int32} (ix2 : isR x2 = true) (ix3 : isR x3 = true) (hst : l.stackTraces = false) (hT : (isT f x2 ∧ ((∀ a2 : Nat, x2 = .ref a2 → tg f a2 = some (.inl 31) → (EvC l E w d MX7_joinPacks [.ref (w.1 7), .int x1, .ref a2, x3, .int x4] s f (fun o s3 f4 => KP o (fun r => ∃ a5 : Nat, r = some (.ref a5) ∧ Q (.inl (some (.ref a5))) s3 f4) (fun k => Q (.inr k) s3 f4)))) ∧ ((∀ z : Nat, x2 = .ref z → ¬ tg f z = some (.inl 31)) → (isT f x3 ∧ ((∀ a7 : Nat, x3 = .ref a7 → tg f a7 = some (.inl 31) → (EvC l E w d MX7_joinPacks [.ref (w.1 7), .int x1, x2, .ref a7, .int x4] s f (fun o s8 f9 => KP o (fun r => ∃ a10 : Nat, r = some (.ref a10) ∧ Q (.inl (some (.ref a10))) s8 f9) (fun k => Q (.inr k) s8 f9)))) ∧ ((∀ z : Nat, x3 = .ref z → ¬ tg f z = some (.inl 31)) → (isT f x2 ∧ ((∀ a12 : Nat, x2 = .ref a12 → tg f a12 = some (.inl 30) → ((x3 = .null → (EvC l E w d MX3_wrong [.ref (w.1 3), .int 3, .int x4] s f (fun o s14 f15 => KP o (fun r => r = some (.ref (w.1 9)) ∧ Q (.inr 9) s14 f15) (fun k => Q (.inr k) s14 f15)))) ∧ (∀ a13 : Nat, x3 = .ref a13 → (isT f (.ref a12) ∧ ((tg f a12 = some (.inl 30) → (∃ P31 : KO → CS → RH → Prop, (∀ o s17 f18, P31 o s17 f18 → KP o (fun r => ∃ v19 : Int32, r = some (.int v19) ∧ (isT f18 (.ref a13) ∧ ((tg f18 a13 = some (.inl 30) → (∃ P27 : KO → CS → RH → Prop, (∀ o s21 f22, P27 o s21 f22 → KP o (fun r => ∃ v23 : Int32, r = some (.int v23) ∧ (¬ (v19 + v23) < 0 ∧ (v19 + v23).toNatClampNeg ≤ 60000000 ∧ rmF E f22 1 (v19 + v23).toNatClampNeg ∧ ∀ (a24 : Nat) (f25 : RH), a24 = f22.1 → f25 = fnewA f22 11 (v19 + v23).toNatClampNeg → ExC l E w (d + 1) MX7_join 100 [some (.ref (w.1 7)), none, some (.ref a12), some (.ref a13), some (.int x4), some (.int v19), some (.ref a24), some (.int 0)] [] s21 f25 Q)) (fun k => Q (.inr k) s21 f22)) ∧ ∃ k26 : Nat, oc f18 a13 k26 ∧ ((k26 = 29 ∧ EvC l E w d MX32_size [.ref a13] s17 f18 P27) ∨ (k26 = 30 ∧ EvC l E w d MX33_size [.ref a13] s17 f18 P27) ∨ (k26 = 31 ∧ EvC l E w d MX34_size [.ref a13] s17 f18 P27) ∨ (k26 = 32 ∧ EvC l E w d MX35_size [.ref a13] s17 f18 P27)))) ∧ (¬ tg f18 a13 = some (.inl 30) → (¬ (v19 + 1) < 0 ∧ (v19 + 1).toNatClampNeg ≤ 60000000 ∧ rmF E f18 1 (v19 + 1).toNatClampNeg ∧ ∀ (a28 : Nat) (f29 : RH), a28 = f18.1 → f29 = fnewA f18 11 (v19 + 1).toNatClampNeg → ExC l E w (d + 1) MX7_join 100 [some (.ref (w.1 7)), none, some (.ref a12), some (.ref a13), some (.int x4), some (.int v19), some (.ref a28), some (.int 0)] [] s17 f29 Q))))) (fun k => Q (.inr k) s17 f18)) ∧ ∃ k30 : Nat, oc f a12 k30 ∧ ((k30 = 29 ∧ EvC l E w d MX32_size [.ref a12] s f P31) ∨ (k30 = 30 ∧ EvC l E w d MX33_size [.ref a12] s f P31) ∨ (k30 = 31 ∧ EvC l E w d MX34_size [.ref a12] s f P31) ∨ (k30 = 32 ∧ EvC l E w d MX35_size [.ref a12] s f P31)))) ∧ (¬ tg f a12 = some (.inl 30) → (isT f (.ref a13) ∧ ((tg f a13 = some (.inl 30) → (∃ P39 : KO → CS → RH → Prop, (∀ o s33 f34, P39 o s33 f34 → KP o (fun r => ∃ v35 : Int32, r = some (.int v35) ∧ (¬ (1 + v35) < 0 ∧ (1 + v35).toNatClampNeg ≤ 60000000 ∧ rmF E f34 1 (1 + v35).toNatClampNeg ∧ ∀ (a36 : Nat) (f37 : RH), a36 = f34.1 → f37 = fnewA f34 11 (1 + v35).toNatClampNeg → ExC l E w (d + 1) MX7_join 100 [some (.ref (w.1 7)), none, some (.ref a12), some (.ref a13), some (.int x4), some (.int 1), some (.ref a36), some (.int 0)] [] s33 f37 Q)) (fun k => Q (.inr k) s33 f34)) ∧ ∃ k38 : Nat, oc f a13 k38 ∧ ((k38 = 29 ∧ EvC l E w d MX32_size [.ref a13] s f P39) ∨ (k38 = 30 ∧ EvC l E w d MX33_size [.ref a13] s f P39) ∨ (k38 = 31 ∧ EvC l E w d MX34_size [.ref a13] s f P39) ∨ (k38 = 32 ∧ EvC l E w d MX35_size [.ref a13] s f P39)))) ∧ (¬ tg f a13 = some (.inl 30) → (¬ ((1 : Int32) + 1) < 0 ∧ ((1 : Int32) + 1).toNatClampNeg ≤ 60000000 ∧ rmF E f 1 ((1 : Int32) + 1).toNatClampNeg ∧ ∀ (a40 : Nat) (f41 : RH), a40 = f.1 → f41 = fnewA f 11 ((1 : Int32) + 1).toNatClampNeg → ExC l E w (d + 1) MX7_join 100 [some (.ref (w.1 7)), none, some (.ref a12), some (.ref a13), some (.int x4), some (.int 1), some (.ref a40), some (.int 0)] [] s f41 Q)))))))))) ∧ ((∀ z : Nat, x2 = .ref z → ¬ tg f z = some (.inl 30)) → (isT f x3 ∧ ((∀ a43 : Nat, x3 = .ref a43 → tg f a43 = some (.inl 30) → ((x2 = .null → (EvC l E w d MX3_wrong [.ref (w.1 3), .int 3, .int x4] s f (fun o s45 f46 => KP o (fun r => r = some (.ref (w.1 9)) ∧ Q (.inr 9) s45 f46) (fun k => Q (.inr k) s45 f46)))) ∧ (∀ a44 : Nat, x2 = .ref a44 → (isT f (.ref a44) ∧ ((tg f a44 = some (.inl 30) → (∃ P62 : KO → CS → RH → Prop, (∀ o s48 f49, P62 o s48 f49 → KP o (fun r => ∃ v50 : Int32, r = some (.int v50) ∧ (isT f49 (.ref a43) ∧ ((tg f49 a43 = some (.inl 30) → (∃ P58 : KO → CS → RH → Prop, (∀ o s52 f53, P58 o s52 f53 → KP o (fun r => ∃ v54 : Int32, r = some (.int v54) ∧ (¬ (v50 + v54) < 0 ∧ (v50 + v54).toNatClampNeg ≤ 60000000 ∧ rmF E f53 1 (v50 + v54).toNatClampNeg ∧ ∀ (a55 : Nat) (f56 : RH), a55 = f53.1 → f56 = fnewA f53 11 (v50 + v54).toNatClampNeg → ExC l E w (d + 1) MX7_join 100 [some (.ref (w.1 7)), none, some (.ref a44), some (.ref a43), some (.int x4), some (.int v50), some (.ref a55), some (.int 0)] [] s52 f56 Q)) (fun k => Q (.inr k) s52 f53)) ∧ ∃ k57 : Nat, oc f49 a43 k57 ∧ ((k57 = 29 ∧ EvC l E w d MX32_size [.ref a43] s48 f49 P58) ∨ (k57 = 30 ∧ EvC l E w d MX33_size [.ref a43] s48 f49 P58) ∨ (k57 = 31 ∧ EvC l E w d MX34_size [.ref a43] s48 f49 P58) ∨ (k57 = 32 ∧ EvC l E w d MX35_size [.ref a43] s48 f49 P58)))) ∧ (¬ tg f49 a43 = some (.inl 30) → (¬ (v50 + 1) < 0 ∧ (v50 + 1).toNatClampNeg ≤ 60000000 ∧ rmF E f49 1 (v50 + 1).toNatClampNeg ∧ ∀ (a59 : Nat) (f60 : RH), a59 = f49.1 → f60 = fnewA f49 11 (v50 + 1).toNatClampNeg → ExC l E w (d + 1) MX7_join 100 [some (.ref (w.1 7)), none, some (.ref a44), some (.ref a43), some (.int x4), some (.int v50), some (.ref a59), some (.int 0)] [] s48 f60 Q))))) (fun k => Q (.inr k) s48 f49)) ∧ ∃ k61 : Nat, oc f a44 k61 ∧ ((k61 = 29 ∧ EvC l E w d MX32_size [.ref a44] s f P62) ∨ (k61 = 30 ∧ EvC l E w d MX33_size [.ref a44] s f P62) ∨ (k61 = 31 ∧ EvC l E w d MX34_size [.ref a44] s f P62) ∨ (k61 = 32 ∧ EvC l E w d MX35_size [.ref a44] s f P62)))) ∧ (¬ tg f a44 = some (.inl 30) → (isT f (.ref a43) ∧ ((tg f a43 = some (.inl 30) → (∃ P70 : KO → CS → RH → Prop, (∀ o s64 f65, P70 o s64 f65 → KP o (fun r => ∃ v66 : Int32, r = some (.int v66) ∧ (¬ (1 + v66) < 0 ∧ (1 + v66).toNatClampNeg ≤ 60000000 ∧ rmF E f65 1 (1 + v66).toNatClampNeg ∧ ∀ (a67 : Nat) (f68 : RH), a67 = f65.1 → f68 = fnewA f65 11 (1 + v66).toNatClampNeg → ExC l E w (d + 1) MX7_join 100 [some (.ref (w.1 7)), none, some (.ref a44), some (.ref a43), some (.int x4), some (.int 1), some (.ref a67), some (.int 0)] [] s64 f68 Q)) (fun k => Q (.inr k) s64 f65)) ∧ ∃ k69 : Nat, oc f a43 k69 ∧ ((k69 = 29 ∧ EvC l E w d MX32_size [.ref a43] s f P70) ∨ (k69 = 30 ∧ EvC l E w d MX33_size [.ref a43] s f P70) ∨ (k69 = 31 ∧ EvC l E w d MX34_size [.ref a43] s f P70) ∨ (k69 = 32 ∧ EvC l E w d MX35_size [.ref a43] s f P70)))) ∧ (¬ tg f a43 = some (.inl 30) → (¬ ((1 : Int32) + 1) < 0 ∧ ((1 : Int32) + 1).toNatClampNeg ≤ 60000000 ∧ rmF E f 1 ((1 : Int32) + 1).toNatClampNeg ∧ ∀ (a71 : Nat) (f72 : RH), a71 = f.1 → f72 = fnewA f 11 ((1 : Int32) + 1).toNatClampNeg → ExC l E w (d + 1) MX7_join 100 [some (.ref (w.1 7)), none, some (.ref a44), some (.ref a43), some (.int x4), some (.int 1), some (.ref a71), some (.int 0)] [] s f72 Q)))))))))) ∧ ((∀ z : Nat, x3 = .ref z → ¬ tg f z = some (.inl 30)) → (EvC l E w d MX7_intsOf [x2] s f (fun o s73 f74 => KP o (fun r => ∃ v75 : Int32, r = some (.int v75) ∧ (EvC l E w d MX7_intsOf [x3] s73 f74 (fun o s76 f77 => KP o (fun r => ∃ v78 : Int32, r = some (.int v78) ∧ (EvC l E w d MX6_ints [.ref (w.1 6), .int (v75 + v78), .int x4] s76 f77 (fun o s79 f80 => KP o (fun r => ∃ a81 : Nat, r = some (.ref a81) ∧ (inB x1 8400 ∧ (EvC l E w d MX7_copyInts [x2, .int (s79.2.2.1 24 x1.toNatClampNeg), .ref a81, .int 0] s79 f80 (fun o s82 f83 => KP o (fun r => r = none ∧ (inB (x1 + 1) 8400 ∧ (EvC l E w d MX7_copyInts [x3, .int (s82.2.2.1 24 (x1 + 1).toNatClampNeg), .ref a81, .int v75] s82 f83 (fun o s84 f85 => KP o (fun r => r = none ∧ (rmF E f85 1 1 ∧ ∀ (a86 : Nat) (f87 : RH), a86 = f85.1 → f87 = fnew f85 29 → (EvC l E w d MX32_init [.ref a86, .ref a81] s84 f87 (fun o s88 f89 => KP o (fun r => r = none ∧ Q (.inl (some (.ref a86))) s88 f89) (fun k => Q (.inr k) s88 f89))))) (fun k => Q (.inr k) s84 f85))))) (fun k => Q (.inr k) s82 f83))))) (fun k => Q (.inr k) s79 f80)))) (fun k => Q (.inr k) s76 f77)))) (fun k => Q (.inr k) s73 f74)))))))))))))))) : EvC l E w (d + 1) MX7_join [.ref (w.1 7), .int x1, x2, x3, .int x4] s f Q :=by
  rcases isR_cases ix2 with rfl | ⟨_, rfl⟩ <;> rcases isR_cases ix3 with rfl | ⟨_, rfl⟩ <;> exact
  
  EvC.of hst (by decide) (Nat.le_of_ble_eq_true rfl) (vX7_join_0 ix2 ix3 hT)
set_option maxHeartbeats 16000000 in
theorem vX7_join_100 {l : Launch} {E : EN} {w : CO} {d : Nat} {s : CS} {f : RH} {Q : KO → CS → RH → Prop} {b2 : Nat} {b3 : Nat} {b4 : Int32} {b5 : Int32} {b6 : Nat} {b7 : Int32}  (hT : (∃ t90 : Nat, tg f b6 = some (.inr t90) ∧ (((nI (ln f b6)) ≤ b7 → (EvC l E w d MX6_table [.ref (w.1 6), .ref b6, .int b4] s f (fun o s91 f92 => KP o (fun r => ∃ a93 : Nat, r = some (.ref a93) ∧ Q (.inl (some (.ref a93))) s91 f92) (fun k => Q (.inr k) s91 f92)))) ∧ (¬ (nI (ln f b6)) ≤ b7 → ((b5 ≤ b7 → (EvC l E w d MX5_rowOf [.ref b3, .int (b7 - b5)] s f (fun o s94 f95 => KP o (fun r => ∃ v96 : Value, r = some v96 ∧ isR v96 = true ∧ (∃ a97 : Nat, v96 = .ref a97 ∧ (tg f95 b6 = some (.inr 11) ∧ tg f95 a97 = some (.inr 0) ∧ ez E ≤ a97 ∧ inB b7 (ln f95 b6) ∧ f95.2.2.2 ≤ b6 ∧ ∀ f98 : RH, f98 = fset f95 b6 b7.toNatClampNeg (.ref a97) → ExC l E w (d + 1) MX7_join 100 [some (.ref (w.1 7)), none, some (.ref b2), some (.ref b3), some (.int b4), some (.int b5), some (.ref b6), some (.int (b7 + 1))] [] s94 f98 Q))) (fun k => Q (.inr k) s94 f95)))) ∧ (¬ b5 ≤ b7 → (EvC l E w d MX5_rowOf [.ref b2, .int b7] s f (fun o s99 f100 => KP o (fun r => ∃ v101 : Value, r = some v101 ∧ isR v101 = true ∧ (∃ a102 : Nat, v101 = .ref a102 ∧ (tg f100 b6 = some (.inr 11) ∧ tg f100 a102 = some (.inr 0) ∧ ez E ≤ a102 ∧ inB b7 (ln f100 b6) ∧ f100.2.2.2 ≤ b6 ∧ ∀ f103 : RH, f103 = fset f100 b6 b7.toNatClampNeg (.ref a102) → ExC l E w (d + 1) MX7_join 100 [some (.ref (w.1 7)), none, some (.ref b2), some (.ref b3), some (.int b4), some (.int b5), some (.ref b6), some (.int (b7 + 1))] [] s99 f103 Q))) (fun k => Q (.inr k) s99 f100))))))))) : ExC l E w (d + 1) MX7_join 100 [some (.ref (w.1 7)), none, some (.ref b2), some (.ref b3), some (.int b4), some (.int b5), some (.ref b6), some (.int b7)] [] s f Q := by
  intro f0 h hW hF
  refine x_iload dX7_join_100 rfl ?_
  refine x_aload dX7_join_102 rfl rfl ?_
  obtain ⟨t90, hc, hT⟩ := hT
  refine c_alen dX7_join_104 hc hW ?_
  refine x_icmp_ge (tgt := 144) dX7_join_105 rfl (fun c => ?_) (fun c => ?_)
  · replace hT := hT.1 c
    refine x_aload_n dX7_join_144 rfl rfl rfl ?_
    refine c_getO dX7_join_145 f_TallySlate_Works_9 (by decide) (by decide) rfl hW ?_
    refine c_getO dX7_join_148 f_TallySlate_Works_177 (by decide) (by decide) rfl hW ?_
    refine x_aload dX7_join_151 rfl rfl ?_
    refine x_iload dX7_join_153 rfl ?_
    obtain ⟨-, -, cc, hcc, -⟩ := hW.ob 6 (by decide)
    refine c_invV (vs := [.ref b6, .int b4]) dX7_join_155 oX6_table q1545 q1856 hcc q1546 (Or.inl rfl) rfl rfl (Nat.le_of_ble_eq_true rfl) rfl hW hF hT ?_ ?_
    · intro _ s91 f92 hT h hW hF
      obtain ⟨a93, rfl, hT⟩ := hT
      exact x_aret dX7_join_158 rfl (by first | exact Or.inl ⟨_, rfl⟩ | exact Or.inr ⟨_, rfl⟩) rfl ⟨_, _, hW, hF, Or.inl ⟨_, rfl, hT⟩⟩
    · intro k s91 f92 hT h a hW hx hF
      exact c_out (rfl) hW hx hF hT
  · replace hT := hT.2 c
    refine x_aload dX7_join_108 rfl rfl ?_
    refine x_iload dX7_join_110 rfl ?_
    refine x_iload dX7_join_112 rfl ?_
    refine x_iload dX7_join_114 rfl ?_
    refine x_icmp_ge (tgt := 128) dX7_join_116 rfl (fun c => ?_) (fun c => ?_)
    · replace hT := hT.1 c
      refine x_aload_n dX7_join_128 rfl rfl rfl ?_
      refine x_iload dX7_join_129 rfl ?_
      refine x_iload dX7_join_131 rfl ?_
      refine x_isub dX7_join_133 ?_
      refine c_invS (vs := [.ref b3, .int (b7 - b5)]) dX7_join_134 oX5_rowOf q1465 (Or.inr ⟨_, q1855⟩) rfl rfl (Nat.le_of_ble_eq_true rfl) rfl hW hF hT ?_ ?_
      · intro _ s94 f95 hT h hW hF
        obtain ⟨v96, rfl, iv96, hT⟩ := hT
        obtain ⟨a97, rfl, hT⟩ := hT
        obtain ⟨hc, hv, hzb, hT⟩ := hT
        obtain ⟨hb, hz, hT⟩ := hT
        refine c_faastAG dX7_join_137 hc hv hzb hb hz hW hF ?_
        intro f98 ef98 h hW hF
        replace hT := hT f98 ef98
        refine x_iinc (lo' := [some (.ref (w.1 7)), none, some (.ref b2), some (.ref b3), some (.int b4), some (.int b5), some (.ref b6), some (.int (b7 + 1))]) dX7_join_138 rfl (show _ = (b7 + 1) from rfl) rfl ?_
        refine x_goto (tgt := 100) dX7_join_141 rfl ?_
        exact hT f0 h hW hF
      · intro k s94 f95 hT h a hW hx hF
        exact c_out (rfl) hW hx hF hT
    · replace hT := hT.2 c
      refine x_aload_n dX7_join_119 rfl rfl rfl ?_
      refine x_iload dX7_join_120 rfl ?_
      refine c_invS (vs := [.ref b2, .int b7]) dX7_join_122 oX5_rowOf q1465 (Or.inr ⟨_, q1855⟩) rfl rfl (Nat.le_of_ble_eq_true rfl) rfl hW hF hT ?_ ?_
      · intro _ s99 f100 hT h hW hF
        obtain ⟨v101, rfl, iv101, hT⟩ := hT
        refine x_goto (tgt := 137) dX7_join_125 rfl ?_
        obtain ⟨a102, rfl, hT⟩ := hT
        obtain ⟨hc, hv, hzb, hT⟩ := hT
        obtain ⟨hb, hz, hT⟩ := hT
        refine c_faastAG dX7_join_137 hc hv hzb hb hz hW hF ?_
        intro f103 ef103 h hW hF
        replace hT := hT f103 ef103
        refine x_iinc (lo' := [some (.ref (w.1 7)), none, some (.ref b2), some (.ref b3), some (.int b4), some (.int b5), some (.ref b6), some (.int (b7 + 1))]) dX7_join_138 rfl (show _ = (b7 + 1) from rfl) rfl ?_
        refine x_goto (tgt := 100) dX7_join_141 rfl ?_
        exact hT f0 h hW hF
      · intro k s99 f100 hT h a hW hx hF
        exact c_out (rfl) hW hx hF hT
set_option maxHeartbeats 16000000 in
theorem vX7_joinPacks_0 {l : Launch} {E : EN} {w : CO} {d : Nat} {s : CS} {f : RH} {Q : KO → CS → RH → Prop} {x1 : Int32} {x2 : Value} {x3 : Value} {x4 : Int32} (ix2 : isR x2 = true) (ix3 : isR x3 = true) (hT : (isT f x2 ∧ ((∀ a2 : Nat, x2 = .ref a2 → tg f a2 = some (.inl 31) → (∃ P18 : KO → CS → RH → Prop, (∀ o s3 f4, P18 o s3 f4 → KP o (fun r => ∃ v5 : Int32, r = some (.int v5) ∧ (isT f4 x3 ∧ ((∀ a7 : Nat, x3 = .ref a7 → tg f4 a7 = some (.inl 31) → (∃ P14 : KO → CS → RH → Prop, (∀ o s8 f9, P14 o s8 f9 → KP o (fun r => ∃ v10 : Int32, r = some (.int v10) ∧ (¬ (v5 + v10) < 0 ∧ (v5 + v10).toNatClampNeg ≤ 60000000 ∧ rmF E f9 1 (v5 + v10).toNatClampNeg ∧ ∀ (a11 : Nat) (f12 : RH), a11 = f9.1 → f12 = fnewA f9 4 (v5 + v10).toNatClampNeg → ExC l E w (d + 1) MX7_joinPacks 43 [some (.ref (w.1 7)), some (.int x1), some (.ref a2), some (.ref a7), some (.int x4), some (.int v5), some (.ref a11), some (.int 0), none, none] [] s8 f12 Q)) (fun k => Q (.inr k) s8 f9)) ∧ ∃ k13 : Nat, oc f4 a7 k13 ∧ ((k13 = 29 ∧ EvC l E w d MX32_size [.ref a7] s3 f4 P14) ∨ (k13 = 30 ∧ EvC l E w d MX33_size [.ref a7] s3 f4 P14) ∨ (k13 = 31 ∧ EvC l E w d MX34_size [.ref a7] s3 f4 P14) ∨ (k13 = 32 ∧ EvC l E w d MX35_size [.ref a7] s3 f4 P14)))) ∧ ((∀ z : Nat, x3 = .ref z → ¬ tg f4 z = some (.inl 31)) → (¬ (v5 + 1) < 0 ∧ (v5 + 1).toNatClampNeg ≤ 60000000 ∧ rmF E f4 1 (v5 + 1).toNatClampNeg ∧ ∀ (a15 : Nat) (f16 : RH), a15 = f4.1 → f16 = fnewA f4 4 (v5 + 1).toNatClampNeg → ExC l E w (d + 1) MX7_joinPacks 43 [some (.ref (w.1 7)), some (.int x1), some (.ref a2), some (x3), some (.int x4), some (.int v5), some (.ref a15), some (.int 0), none, none] [] s3 f16 Q))))) (fun k => Q (.inr k) s3 f4)) ∧ ∃ k17 : Nat, oc f a2 k17 ∧ ((k17 = 29 ∧ EvC l E w d MX32_size [.ref a2] s f P18) ∨ (k17 = 30 ∧ EvC l E w d MX33_size [.ref a2] s f P18) ∨ (k17 = 31 ∧ EvC l E w d MX34_size [.ref a2] s f P18) ∨ (k17 = 32 ∧ EvC l E w d MX35_size [.ref a2] s f P18)))) ∧ ((∀ z : Nat, x2 = .ref z → ¬ tg f z = some (.inl 31)) → (isT f x3 ∧ ((∀ a20 : Nat, x3 = .ref a20 → tg f a20 = some (.inl 31) → (∃ P27 : KO → CS → RH → Prop, (∀ o s21 f22, P27 o s21 f22 → KP o (fun r => ∃ v23 : Int32, r = some (.int v23) ∧ (¬ (1 + v23) < 0 ∧ (1 + v23).toNatClampNeg ≤ 60000000 ∧ rmF E f22 1 (1 + v23).toNatClampNeg ∧ ∀ (a24 : Nat) (f25 : RH), a24 = f22.1 → f25 = fnewA f22 4 (1 + v23).toNatClampNeg → ExC l E w (d + 1) MX7_joinPacks 43 [some (.ref (w.1 7)), some (.int x1), some (x2), some (.ref a20), some (.int x4), some (.int 1), some (.ref a24), some (.int 0), none, none] [] s21 f25 Q)) (fun k => Q (.inr k) s21 f22)) ∧ ∃ k26 : Nat, oc f a20 k26 ∧ ((k26 = 29 ∧ EvC l E w d MX32_size [.ref a20] s f P27) ∨ (k26 = 30 ∧ EvC l E w d MX33_size [.ref a20] s f P27) ∨ (k26 = 31 ∧ EvC l E w d MX34_size [.ref a20] s f P27) ∨ (k26 = 32 ∧ EvC l E w d MX35_size [.ref a20] s f P27)))) ∧ ((∀ z : Nat, x3 = .ref z → ¬ tg f z = some (.inl 31)) → (¬ ((1 : Int32) + 1) < 0 ∧ ((1 : Int32) + 1).toNatClampNeg ≤ 60000000 ∧ rmF E f 1 ((1 : Int32) + 1).toNatClampNeg ∧ ∀ (a28 : Nat) (f29 : RH), a28 = f.1 → f29 = fnewA f 4 ((1 : Int32) + 1).toNatClampNeg → ExC l E w (d + 1) MX7_joinPacks 43 [some (.ref (w.1 7)), some (.int x1), some (x2), some (x3), some (.int x4), some (.int 1), some (.ref a28), some (.int 0), none, none] [] s f29 Q)))))))) : ExC l E w (d + 1) MX7_joinPacks 0 [some (.ref (w.1 7)), some (.int x1), some (x2), some (x3), some (.int x4), none, none, none, none, none] [] s f Q := by
  intro f0 h hW hF
  refine x_aload_n dX7_joinPacks_0 rfl rfl ix2 ?_
  obtain ⟨ht, hT⟩ := hT
  refine c_instV (K := 31) dX7_joinPacks_1 (by decide) q1812 ht hW (fun a2 ec hi1 => ?_) (fun hi1 => ?_)
  · subst ec
    replace hT := hT.1 a2 rfl hi1
    refine x_if_eq (tgt := 14) dX7_joinPacks_4 rfl (fun c => absurd c (by decide)) (fun _ => ?_)
    refine x_aload_n dX7_joinPacks_7 rfl rfl rfl ?_
    obtain ⟨P18, hP, k17, hc, hT⟩ := hT
    have kr : ∀ r s3 f4, P18 (.inl r) s3 f4 → ∀ h, CW E w s3 f4 h → Frz f0 f4 → Ex l E (d + 1) MX7_joinPacks (8 + 3) [some (.ref (w.1 7)), some (.int x1), some (.ref a2), some (x3), some (.int x4), none, none, none, none, none] (r.toList ++ []) h (PoC E w f0 Q) := by
      intro r s3 f4 h0 h hW hF
      have hT := hP _ _ _ h0
      clear h0
      obtain ⟨v5, rfl, hT⟩ := hT
      refine x_goto (tgt := 15) dX7_joinPacks_11 rfl ?_
      refine x_istore (lo' := [some (.ref (w.1 7)), some (.int x1), some (.ref a2), some (x3), some (.int x4), some (.int v5), none, none, none, none]) dX7_joinPacks_15 (Nat.le_of_ble_eq_true rfl) rfl ?_
      refine x_iload dX7_joinPacks_17 rfl ?_
      refine x_aload_n dX7_joinPacks_19 rfl rfl ix3 ?_
      obtain ⟨ht, hT⟩ := hT
      refine c_instV (K := 31) dX7_joinPacks_20 (by decide) q1812 ht hW (fun a7 ec hi6 => ?_) (fun hi6 => ?_)
      · subst ec
        replace hT := hT.1 a7 rfl hi6
        refine x_if_eq (tgt := 33) dX7_joinPacks_23 rfl (fun c => absurd c (by decide)) (fun _ => ?_)
        refine x_aload_n dX7_joinPacks_26 rfl rfl rfl ?_
        obtain ⟨P14, hP, k13, hc, hT⟩ := hT
        have kr : ∀ r s8 f9, P14 (.inl r) s8 f9 → ∀ h, CW E w s8 f9 h → Frz f0 f9 → Ex l E (d + 1) MX7_joinPacks (27 + 3) [some (.ref (w.1 7)), some (.int x1), some (.ref a2), some (.ref a7), some (.int x4), some (.int v5), none, none, none, none] (r.toList ++ [.int v5]) h (PoC E w f0 Q) := by
          intro r s8 f9 h0 h hW hF
          have hT := hP _ _ _ h0
          clear h0
          obtain ⟨v10, rfl, hT⟩ := hT
          refine x_goto (tgt := 34) dX7_joinPacks_30 rfl ?_
          refine x_iadd dX7_joinPacks_34 ?_
          obtain ⟨hn, hT⟩ := hT
          obtain ⟨hb, hr, hT⟩ := hT
          refine c_anewarrayG (t := 4) dX7_joinPacks_35 (by decide) (by decide) (by decide) rfl q337 (Or.inl ⟨_, rfl, q1811⟩) hn hb hr hW hF ?_
          intro a11 f12 ea11 ef12 h hW hF
          replace hT := hT a11 f12 ea11 ef12
          refine x_astore (lo' := [some (.ref (w.1 7)), some (.int x1), some (.ref a2), some (.ref a7), some (.int x4), some (.int v5), some (.ref a11), none, none, none]) dX7_joinPacks_38 (Nat.le_of_ble_eq_true rfl) rfl rfl ?_
          refine x_iconst (v := 0) dX7_joinPacks_40 rfl ?_
          refine x_istore (lo' := [some (.ref (w.1 7)), some (.int x1), some (.ref a2), some (.ref a7), some (.int x4), some (.int v5), some (.ref a11), some (.int 0), none, none]) dX7_joinPacks_41 (Nat.le_of_ble_eq_true rfl) rfl ?_
          exact hT f0 h hW hF
        have kt : ∀ k s8 f9, P14 (.inr k) s8 f9 → ∀ h a, CW E w s8 f9 h → xA w h k a → Frz f0 f9 → ExT l E (d + 1) MX7_joinPacks 27 [some (.ref (w.1 7)), some (.int x1), some (.ref a2), some (.ref a7), some (.int x4), some (.int v5), none, none, none, none] [.int v5] a h (PoC E w f0 Q) := by
          intro k s8 f9 h0 h a hW hx hF
          have hT := hP _ _ _ h0
          clear h0
          exact c_out (rfl) hW hx hF hT
        obtain ⟨cc, hcc⟩ := hW.ocell hc
        rcases hT with ⟨rfl, hT⟩ | ⟨rfl, hT⟩ | ⟨rfl, hT⟩ | ⟨rfl, hT⟩
        · exact c_invV (vs := []) dX7_joinPacks_27 oX32_size q1454 q1746 hcc q1453 (Or.inr hy_Thing_size) rfl rfl (Nat.le_of_ble_eq_true rfl) rfl hW hF hT kr kt
        · exact c_invV (vs := []) dX7_joinPacks_27 oX33_size q1457 q1746 hcc q1456 (Or.inr hy_Thing_size) rfl rfl (Nat.le_of_ble_eq_true rfl) rfl hW hF hT kr kt
        · exact c_invV (vs := []) dX7_joinPacks_27 oX34_size q1451 q1746 hcc q1450 (Or.inr hy_Thing_size) rfl rfl (Nat.le_of_ble_eq_true rfl) rfl hW hF hT kr kt
        · exact c_invV (vs := []) dX7_joinPacks_27 oX35_size q1460 q1746 hcc q1459 (Or.inr hy_Thing_size) rfl rfl (Nat.le_of_ble_eq_true rfl) rfl hW hF hT kr kt
      · replace hT := hT.2 hi6
        refine x_if_eq (tgt := 33) dX7_joinPacks_23 rfl (fun _ => ?_) (fun c => absurd c (by decide))
        refine x_iconst (v := 1) dX7_joinPacks_33 rfl ?_
        refine x_iadd dX7_joinPacks_34 ?_
        obtain ⟨hn, hT⟩ := hT
        obtain ⟨hb, hr, hT⟩ := hT
        refine c_anewarrayG (t := 4) dX7_joinPacks_35 (by decide) (by decide) (by decide) rfl q337 (Or.inl ⟨_, rfl, q1811⟩) hn hb hr hW hF ?_
        intro a15 f16 ea15 ef16 h hW hF
        replace hT := hT a15 f16 ea15 ef16
        refine x_astore (lo' := [some (.ref (w.1 7)), some (.int x1), some (.ref a2), some (x3), some (.int x4), some (.int v5), some (.ref a15), none, none, none]) dX7_joinPacks_38 (Nat.le_of_ble_eq_true rfl) rfl rfl ?_
        refine x_iconst (v := 0) dX7_joinPacks_40 rfl ?_
        refine x_istore (lo' := [some (.ref (w.1 7)), some (.int x1), some (.ref a2), some (x3), some (.int x4), some (.int v5), some (.ref a15), some (.int 0), none, none]) dX7_joinPacks_41 (Nat.le_of_ble_eq_true rfl) rfl ?_
        exact hT f0 h hW hF
    have kt : ∀ k s3 f4, P18 (.inr k) s3 f4 → ∀ h a, CW E w s3 f4 h → xA w h k a → Frz f0 f4 → ExT l E (d + 1) MX7_joinPacks 8 [some (.ref (w.1 7)), some (.int x1), some (.ref a2), some (x3), some (.int x4), none, none, none, none, none] [] a h (PoC E w f0 Q) := by
      intro k s3 f4 h0 h a hW hx hF
      have hT := hP _ _ _ h0
      clear h0
      exact c_out (rfl) hW hx hF hT
    obtain ⟨cc, hcc⟩ := hW.ocell hc
    rcases hT with ⟨rfl, hT⟩ | ⟨rfl, hT⟩ | ⟨rfl, hT⟩ | ⟨rfl, hT⟩
    · exact c_invV (vs := []) dX7_joinPacks_8 oX32_size q1454 q1746 hcc q1453 (Or.inr hy_Thing_size) rfl rfl (Nat.le_of_ble_eq_true rfl) rfl hW hF hT kr kt
    · exact c_invV (vs := []) dX7_joinPacks_8 oX33_size q1457 q1746 hcc q1456 (Or.inr hy_Thing_size) rfl rfl (Nat.le_of_ble_eq_true rfl) rfl hW hF hT kr kt
    · exact c_invV (vs := []) dX7_joinPacks_8 oX34_size q1451 q1746 hcc q1450 (Or.inr hy_Thing_size) rfl rfl (Nat.le_of_ble_eq_true rfl) rfl hW hF hT kr kt
    · exact c_invV (vs := []) dX7_joinPacks_8 oX35_size q1460 q1746 hcc q1459 (Or.inr hy_Thing_size) rfl rfl (Nat.le_of_ble_eq_true rfl) rfl hW hF hT kr kt
  · replace hT := hT.2 hi1
    refine x_if_eq (tgt := 14) dX7_joinPacks_4 rfl (fun _ => ?_) (fun c => absurd c (by decide))
    refine x_iconst (v := 1) dX7_joinPacks_14 rfl ?_
    refine x_istore (lo' := [some (.ref (w.1 7)), some (.int x1), some (x2), some (x3), some (.int x4), some (.int 1), none, none, none, none]) dX7_joinPacks_15 (Nat.le_of_ble_eq_true rfl) rfl ?_
    refine x_iload dX7_joinPacks_17 rfl ?_
    refine x_aload_n dX7_joinPacks_19 rfl rfl ix3 ?_
    obtain ⟨ht, hT⟩ := hT
    refine c_instV (K := 31) dX7_joinPacks_20 (by decide) q1812 ht hW (fun a20 ec hi19 => ?_) (fun hi19 => ?_)
    · subst ec
      replace hT := hT.1 a20 rfl hi19
      refine x_if_eq (tgt := 33) dX7_joinPacks_23 rfl (fun c => absurd c (by decide)) (fun _ => ?_)
      refine x_aload_n dX7_joinPacks_26 rfl rfl rfl ?_
      obtain ⟨P27, hP, k26, hc, hT⟩ := hT
      have kr : ∀ r s21 f22, P27 (.inl r) s21 f22 → ∀ h, CW E w s21 f22 h → Frz f0 f22 → Ex l E (d + 1) MX7_joinPacks (27 + 3) [some (.ref (w.1 7)), some (.int x1), some (x2), some (.ref a20), some (.int x4), some (.int 1), none, none, none, none] (r.toList ++ [.int 1]) h (PoC E w f0 Q) := by
        intro r s21 f22 h0 h hW hF
        have hT := hP _ _ _ h0
        clear h0
        obtain ⟨v23, rfl, hT⟩ := hT
        refine x_goto (tgt := 34) dX7_joinPacks_30 rfl ?_
        refine x_iadd dX7_joinPacks_34 ?_
        obtain ⟨hn, hT⟩ := hT
        obtain ⟨hb, hr, hT⟩ := hT
        refine c_anewarrayG (t := 4) dX7_joinPacks_35 (by decide) (by decide) (by decide) rfl q337 (Or.inl ⟨_, rfl, q1811⟩) hn hb hr hW hF ?_
        intro a24 f25 ea24 ef25 h hW hF
        replace hT := hT a24 f25 ea24 ef25
        refine x_astore (lo' := [some (.ref (w.1 7)), some (.int x1), some (x2), some (.ref a20), some (.int x4), some (.int 1), some (.ref a24), none, none, none]) dX7_joinPacks_38 (Nat.le_of_ble_eq_true rfl) rfl rfl ?_
        refine x_iconst (v := 0) dX7_joinPacks_40 rfl ?_
        refine x_istore (lo' := [some (.ref (w.1 7)), some (.int x1), some (x2), some (.ref a20), some (.int x4), some (.int 1), some (.ref a24), some (.int 0), none, none]) dX7_joinPacks_41 (Nat.le_of_ble_eq_true rfl) rfl ?_
        exact hT f0 h hW hF
      have kt : ∀ k s21 f22, P27 (.inr k) s21 f22 → ∀ h a, CW E w s21 f22 h → xA w h k a → Frz f0 f22 → ExT l E (d + 1) MX7_joinPacks 27 [some (.ref (w.1 7)), some (.int x1), some (x2), some (.ref a20), some (.int x4), some (.int 1), none, none, none, none] [.int 1] a h (PoC E w f0 Q) := by
        intro k s21 f22 h0 h a hW hx hF
        have hT := hP _ _ _ h0
        clear h0
        exact c_out (rfl) hW hx hF hT
      obtain ⟨cc, hcc⟩ := hW.ocell hc
      rcases hT with ⟨rfl, hT⟩ | ⟨rfl, hT⟩ | ⟨rfl, hT⟩ | ⟨rfl, hT⟩
      · exact c_invV (vs := []) dX7_joinPacks_27 oX32_size q1454 q1746 hcc q1453 (Or.inr hy_Thing_size) rfl rfl (Nat.le_of_ble_eq_true rfl) rfl hW hF hT kr kt
      · exact c_invV (vs := []) dX7_joinPacks_27 oX33_size q1457 q1746 hcc q1456 (Or.inr hy_Thing_size) rfl rfl (Nat.le_of_ble_eq_true rfl) rfl hW hF hT kr kt
      · exact c_invV (vs := []) dX7_joinPacks_27 oX34_size q1451 q1746 hcc q1450 (Or.inr hy_Thing_size) rfl rfl (Nat.le_of_ble_eq_true rfl) rfl hW hF hT kr kt
      · exact c_invV (vs := []) dX7_joinPacks_27 oX35_size q1460 q1746 hcc q1459 (Or.inr hy_Thing_size) rfl rfl (Nat.le_of_ble_eq_true rfl) rfl hW hF hT kr kt
    · replace hT := hT.2 hi19
      refine x_if_eq (tgt := 33) dX7_joinPacks_23 rfl (fun _ => ?_) (fun c => absurd c (by decide))
      refine x_iconst (v := 1) dX7_joinPacks_33 rfl ?_
      refine x_iadd dX7_joinPacks_34 ?_
      obtain ⟨hn, hT⟩ := hT
      obtain ⟨hb, hr, hT⟩ := hT
      refine c_anewarrayG (t := 4) dX7_joinPacks_35 (by decide) (by decide) (by decide) rfl q337 (Or.inl ⟨_, rfl, q1811⟩) hn hb hr hW hF ?_
      intro a28 f29 ea28 ef29 h hW hF
      replace hT := hT a28 f29 ea28 ef29
      refine x_astore (lo' := [some (.ref (w.1 7)), some (.int x1), some (x2), some (x3), some (.int x4), some (.int 1), some (.ref a28), none, none, none]) dX7_joinPacks_38 (Nat.le_of_ble_eq_true rfl) rfl rfl ?_
      refine x_iconst (v := 0) dX7_joinPacks_40 rfl ?_
      refine x_istore (lo' := [some (.ref (w.1 7)), some (.int x1), some (x2), some (x3), some (.int x4), some (.int 1), some (.ref a28), some (.int 0), none, none]) dX7_joinPacks_41 (Nat.le_of_ble_eq_true rfl) rfl ?_
      exact hT f0 h hW hF
theorem eX7_joinPacks {l : Launch} {E : EN} {w : CO} {d : Nat} {s : CS} {f : RH} {Q : KO → CS → RH → Prop} {x1 : Int32} {x2 : Value} {x3 : Value} {x4 : Int32} (ix2 : isR x2 = true) (ix3 : isR x3 = true) (hst : l.stackTraces = false) (hT : (isT f x2 ∧ ((∀ a2 : Nat, x2 = .ref a2 → tg f a2 = some (.inl 31) → (∃ P18 : KO → CS → RH → Prop, (∀ o s3 f4, P18 o s3 f4 → KP o (fun r => ∃ v5 : Int32, r = some (.int v5) ∧ (isT f4 x3 ∧ ((∀ a7 : Nat, x3 = .ref a7 → tg f4 a7 = some (.inl 31) → (∃ P14 : KO → CS → RH → Prop, (∀ o s8 f9, P14 o s8 f9 → KP o (fun r => ∃ v10 : Int32, r = some (.int v10) ∧ (¬ (v5 + v10) < 0 ∧ (v5 + v10).toNatClampNeg ≤ 60000000 ∧ rmF E f9 1 (v5 + v10).toNatClampNeg ∧ ∀ (a11 : Nat) (f12 : RH), a11 = f9.1 → f12 = fnewA f9 4 (v5 + v10).toNatClampNeg → ExC l E w (d + 1) MX7_joinPacks 43 [some (.ref (w.1 7)), some (.int x1), some (.ref a2), some (.ref a7), some (.int x4), some (.int v5), some (.ref a11), some (.int 0), none, none] [] s8 f12 Q)) (fun k => Q (.inr k) s8 f9)) ∧ ∃ k13 : Nat, oc f4 a7 k13 ∧ ((k13 = 29 ∧ EvC l E w d MX32_size [.ref a7] s3 f4 P14) ∨ (k13 = 30 ∧ EvC l E w d MX33_size [.ref a7] s3 f4 P14) ∨ (k13 = 31 ∧ EvC l E w d MX34_size [.ref a7] s3 f4 P14) ∨ (k13 = 32 ∧ EvC l E w d MX35_size [.ref a7] s3 f4 P14)))) ∧ ((∀ z : Nat, x3 = .ref z → ¬ tg f4 z = some (.inl 31)) → (¬ (v5 + 1) < 0 ∧ (v5 + 1).toNatClampNeg ≤ 60000000 ∧ rmF E f4 1 (v5 + 1).toNatClampNeg ∧ ∀ (a15 : Nat) (f16 : RH), a15 = f4.1 → f16 = fnewA f4 4 (v5 + 1).toNatClampNeg → ExC l E w (d + 1) MX7_joinPacks 43 [some (.ref (w.1 7)), some (.int x1), some (.ref a2), some (x3), some (.int x4), some (.int v5), some (.ref a15), some (.int 0), none, none] [] s3 f16 Q))))) (fun k => Q (.inr k) s3 f4)) ∧ ∃ k17 : Nat, oc f a2 k17 ∧ ((k17 = 29 ∧ EvC l E w d MX32_size [.ref a2] s f P18) ∨ (k17 = 30 ∧ EvC l E w d MX33_size [.ref a2] s f P18) ∨ (k17 = 31 ∧ EvC l E w d MX34_size [.ref a2] s f P18) ∨ (k17 = 32 ∧ EvC l E w d MX35_size [.ref a2] s f P18)))) ∧ ((∀ z : Nat, x2 = .ref z → ¬ tg f z = some (.inl 31)) → (isT f x3 ∧ ((∀ a20 : Nat, x3 = .ref a20 → tg f a20 = some (.inl 31) → (∃ P27 : KO → CS → RH → Prop, (∀ o s21 f22, P27 o s21 f22 → KP o (fun r => ∃ v23 : Int32, r = some (.int v23) ∧ (¬ (1 + v23) < 0 ∧ (1 + v23).toNatClampNeg ≤ 60000000 ∧ rmF E f22 1 (1 + v23).toNatClampNeg ∧ ∀ (a24 : Nat) (f25 : RH), a24 = f22.1 → f25 = fnewA f22 4 (1 + v23).toNatClampNeg → ExC l E w (d + 1) MX7_joinPacks 43 [some (.ref (w.1 7)), some (.int x1), some (x2), some (.ref a20), some (.int x4), some (.int 1), some (.ref a24), some (.int 0), none, none] [] s21 f25 Q)) (fun k => Q (.inr k) s21 f22)) ∧ ∃ k26 : Nat, oc f a20 k26 ∧ ((k26 = 29 ∧ EvC l E w d MX32_size [.ref a20] s f P27) ∨ (k26 = 30 ∧ EvC l E w d MX33_size [.ref a20] s f P27) ∨ (k26 = 31 ∧ EvC l E w d MX34_size [.ref a20] s f P27) ∨ (k26 = 32 ∧ EvC l E w d MX35_size [.ref a20] s f P27)))) ∧ ((∀ z : Nat, x3 = .ref z → ¬ tg f z = some (.inl 31)) → (¬ ((1 : Int32) + 1) < 0 ∧ ((1 : Int32) + 1).toNatClampNeg ≤ 60000000 ∧ rmF E f 1 ((1 : Int32) + 1).toNatClampNeg ∧ ∀ (a28 : Nat) (f29 : RH), a28 = f.1 → f29 = fnewA f 4 ((1 : Int32) + 1).toNatClampNeg → ExC l E w (d + 1) MX7_joinPacks 43 [some (.ref (w.1 7)), some (.int x1), some (x2), some (x3), some (.int x4), some (.int 1), some (.ref a28), some (.int 0), none, none] [] s f29 Q)))))))) : EvC l E w (d + 1) MX7_joinPacks [.ref (w.1 7), .int x1, x2, x3, .int x4] s f Q :=by
  rcases isR_cases ix2 with rfl | ⟨_, rfl⟩ <;> rcases isR_cases ix3 with rfl | ⟨_, rfl⟩ <;> exact
  
  EvC.of hst (by decide) (Nat.le_of_ble_eq_true rfl) (vX7_joinPacks_0 ix2 ix3 hT)
set_option maxHeartbeats 16000000 in
theorem vX7_joinPacks_43 {l : Launch} {E : EN} {w : CO} {d : Nat} {s : CS} {f : RH} {Q : KO → CS → RH → Prop} {b1 : Int32} {b2 : Value} {b3 : Value} {b4 : Int32} {b5 : Int32} {b6 : Nat} {b7 : Int32} (ib2 : isR b2 = true) (ib3 : isR b3 = true) (hT : (∃ t30 : Nat, tg f b6 = some (.inr t30) ∧ (((nI (ln f b6)) ≤ b7 → (EvC l E w d MX6_pack [.ref (w.1 6), .ref b6, .int b4] s f (fun o s31 f32 => KP o (fun r => ∃ a33 : Nat, r = some (.ref a33) ∧ Q (.inl (some (.ref a33))) s31 f32) (fun k => Q (.inr k) s31 f32)))) ∧ (¬ (nI (ln f b6)) ≤ b7 → ((b5 ≤ b7 → (isT f b3 ∧ ((∀ a35 : Nat, b3 = .ref a35 → tg f a35 = some (.inl 31) → (tg f a35 = some (.inl 31) ∧ (oc f a35 31 ∧ (∃ a36 : Nat, vl f a35 206 = .ref a36 ∧ (∃ t37 : Nat, 4 ≤ t37 ∧ (tg f a36 = some (.inr t37) ∧ inB (b7 - b5) (ln f a36) ∧ (∃ a38 : Nat, vl f a36 (b7 - b5).toNatClampNeg = .ref a38 ∧ (∃ k40 : Nat, (tg f b6 = some (.inr 4) ∧ tg f a38 = some (.inl k40) ∧ k40 ∈ CKs 4 ∧ inB b7 (ln f b6) ∧ f.2.2.2 ≤ b6 ∧ ∀ f39 : RH, f39 = fset f b6 b7.toNatClampNeg (.ref a38) → ExC l E w (d + 1) MX7_joinPacks 43 [some (.ref (w.1 7)), some (.int b1), some (b2), some (.ref a35), some (.int b4), some (.int b5), some (.ref b6), some (.int (b7 + 1)), none, none] [] s f39 Q))))))))) ∧ ((∀ z : Nat, b3 = .ref z → ¬ tg f z = some (.inl 31)) → (EvC l E w d MX3_asThing [.ref (w.1 3), .int (b1 + 1)] s f (fun o s41 f42 => KP o (fun r => ∃ a43 : Nat, r = some (.ref a43) ∧ (∃ k45 : Nat, (tg f42 b6 = some (.inr 4) ∧ tg f42 a43 = some (.inl k45) ∧ k45 ∈ CKs 4 ∧ inB b7 (ln f42 b6) ∧ f42.2.2.2 ≤ b6 ∧ ∀ f44 : RH, f44 = fset f42 b6 b7.toNatClampNeg (.ref a43) → ExC l E w (d + 1) MX7_joinPacks 43 [some (.ref (w.1 7)), some (.int b1), some (b2), some (b3), some (.int b4), some (.int b5), some (.ref b6), some (.int (b7 + 1)), none, none] [] s41 f44 Q))) (fun k => Q (.inr k) s41 f42))))))) ∧ (¬ b5 ≤ b7 → (isT f b2 ∧ ((∀ a47 : Nat, b2 = .ref a47 → tg f a47 = some (.inl 31) → (tg f a47 = some (.inl 31) ∧ (oc f a47 31 ∧ (∃ a48 : Nat, vl f a47 206 = .ref a48 ∧ (∃ t49 : Nat, 4 ≤ t49 ∧ (tg f a48 = some (.inr t49) ∧ inB b7 (ln f a48) ∧ (∃ a50 : Nat, vl f a48 b7.toNatClampNeg = .ref a50 ∧ (∃ k52 : Nat, (tg f b6 = some (.inr 4) ∧ tg f a50 = some (.inl k52) ∧ k52 ∈ CKs 4 ∧ inB b7 (ln f b6) ∧ f.2.2.2 ≤ b6 ∧ ∀ f51 : RH, f51 = fset f b6 b7.toNatClampNeg (.ref a50) → ExC l E w (d + 1) MX7_joinPacks 43 [some (.ref (w.1 7)), some (.int b1), some (.ref a47), some (b3), some (.int b4), some (.int b5), some (.ref b6), some (.int (b7 + 1)), none, none] [] s f51 Q))))))))) ∧ ((∀ z : Nat, b2 = .ref z → ¬ tg f z = some (.inl 31)) → (EvC l E w d MX3_asThing [.ref (w.1 3), .int b1] s f (fun o s53 f54 => KP o (fun r => ∃ a55 : Nat, r = some (.ref a55) ∧ (∃ k57 : Nat, (tg f54 b6 = some (.inr 4) ∧ tg f54 a55 = some (.inl k57) ∧ k57 ∈ CKs 4 ∧ inB b7 (ln f54 b6) ∧ f54.2.2.2 ≤ b6 ∧ ∀ f56 : RH, f56 = fset f54 b6 b7.toNatClampNeg (.ref a55) → ExC l E w (d + 1) MX7_joinPacks 43 [some (.ref (w.1 7)), some (.int b1), some (b2), some (b3), some (.int b4), some (.int b5), some (.ref b6), some (.int (b7 + 1)), none, none] [] s53 f56 Q))) (fun k => Q (.inr k) s53 f54)))))))))))) : ExC l E w (d + 1) MX7_joinPacks 43 [some (.ref (w.1 7)), some (.int b1), some (b2), some (b3), some (.int b4), some (.int b5), some (.ref b6), some (.int b7), none, none] [] s f Q := by
  intro f0 h hW hF
  refine x_iload dX7_joinPacks_43 rfl ?_
  refine x_aload dX7_joinPacks_45 rfl rfl ?_
  obtain ⟨t30, hc, hT⟩ := hT
  refine c_alen dX7_joinPacks_47 hc hW ?_
  refine x_icmp_ge (tgt := 146) dX7_joinPacks_48 rfl (fun c => ?_) (fun c => ?_)
  · replace hT := hT.1 c
    refine x_aload_n dX7_joinPacks_146 rfl rfl rfl ?_
    refine c_getO dX7_joinPacks_147 f_TallySlate_Works_9 (by decide) (by decide) rfl hW ?_
    refine c_getO dX7_joinPacks_150 f_TallySlate_Works_177 (by decide) (by decide) rfl hW ?_
    refine x_aload dX7_joinPacks_153 rfl rfl ?_
    refine x_iload dX7_joinPacks_155 rfl ?_
    obtain ⟨-, -, cc, hcc, -⟩ := hW.ob 6 (by decide)
    refine c_invV (vs := [.ref b6, .int b4]) dX7_joinPacks_157 oX6_pack q1554 q1854 hcc q1555 (Or.inl rfl) rfl rfl (Nat.le_of_ble_eq_true rfl) rfl hW hF hT ?_ ?_
    · intro _ s31 f32 hT h hW hF
      obtain ⟨a33, rfl, hT⟩ := hT
      exact x_aret dX7_joinPacks_160 rfl (by first | exact Or.inl ⟨_, rfl⟩ | exact Or.inr ⟨_, rfl⟩) rfl ⟨_, _, hW, hF, Or.inl ⟨_, rfl, hT⟩⟩
    · intro k s31 f32 hT h a hW hx hF
      exact c_out (rfl) hW hx hF hT
  · replace hT := hT.2 c
    refine x_iload dX7_joinPacks_51 rfl ?_
    refine x_iload dX7_joinPacks_53 rfl ?_
    refine x_icmp_ge (tgt := 98) dX7_joinPacks_55 rfl (fun c => ?_) (fun c => ?_)
    · replace hT := hT.1 c
      refine x_aload dX7_joinPacks_98 rfl rfl ?_
      refine x_iload dX7_joinPacks_100 rfl ?_
      refine x_aload_n dX7_joinPacks_102 rfl rfl ib3 ?_
      obtain ⟨ht, hT⟩ := hT
      refine c_instV (K := 31) dX7_joinPacks_103 (by decide) q1812 ht hW (fun a35 ec hi34 => ?_) (fun hi34 => ?_)
      · subst ec
        replace hT := hT.1 a35 rfl hi34
        refine x_if_eq (tgt := 129) dX7_joinPacks_106 rfl (fun c => absurd c (by decide)) (fun _ => ?_)
        refine x_aload_n dX7_joinPacks_109 rfl rfl rfl ?_
        obtain ⟨hc, hT⟩ := hT
        refine c_cast (K := 31) dX7_joinPacks_110 q1812 hc hW ?_
        refine x_astore (lo' := [some (.ref (w.1 7)), some (.int b1), some (b2), some (.ref a35), some (.int b4), some (.int b5), some (.ref b6), some (.int b7), none, some (.ref a35)]) dX7_joinPacks_113 (Nat.le_of_ble_eq_true rfl) rfl rfl ?_
        refine x_aload dX7_joinPacks_115 rfl rfl ?_
        obtain ⟨hc, hT⟩ := hT
        obtain ⟨a36, ev, hT⟩ := hT
        refine c_fgetG dX7_joinPacks_117 f_TallySlate_Works_172 hc (by decide) (by decide) hW ev ?_
        refine x_iload dX7_joinPacks_120 rfl ?_
        refine x_iload dX7_joinPacks_122 rfl ?_
        refine x_isub dX7_joinPacks_124 ?_
        obtain ⟨t37, ht2, hc, hT⟩ := hT
        obtain ⟨hb, hT⟩ := hT
        obtain ⟨a38, ev, hT⟩ := hT
        refine c_faald dX7_joinPacks_125 hc ht2 hb hW ev ?_
        refine x_goto (tgt := 139) dX7_joinPacks_126 rfl ?_
        obtain ⟨k40, hc, hv, hck, hT⟩ := hT
        obtain ⟨hb, hz, hT⟩ := hT
        refine c_faastG dX7_joinPacks_139 hc (by decide) hv hck hb hz hW hF ?_
        intro f39 ef39 h hW hF
        replace hT := hT f39 ef39
        refine x_iinc (lo' := [some (.ref (w.1 7)), some (.int b1), some (b2), some (.ref a35), some (.int b4), some (.int b5), some (.ref b6), some (.int (b7 + 1)), none, some (.ref a35)]) dX7_joinPacks_140 rfl (show _ = (b7 + 1) from rfl) rfl ?_
        refine x_goto (tgt := 43) dX7_joinPacks_143 rfl ?_
        refine Ex.wkl (lo' := [some (.ref (w.1 7)), some (.int b1), some (b2), some (.ref a35), some (.int b4), some (.int b5), some (.ref b6), some (.int (b7 + 1)), none, none]) ⟨rfl, rfl, rfl, rfl, rfl, rfl, rfl, rfl, trivial⟩ ?_
        exact hT f0 h hW hF
      · replace hT := hT.2 hi34
        refine x_if_eq (tgt := 129) dX7_joinPacks_106 rfl (fun _ => ?_) (fun c => absurd c (by decide))
        refine x_aload_n dX7_joinPacks_129 rfl rfl rfl ?_
        refine c_getO dX7_joinPacks_130 f_TallySlate_Works_9 (by decide) (by decide) rfl hW ?_
        refine x_iload_n dX7_joinPacks_133 rfl rfl ?_
        refine x_iconst (v := 1) dX7_joinPacks_134 rfl ?_
        refine x_iadd dX7_joinPacks_135 ?_
        obtain ⟨-, -, cc, hcc, -⟩ := hW.ob 3 (by decide)
        refine c_invV (vs := [.int (b1 + 1)]) dX7_joinPacks_136 oX3_asThing q1661 q1853 hcc q1662 (Or.inl rfl) rfl rfl (Nat.le_of_ble_eq_true rfl) rfl hW hF hT ?_ ?_
        · intro _ s41 f42 hT h hW hF
          obtain ⟨a43, rfl, hT⟩ := hT
          obtain ⟨k45, hc, hv, hck, hT⟩ := hT
          obtain ⟨hb, hz, hT⟩ := hT
          refine c_faastG dX7_joinPacks_139 hc (by decide) hv hck hb hz hW hF ?_
          intro f44 ef44 h hW hF
          replace hT := hT f44 ef44
          refine x_iinc (lo' := [some (.ref (w.1 7)), some (.int b1), some (b2), some (b3), some (.int b4), some (.int b5), some (.ref b6), some (.int (b7 + 1)), none, none]) dX7_joinPacks_140 rfl (show _ = (b7 + 1) from rfl) rfl ?_
          refine x_goto (tgt := 43) dX7_joinPacks_143 rfl ?_
          exact hT f0 h hW hF
        · intro k s41 f42 hT h a hW hx hF
          exact c_out (rfl) hW hx hF hT
    · replace hT := hT.2 c
      refine x_aload dX7_joinPacks_58 rfl rfl ?_
      refine x_iload dX7_joinPacks_60 rfl ?_
      refine x_aload_n dX7_joinPacks_62 rfl rfl ib2 ?_
      obtain ⟨ht, hT⟩ := hT
      refine c_instV (K := 31) dX7_joinPacks_63 (by decide) q1812 ht hW (fun a47 ec hi46 => ?_) (fun hi46 => ?_)
      · subst ec
        replace hT := hT.1 a47 rfl hi46
        refine x_if_eq (tgt := 86) dX7_joinPacks_66 rfl (fun c => absurd c (by decide)) (fun _ => ?_)
        refine x_aload_n dX7_joinPacks_69 rfl rfl rfl ?_
        obtain ⟨hc, hT⟩ := hT
        refine c_cast (K := 31) dX7_joinPacks_70 q1812 hc hW ?_
        refine x_astore (lo' := [some (.ref (w.1 7)), some (.int b1), some (.ref a47), some (b3), some (.int b4), some (.int b5), some (.ref b6), some (.int b7), some (.ref a47), none]) dX7_joinPacks_73 (Nat.le_of_ble_eq_true rfl) rfl rfl ?_
        refine x_aload dX7_joinPacks_75 rfl rfl ?_
        obtain ⟨hc, hT⟩ := hT
        obtain ⟨a48, ev, hT⟩ := hT
        refine c_fgetG dX7_joinPacks_77 f_TallySlate_Works_172 hc (by decide) (by decide) hW ev ?_
        refine x_iload dX7_joinPacks_80 rfl ?_
        obtain ⟨t49, ht2, hc, hT⟩ := hT
        obtain ⟨hb, hT⟩ := hT
        obtain ⟨a50, ev, hT⟩ := hT
        refine c_faald dX7_joinPacks_82 hc ht2 hb hW ev ?_
        refine x_goto (tgt := 94) dX7_joinPacks_83 rfl ?_
        obtain ⟨k52, hc, hv, hck, hT⟩ := hT
        obtain ⟨hb, hz, hT⟩ := hT
        refine c_faastG dX7_joinPacks_94 hc (by decide) hv hck hb hz hW hF ?_
        intro f51 ef51 h hW hF
        replace hT := hT f51 ef51
        refine x_goto (tgt := 140) dX7_joinPacks_95 rfl ?_
        refine x_iinc (lo' := [some (.ref (w.1 7)), some (.int b1), some (.ref a47), some (b3), some (.int b4), some (.int b5), some (.ref b6), some (.int (b7 + 1)), some (.ref a47), none]) dX7_joinPacks_140 rfl (show _ = (b7 + 1) from rfl) rfl ?_
        refine x_goto (tgt := 43) dX7_joinPacks_143 rfl ?_
        refine Ex.wkl (lo' := [some (.ref (w.1 7)), some (.int b1), some (.ref a47), some (b3), some (.int b4), some (.int b5), some (.ref b6), some (.int (b7 + 1)), none, none]) ⟨rfl, rfl, rfl, rfl, rfl, rfl, rfl, rfl, trivial⟩ ?_
        exact hT f0 h hW hF
      · replace hT := hT.2 hi46
        refine x_if_eq (tgt := 86) dX7_joinPacks_66 rfl (fun _ => ?_) (fun c => absurd c (by decide))
        refine x_aload_n dX7_joinPacks_86 rfl rfl rfl ?_
        refine c_getO dX7_joinPacks_87 f_TallySlate_Works_9 (by decide) (by decide) rfl hW ?_
        refine x_iload_n dX7_joinPacks_90 rfl rfl ?_
        obtain ⟨-, -, cc, hcc, -⟩ := hW.ob 3 (by decide)
        refine c_invV (vs := [.int b1]) dX7_joinPacks_91 oX3_asThing q1661 q1853 hcc q1662 (Or.inl rfl) rfl rfl (Nat.le_of_ble_eq_true rfl) rfl hW hF hT ?_ ?_
        · intro _ s53 f54 hT h hW hF
          obtain ⟨a55, rfl, hT⟩ := hT
          obtain ⟨k57, hc, hv, hck, hT⟩ := hT
          obtain ⟨hb, hz, hT⟩ := hT
          refine c_faastG dX7_joinPacks_94 hc (by decide) hv hck hb hz hW hF ?_
          intro f56 ef56 h hW hF
          replace hT := hT f56 ef56
          refine x_goto (tgt := 140) dX7_joinPacks_95 rfl ?_
          refine x_iinc (lo' := [some (.ref (w.1 7)), some (.int b1), some (b2), some (b3), some (.int b4), some (.int b5), some (.ref b6), some (.int (b7 + 1)), none, none]) dX7_joinPacks_140 rfl (show _ = (b7 + 1) from rfl) rfl ?_
          refine x_goto (tgt := 43) dX7_joinPacks_143 rfl ?_
          exact hT f0 h hW hF
        · intro k s53 f54 hT h a hW hx hF
          exact c_out (rfl) hW hx hF hT
set_option maxHeartbeats 16000000 in
theorem vX7_take_0 {l : Launch} {E : EN} {w : CO} {d : Nat} {s : CS} {f : RH} {Q : KO → CS → RH → Prop} {x1 : Int32} {x2 : Value} {x3 : Int32} (ix2 : isR x2 = true) (hT : ((x2 = .null → (EvC l E w d MX3_wrong [.ref (w.1 3), .int 3, .int x3] s f (fun o s2 f3 => KP o (fun r => r = some (.ref (w.1 9)) ∧ Q (.inr 9) s2 f3) (fun k => Q (.inr k) s2 f3)))) ∧ (∀ a1 : Nat, x2 = .ref a1 → ((0 ≤ x1 → (∀ y4 : Int64, y4 = x1.toInt64 → (isT f (.ref a1) ∧ ((tg f a1 = some (.inl 29) → (((lg_cmp y4 (64 : Int32).toInt64) ≤ 0 → ((0 ≤ x1 → (EvC l E w d MX7_stretch [.ref (w.1 7), .ref a1, .int 0, .int y4.toInt32, .int x3] s f (fun o s6 f7 => KP o (fun r => ∃ a8 : Nat, r = some (.ref a8) ∧ Q (.inl (some (.ref a8))) s6 f7) (fun k => Q (.inr k) s6 f7)))) ∧ (¬ 0 ≤ x1 → (∃ P16 : KO → CS → RH → Prop, (∀ o s9 f10, P16 o s9 f10 → KP o (fun r => ∃ v11 : Int32, r = some (.int v11) ∧ (EvC l E w d MX7_stretch [.ref (w.1 7), .ref a1, .int (v11 + x1), .int y4.toInt32, .int x3] s9 f10 (fun o s12 f13 => KP o (fun r => ∃ a14 : Nat, r = some (.ref a14) ∧ Q (.inl (some (.ref a14))) s12 f13) (fun k => Q (.inr k) s12 f13)))) (fun k => Q (.inr k) s9 f10)) ∧ ∃ k15 : Nat, oc f a1 k15 ∧ ((k15 = 29 ∧ EvC l E w d MX32_size [.ref a1] s f P16) ∨ (k15 = 30 ∧ EvC l E w d MX33_size [.ref a1] s f P16) ∨ (k15 = 31 ∧ EvC l E w d MX34_size [.ref a1] s f P16) ∨ (k15 = 32 ∧ EvC l E w d MX35_size [.ref a1] s f P16)))))) ∧ (¬ (lg_cmp y4 (64 : Int32).toInt64) ≤ 0 → (EvC l E w d MX3_wrong [.ref (w.1 3), .int 2, .int x3] s f (fun o s17 f18 => KP o (fun r => r = some (.ref (w.1 9)) ∧ Q (.inr 9) s17 f18) (fun k => Q (.inr k) s17 f18)))))) ∧ (¬ tg f a1 = some (.inl 29) → (((lg_cmp y4 (20 : Int32).toInt64) ≤ 0 → ((0 ≤ x1 → (EvC l E w d MX7_stretch [.ref (w.1 7), .ref a1, .int 0, .int y4.toInt32, .int x3] s f (fun o s19 f20 => KP o (fun r => ∃ a21 : Nat, r = some (.ref a21) ∧ Q (.inl (some (.ref a21))) s19 f20) (fun k => Q (.inr k) s19 f20)))) ∧ (¬ 0 ≤ x1 → (∃ P29 : KO → CS → RH → Prop, (∀ o s22 f23, P29 o s22 f23 → KP o (fun r => ∃ v24 : Int32, r = some (.int v24) ∧ (EvC l E w d MX7_stretch [.ref (w.1 7), .ref a1, .int (v24 + x1), .int y4.toInt32, .int x3] s22 f23 (fun o s25 f26 => KP o (fun r => ∃ a27 : Nat, r = some (.ref a27) ∧ Q (.inl (some (.ref a27))) s25 f26) (fun k => Q (.inr k) s25 f26)))) (fun k => Q (.inr k) s22 f23)) ∧ ∃ k28 : Nat, oc f a1 k28 ∧ ((k28 = 29 ∧ EvC l E w d MX32_size [.ref a1] s f P29) ∨ (k28 = 30 ∧ EvC l E w d MX33_size [.ref a1] s f P29) ∨ (k28 = 31 ∧ EvC l E w d MX34_size [.ref a1] s f P29) ∨ (k28 = 32 ∧ EvC l E w d MX35_size [.ref a1] s f P29)))))) ∧ (¬ (lg_cmp y4 (20 : Int32).toInt64) ≤ 0 → (EvC l E w d MX3_wrong [.ref (w.1 3), .int 2, .int x3] s f (fun o s30 f31 => KP o (fun r => r = some (.ref (w.1 9)) ∧ Q (.inr 9) s30 f31) (fun k => Q (.inr k) s30 f31)))))))))) ∧ (¬ 0 ≤ x1 → (∀ y32 : Int64, y32 = (-x1.toInt64) → (isT f (.ref a1) ∧ ((tg f a1 = some (.inl 29) → (((lg_cmp y32 (64 : Int32).toInt64) ≤ 0 → ((0 ≤ x1 → (EvC l E w d MX7_stretch [.ref (w.1 7), .ref a1, .int 0, .int y32.toInt32, .int x3] s f (fun o s34 f35 => KP o (fun r => ∃ a36 : Nat, r = some (.ref a36) ∧ Q (.inl (some (.ref a36))) s34 f35) (fun k => Q (.inr k) s34 f35)))) ∧ (¬ 0 ≤ x1 → (∃ P44 : KO → CS → RH → Prop, (∀ o s37 f38, P44 o s37 f38 → KP o (fun r => ∃ v39 : Int32, r = some (.int v39) ∧ (EvC l E w d MX7_stretch [.ref (w.1 7), .ref a1, .int (v39 + x1), .int y32.toInt32, .int x3] s37 f38 (fun o s40 f41 => KP o (fun r => ∃ a42 : Nat, r = some (.ref a42) ∧ Q (.inl (some (.ref a42))) s40 f41) (fun k => Q (.inr k) s40 f41)))) (fun k => Q (.inr k) s37 f38)) ∧ ∃ k43 : Nat, oc f a1 k43 ∧ ((k43 = 29 ∧ EvC l E w d MX32_size [.ref a1] s f P44) ∨ (k43 = 30 ∧ EvC l E w d MX33_size [.ref a1] s f P44) ∨ (k43 = 31 ∧ EvC l E w d MX34_size [.ref a1] s f P44) ∨ (k43 = 32 ∧ EvC l E w d MX35_size [.ref a1] s f P44)))))) ∧ (¬ (lg_cmp y32 (64 : Int32).toInt64) ≤ 0 → (EvC l E w d MX3_wrong [.ref (w.1 3), .int 2, .int x3] s f (fun o s45 f46 => KP o (fun r => r = some (.ref (w.1 9)) ∧ Q (.inr 9) s45 f46) (fun k => Q (.inr k) s45 f46)))))) ∧ (¬ tg f a1 = some (.inl 29) → (((lg_cmp y32 (20 : Int32).toInt64) ≤ 0 → ((0 ≤ x1 → (EvC l E w d MX7_stretch [.ref (w.1 7), .ref a1, .int 0, .int y32.toInt32, .int x3] s f (fun o s47 f48 => KP o (fun r => ∃ a49 : Nat, r = some (.ref a49) ∧ Q (.inl (some (.ref a49))) s47 f48) (fun k => Q (.inr k) s47 f48)))) ∧ (¬ 0 ≤ x1 → (∃ P57 : KO → CS → RH → Prop, (∀ o s50 f51, P57 o s50 f51 → KP o (fun r => ∃ v52 : Int32, r = some (.int v52) ∧ (EvC l E w d MX7_stretch [.ref (w.1 7), .ref a1, .int (v52 + x1), .int y32.toInt32, .int x3] s50 f51 (fun o s53 f54 => KP o (fun r => ∃ a55 : Nat, r = some (.ref a55) ∧ Q (.inl (some (.ref a55))) s53 f54) (fun k => Q (.inr k) s53 f54)))) (fun k => Q (.inr k) s50 f51)) ∧ ∃ k56 : Nat, oc f a1 k56 ∧ ((k56 = 29 ∧ EvC l E w d MX32_size [.ref a1] s f P57) ∨ (k56 = 30 ∧ EvC l E w d MX33_size [.ref a1] s f P57) ∨ (k56 = 31 ∧ EvC l E w d MX34_size [.ref a1] s f P57) ∨ (k56 = 32 ∧ EvC l E w d MX35_size [.ref a1] s f P57)))))) ∧ (¬ (lg_cmp y32 (20 : Int32).toInt64) ≤ 0 → (EvC l E w d MX3_wrong [.ref (w.1 3), .int 2, .int x3] s f (fun o s58 f59 => KP o (fun r => r = some (.ref (w.1 9)) ∧ Q (.inr 9) s58 f59) (fun k => Q (.inr k) s58 f59)))))))))))))) : ExC l E w (d + 1) MX7_take 0 [some (.ref (w.1 7)), some (.int x1), some (x2), some (.int x3), none, none] [] s f Q := by
  intro f0 h hW hF
  refine x_aload_n dX7_take_0 rfl rfl ix2 ?_
  refine x_ifnonnull (tgt := 14) dX7_take_1 rfl ix2 (fun a1 e => ?_) (fun e => ?_)
  · subst e
    replace hT := hT.2 a1 rfl
    refine x_iload_n dX7_take_14 rfl rfl ?_
    refine x_if_ge (tgt := 24) dX7_take_15 rfl (fun c => ?_) (fun c => ?_)
    · replace hT := hT.1 c
      refine x_iload_n dX7_take_24 rfl rfl ?_
      refine x_i2l dX7_take_25 ?_
      obtain ⟨y4, ey4⟩ : ∃ z : Int64, z = x1.toInt64 := ⟨_, rfl⟩
      replace hT := hT y4 ey4
      refine x_lstore (lo' := [some (.ref (w.1 7)), some (.int x1), some (.ref a1), some (.int x3), some (.long y4), none]) dX7_take_26 (Nat.le_of_ble_eq_true rfl) (by rw [ey4]; exact rfl) ?_
      refine x_lload dX7_take_28 rfl ?_
      refine x_aload_n dX7_take_30 rfl rfl rfl ?_
      obtain ⟨ht, hT⟩ := hT
      refine c_inst (K := 29) dX7_take_31 (by decide) q1755 ht hW (fun hi5 => ?_) (fun hi5 => ?_)
      · replace hT := hT.1 hi5
        refine x_if_eq (tgt := 42) dX7_take_34 rfl (fun c => absurd c (by decide)) (fun _ => ?_)
        refine x_bipush (v := 64) dX7_take_37 rfl ?_
        refine x_goto (tgt := 44) dX7_take_39 rfl ?_
        refine x_i2l dX7_take_44 ?_
        refine x_lcmp dX7_take_45 ?_
        refine x_if_le (tgt := 59) dX7_take_46 rfl (fun c => ?_) (fun c => ?_)
        · replace hT := hT.1 c
          refine x_aload_n dX7_take_59 rfl rfl rfl ?_
          refine x_aload_n dX7_take_60 rfl rfl rfl ?_
          refine x_iload_n dX7_take_61 rfl rfl ?_
          refine x_if_ge (tgt := 74) dX7_take_62 rfl (fun c => ?_) (fun c => ?_)
          · replace hT := hT.1 c
            refine x_iconst (v := 0) dX7_take_74 rfl ?_
            refine x_lload dX7_take_75 rfl ?_
            refine x_l2i dX7_take_77 ?_
            refine x_iload_n dX7_take_78 rfl rfl ?_
            obtain ⟨-, -, cc, hcc, -⟩ := hW.ob 7 (by decide)
            refine c_invV (vs := [.ref a1, .int 0, .int y4.toInt32, .int x3]) dX7_take_79 oX7_stretch q1864 q1862 hcc qs50 (Or.inl rfl) rfl rfl (Nat.le_of_ble_eq_true rfl) rfl hW hF hT ?_ ?_
            · intro _ s6 f7 hT h hW hF
              obtain ⟨a8, rfl, hT⟩ := hT
              exact x_aret dX7_take_82 rfl (by first | exact Or.inl ⟨_, rfl⟩ | exact Or.inr ⟨_, rfl⟩) rfl ⟨_, _, hW, hF, Or.inl ⟨_, rfl, hT⟩⟩
            · intro k s6 f7 hT h a hW hx hF
              exact c_out (rfl) hW hx hF hT
          · replace hT := hT.2 c
            refine x_aload_n dX7_take_65 rfl rfl rfl ?_
            obtain ⟨P16, hP, k15, hc, hT⟩ := hT
            have kr : ∀ r s9 f10, P16 (.inl r) s9 f10 → ∀ h, CW E w s9 f10 h → Frz f0 f10 → Ex l E (d + 1) MX7_take (66 + 3) [some (.ref (w.1 7)), some (.int x1), some (.ref a1), some (.int x3), some (.long y4), none] (r.toList ++ [.ref a1, .ref (w.1 7)]) h (PoC E w f0 Q) := by
              intro r s9 f10 h0 h hW hF
              have hT := hP _ _ _ h0
              clear h0
              obtain ⟨v11, rfl, hT⟩ := hT
              refine x_iload_n dX7_take_69 rfl rfl ?_
              refine x_iadd dX7_take_70 ?_
              refine x_goto (tgt := 75) dX7_take_71 rfl ?_
              refine x_lload dX7_take_75 rfl ?_
              refine x_l2i dX7_take_77 ?_
              refine x_iload_n dX7_take_78 rfl rfl ?_
              obtain ⟨-, -, cc, hcc, -⟩ := hW.ob 7 (by decide)
              refine c_invV (vs := [.ref a1, .int (v11 + x1), .int y4.toInt32, .int x3]) dX7_take_79 oX7_stretch q1864 q1862 hcc qs50 (Or.inl rfl) rfl rfl (Nat.le_of_ble_eq_true rfl) rfl hW hF hT ?_ ?_
              · intro _ s12 f13 hT h hW hF
                obtain ⟨a14, rfl, hT⟩ := hT
                exact x_aret dX7_take_82 rfl (by first | exact Or.inl ⟨_, rfl⟩ | exact Or.inr ⟨_, rfl⟩) rfl ⟨_, _, hW, hF, Or.inl ⟨_, rfl, hT⟩⟩
              · intro k s12 f13 hT h a hW hx hF
                exact c_out (rfl) hW hx hF hT
            have kt : ∀ k s9 f10, P16 (.inr k) s9 f10 → ∀ h a, CW E w s9 f10 h → xA w h k a → Frz f0 f10 → ExT l E (d + 1) MX7_take 66 [some (.ref (w.1 7)), some (.int x1), some (.ref a1), some (.int x3), some (.long y4), none] [.ref a1, .ref (w.1 7)] a h (PoC E w f0 Q) := by
              intro k s9 f10 h0 h a hW hx hF
              have hT := hP _ _ _ h0
              clear h0
              exact c_out (rfl) hW hx hF hT
            obtain ⟨cc, hcc⟩ := hW.ocell hc
            rcases hT with ⟨rfl, hT⟩ | ⟨rfl, hT⟩ | ⟨rfl, hT⟩ | ⟨rfl, hT⟩
            · exact c_invV (vs := []) dX7_take_66 oX32_size q1454 q1746 hcc q1453 (Or.inr hy_Thing_size) rfl rfl (Nat.le_of_ble_eq_true rfl) rfl hW hF hT kr kt
            · exact c_invV (vs := []) dX7_take_66 oX33_size q1457 q1746 hcc q1456 (Or.inr hy_Thing_size) rfl rfl (Nat.le_of_ble_eq_true rfl) rfl hW hF hT kr kt
            · exact c_invV (vs := []) dX7_take_66 oX34_size q1451 q1746 hcc q1450 (Or.inr hy_Thing_size) rfl rfl (Nat.le_of_ble_eq_true rfl) rfl hW hF hT kr kt
            · exact c_invV (vs := []) dX7_take_66 oX35_size q1460 q1746 hcc q1459 (Or.inr hy_Thing_size) rfl rfl (Nat.le_of_ble_eq_true rfl) rfl hW hF hT kr kt
        · replace hT := hT.2 c
          refine x_aload_n dX7_take_49 rfl rfl rfl ?_
          refine c_getO dX7_take_50 f_TallySlate_Works_9 (by decide) (by decide) rfl hW ?_
          refine x_iconst (v := 2) dX7_take_53 rfl ?_
          refine x_iload_n dX7_take_54 rfl rfl ?_
          obtain ⟨-, -, cc, hcc, -⟩ := hW.ob 3 (by decide)
          refine c_invV (vs := [.int 2, .int x3]) dX7_take_55 oX3_wrong q1323 q1745 hcc q1324 (Or.inl rfl) rfl rfl (Nat.le_of_ble_eq_true rfl) rfl hW hF hT ?_ ?_
          · intro _ s17 f18 hT h hW hF
            obtain ⟨rfl, hT⟩ := hT
            refine x_athrow dX7_take_58 ?_
            exact c_out (rfl) hW (Or.inl ⟨rfl, rfl⟩) hF hT
          · intro k s17 f18 hT h a hW hx hF
            exact c_out (rfl) hW hx hF hT
      · replace hT := hT.2 hi5
        refine x_if_eq (tgt := 42) dX7_take_34 rfl (fun _ => ?_) (fun c => absurd c (by decide))
        refine x_bipush (v := 20) dX7_take_42 rfl ?_
        refine x_i2l dX7_take_44 ?_
        refine x_lcmp dX7_take_45 ?_
        refine x_if_le (tgt := 59) dX7_take_46 rfl (fun c => ?_) (fun c => ?_)
        · replace hT := hT.1 c
          refine x_aload_n dX7_take_59 rfl rfl rfl ?_
          refine x_aload_n dX7_take_60 rfl rfl rfl ?_
          refine x_iload_n dX7_take_61 rfl rfl ?_
          refine x_if_ge (tgt := 74) dX7_take_62 rfl (fun c => ?_) (fun c => ?_)
          · replace hT := hT.1 c
            refine x_iconst (v := 0) dX7_take_74 rfl ?_
            refine x_lload dX7_take_75 rfl ?_
            refine x_l2i dX7_take_77 ?_
            refine x_iload_n dX7_take_78 rfl rfl ?_
            obtain ⟨-, -, cc, hcc, -⟩ := hW.ob 7 (by decide)
            refine c_invV (vs := [.ref a1, .int 0, .int y4.toInt32, .int x3]) dX7_take_79 oX7_stretch q1864 q1862 hcc qs50 (Or.inl rfl) rfl rfl (Nat.le_of_ble_eq_true rfl) rfl hW hF hT ?_ ?_
            · intro _ s19 f20 hT h hW hF
              obtain ⟨a21, rfl, hT⟩ := hT
              exact x_aret dX7_take_82 rfl (by first | exact Or.inl ⟨_, rfl⟩ | exact Or.inr ⟨_, rfl⟩) rfl ⟨_, _, hW, hF, Or.inl ⟨_, rfl, hT⟩⟩
            · intro k s19 f20 hT h a hW hx hF
              exact c_out (rfl) hW hx hF hT
          · replace hT := hT.2 c
            refine x_aload_n dX7_take_65 rfl rfl rfl ?_
            obtain ⟨P29, hP, k28, hc, hT⟩ := hT
            have kr : ∀ r s22 f23, P29 (.inl r) s22 f23 → ∀ h, CW E w s22 f23 h → Frz f0 f23 → Ex l E (d + 1) MX7_take (66 + 3) [some (.ref (w.1 7)), some (.int x1), some (.ref a1), some (.int x3), some (.long y4), none] (r.toList ++ [.ref a1, .ref (w.1 7)]) h (PoC E w f0 Q) := by
              intro r s22 f23 h0 h hW hF
              have hT := hP _ _ _ h0
              clear h0
              obtain ⟨v24, rfl, hT⟩ := hT
              refine x_iload_n dX7_take_69 rfl rfl ?_
              refine x_iadd dX7_take_70 ?_
              refine x_goto (tgt := 75) dX7_take_71 rfl ?_
              refine x_lload dX7_take_75 rfl ?_
              refine x_l2i dX7_take_77 ?_
              refine x_iload_n dX7_take_78 rfl rfl ?_
              obtain ⟨-, -, cc, hcc, -⟩ := hW.ob 7 (by decide)
              refine c_invV (vs := [.ref a1, .int (v24 + x1), .int y4.toInt32, .int x3]) dX7_take_79 oX7_stretch q1864 q1862 hcc qs50 (Or.inl rfl) rfl rfl (Nat.le_of_ble_eq_true rfl) rfl hW hF hT ?_ ?_
              · intro _ s25 f26 hT h hW hF
                obtain ⟨a27, rfl, hT⟩ := hT
                exact x_aret dX7_take_82 rfl (by first | exact Or.inl ⟨_, rfl⟩ | exact Or.inr ⟨_, rfl⟩) rfl ⟨_, _, hW, hF, Or.inl ⟨_, rfl, hT⟩⟩
              · intro k s25 f26 hT h a hW hx hF
                exact c_out (rfl) hW hx hF hT
            have kt : ∀ k s22 f23, P29 (.inr k) s22 f23 → ∀ h a, CW E w s22 f23 h → xA w h k a → Frz f0 f23 → ExT l E (d + 1) MX7_take 66 [some (.ref (w.1 7)), some (.int x1), some (.ref a1), some (.int x3), some (.long y4), none] [.ref a1, .ref (w.1 7)] a h (PoC E w f0 Q) := by
              intro k s22 f23 h0 h a hW hx hF
              have hT := hP _ _ _ h0
              clear h0
              exact c_out (rfl) hW hx hF hT
            obtain ⟨cc, hcc⟩ := hW.ocell hc
            rcases hT with ⟨rfl, hT⟩ | ⟨rfl, hT⟩ | ⟨rfl, hT⟩ | ⟨rfl, hT⟩
            · exact c_invV (vs := []) dX7_take_66 oX32_size q1454 q1746 hcc q1453 (Or.inr hy_Thing_size) rfl rfl (Nat.le_of_ble_eq_true rfl) rfl hW hF hT kr kt
            · exact c_invV (vs := []) dX7_take_66 oX33_size q1457 q1746 hcc q1456 (Or.inr hy_Thing_size) rfl rfl (Nat.le_of_ble_eq_true rfl) rfl hW hF hT kr kt
            · exact c_invV (vs := []) dX7_take_66 oX34_size q1451 q1746 hcc q1450 (Or.inr hy_Thing_size) rfl rfl (Nat.le_of_ble_eq_true rfl) rfl hW hF hT kr kt
            · exact c_invV (vs := []) dX7_take_66 oX35_size q1460 q1746 hcc q1459 (Or.inr hy_Thing_size) rfl rfl (Nat.le_of_ble_eq_true rfl) rfl hW hF hT kr kt
        · replace hT := hT.2 c
          refine x_aload_n dX7_take_49 rfl rfl rfl ?_
          refine c_getO dX7_take_50 f_TallySlate_Works_9 (by decide) (by decide) rfl hW ?_
          refine x_iconst (v := 2) dX7_take_53 rfl ?_
          refine x_iload_n dX7_take_54 rfl rfl ?_
          obtain ⟨-, -, cc, hcc, -⟩ := hW.ob 3 (by decide)
          refine c_invV (vs := [.int 2, .int x3]) dX7_take_55 oX3_wrong q1323 q1745 hcc q1324 (Or.inl rfl) rfl rfl (Nat.le_of_ble_eq_true rfl) rfl hW hF hT ?_ ?_
          · intro _ s30 f31 hT h hW hF
            obtain ⟨rfl, hT⟩ := hT
            refine x_athrow dX7_take_58 ?_
            exact c_out (rfl) hW (Or.inl ⟨rfl, rfl⟩) hF hT
          · intro k s30 f31 hT h a hW hx hF
            exact c_out (rfl) hW hx hF hT
    · replace hT := hT.2 c
      refine x_iload_n dX7_take_18 rfl rfl ?_
      refine x_i2l dX7_take_19 ?_
      refine x_lneg dX7_take_20 ?_
      refine x_goto (tgt := 26) dX7_take_21 rfl ?_
      obtain ⟨y32, ey32⟩ : ∃ z : Int64, z = (-x1.toInt64) := ⟨_, rfl⟩
      replace hT := hT y32 ey32
      refine x_lstore (lo' := [some (.ref (w.1 7)), some (.int x1), some (.ref a1), some (.int x3), some (.long y32), none]) dX7_take_26 (Nat.le_of_ble_eq_true rfl) (by rw [ey32]; exact rfl) ?_
      refine x_lload dX7_take_28 rfl ?_
      refine x_aload_n dX7_take_30 rfl rfl rfl ?_
      obtain ⟨ht, hT⟩ := hT
      refine c_inst (K := 29) dX7_take_31 (by decide) q1755 ht hW (fun hi33 => ?_) (fun hi33 => ?_)
      · replace hT := hT.1 hi33
        refine x_if_eq (tgt := 42) dX7_take_34 rfl (fun c => absurd c (by decide)) (fun _ => ?_)
        refine x_bipush (v := 64) dX7_take_37 rfl ?_
        refine x_goto (tgt := 44) dX7_take_39 rfl ?_
        refine x_i2l dX7_take_44 ?_
        refine x_lcmp dX7_take_45 ?_
        refine x_if_le (tgt := 59) dX7_take_46 rfl (fun c => ?_) (fun c => ?_)
        · replace hT := hT.1 c
          refine x_aload_n dX7_take_59 rfl rfl rfl ?_
          refine x_aload_n dX7_take_60 rfl rfl rfl ?_
          refine x_iload_n dX7_take_61 rfl rfl ?_
          refine x_if_ge (tgt := 74) dX7_take_62 rfl (fun c => ?_) (fun c => ?_)
          · replace hT := hT.1 c
            refine x_iconst (v := 0) dX7_take_74 rfl ?_
            refine x_lload dX7_take_75 rfl ?_
            refine x_l2i dX7_take_77 ?_
            refine x_iload_n dX7_take_78 rfl rfl ?_
            obtain ⟨-, -, cc, hcc, -⟩ := hW.ob 7 (by decide)
            refine c_invV (vs := [.ref a1, .int 0, .int y32.toInt32, .int x3]) dX7_take_79 oX7_stretch q1864 q1862 hcc qs50 (Or.inl rfl) rfl rfl (Nat.le_of_ble_eq_true rfl) rfl hW hF hT ?_ ?_
            · intro _ s34 f35 hT h hW hF
              obtain ⟨a36, rfl, hT⟩ := hT
              exact x_aret dX7_take_82 rfl (by first | exact Or.inl ⟨_, rfl⟩ | exact Or.inr ⟨_, rfl⟩) rfl ⟨_, _, hW, hF, Or.inl ⟨_, rfl, hT⟩⟩
            · intro k s34 f35 hT h a hW hx hF
              exact c_out (rfl) hW hx hF hT
          · replace hT := hT.2 c
            refine x_aload_n dX7_take_65 rfl rfl rfl ?_
            obtain ⟨P44, hP, k43, hc, hT⟩ := hT
            have kr : ∀ r s37 f38, P44 (.inl r) s37 f38 → ∀ h, CW E w s37 f38 h → Frz f0 f38 → Ex l E (d + 1) MX7_take (66 + 3) [some (.ref (w.1 7)), some (.int x1), some (.ref a1), some (.int x3), some (.long y32), none] (r.toList ++ [.ref a1, .ref (w.1 7)]) h (PoC E w f0 Q) := by
              intro r s37 f38 h0 h hW hF
              have hT := hP _ _ _ h0
              clear h0
              obtain ⟨v39, rfl, hT⟩ := hT
              refine x_iload_n dX7_take_69 rfl rfl ?_
              refine x_iadd dX7_take_70 ?_
              refine x_goto (tgt := 75) dX7_take_71 rfl ?_
              refine x_lload dX7_take_75 rfl ?_
              refine x_l2i dX7_take_77 ?_
              refine x_iload_n dX7_take_78 rfl rfl ?_
              obtain ⟨-, -, cc, hcc, -⟩ := hW.ob 7 (by decide)
              refine c_invV (vs := [.ref a1, .int (v39 + x1), .int y32.toInt32, .int x3]) dX7_take_79 oX7_stretch q1864 q1862 hcc qs50 (Or.inl rfl) rfl rfl (Nat.le_of_ble_eq_true rfl) rfl hW hF hT ?_ ?_
              · intro _ s40 f41 hT h hW hF
                obtain ⟨a42, rfl, hT⟩ := hT
                exact x_aret dX7_take_82 rfl (by first | exact Or.inl ⟨_, rfl⟩ | exact Or.inr ⟨_, rfl⟩) rfl ⟨_, _, hW, hF, Or.inl ⟨_, rfl, hT⟩⟩
              · intro k s40 f41 hT h a hW hx hF
                exact c_out (rfl) hW hx hF hT
            have kt : ∀ k s37 f38, P44 (.inr k) s37 f38 → ∀ h a, CW E w s37 f38 h → xA w h k a → Frz f0 f38 → ExT l E (d + 1) MX7_take 66 [some (.ref (w.1 7)), some (.int x1), some (.ref a1), some (.int x3), some (.long y32), none] [.ref a1, .ref (w.1 7)] a h (PoC E w f0 Q) := by
              intro k s37 f38 h0 h a hW hx hF
              have hT := hP _ _ _ h0
              clear h0
              exact c_out (rfl) hW hx hF hT
            obtain ⟨cc, hcc⟩ := hW.ocell hc
            rcases hT with ⟨rfl, hT⟩ | ⟨rfl, hT⟩ | ⟨rfl, hT⟩ | ⟨rfl, hT⟩
            · exact c_invV (vs := []) dX7_take_66 oX32_size q1454 q1746 hcc q1453 (Or.inr hy_Thing_size) rfl rfl (Nat.le_of_ble_eq_true rfl) rfl hW hF hT kr kt
            · exact c_invV (vs := []) dX7_take_66 oX33_size q1457 q1746 hcc q1456 (Or.inr hy_Thing_size) rfl rfl (Nat.le_of_ble_eq_true rfl) rfl hW hF hT kr kt
            · exact c_invV (vs := []) dX7_take_66 oX34_size q1451 q1746 hcc q1450 (Or.inr hy_Thing_size) rfl rfl (Nat.le_of_ble_eq_true rfl) rfl hW hF hT kr kt
            · exact c_invV (vs := []) dX7_take_66 oX35_size q1460 q1746 hcc q1459 (Or.inr hy_Thing_size) rfl rfl (Nat.le_of_ble_eq_true rfl) rfl hW hF hT kr kt
        · replace hT := hT.2 c
          refine x_aload_n dX7_take_49 rfl rfl rfl ?_
          refine c_getO dX7_take_50 f_TallySlate_Works_9 (by decide) (by decide) rfl hW ?_
          refine x_iconst (v := 2) dX7_take_53 rfl ?_
          refine x_iload_n dX7_take_54 rfl rfl ?_
          obtain ⟨-, -, cc, hcc, -⟩ := hW.ob 3 (by decide)
          refine c_invV (vs := [.int 2, .int x3]) dX7_take_55 oX3_wrong q1323 q1745 hcc q1324 (Or.inl rfl) rfl rfl (Nat.le_of_ble_eq_true rfl) rfl hW hF hT ?_ ?_
          · intro _ s45 f46 hT h hW hF
            obtain ⟨rfl, hT⟩ := hT
            refine x_athrow dX7_take_58 ?_
            exact c_out (rfl) hW (Or.inl ⟨rfl, rfl⟩) hF hT
          · intro k s45 f46 hT h a hW hx hF
            exact c_out (rfl) hW hx hF hT
      · replace hT := hT.2 hi33
        refine x_if_eq (tgt := 42) dX7_take_34 rfl (fun _ => ?_) (fun c => absurd c (by decide))
        refine x_bipush (v := 20) dX7_take_42 rfl ?_
        refine x_i2l dX7_take_44 ?_
        refine x_lcmp dX7_take_45 ?_
        refine x_if_le (tgt := 59) dX7_take_46 rfl (fun c => ?_) (fun c => ?_)
        · replace hT := hT.1 c
          refine x_aload_n dX7_take_59 rfl rfl rfl ?_
          refine x_aload_n dX7_take_60 rfl rfl rfl ?_
          refine x_iload_n dX7_take_61 rfl rfl ?_
          refine x_if_ge (tgt := 74) dX7_take_62 rfl (fun c => ?_) (fun c => ?_)
          · replace hT := hT.1 c
            refine x_iconst (v := 0) dX7_take_74 rfl ?_
            refine x_lload dX7_take_75 rfl ?_
            refine x_l2i dX7_take_77 ?_
            refine x_iload_n dX7_take_78 rfl rfl ?_
            obtain ⟨-, -, cc, hcc, -⟩ := hW.ob 7 (by decide)
            refine c_invV (vs := [.ref a1, .int 0, .int y32.toInt32, .int x3]) dX7_take_79 oX7_stretch q1864 q1862 hcc qs50 (Or.inl rfl) rfl rfl (Nat.le_of_ble_eq_true rfl) rfl hW hF hT ?_ ?_
            · intro _ s47 f48 hT h hW hF
              obtain ⟨a49, rfl, hT⟩ := hT
              exact x_aret dX7_take_82 rfl (by first | exact Or.inl ⟨_, rfl⟩ | exact Or.inr ⟨_, rfl⟩) rfl ⟨_, _, hW, hF, Or.inl ⟨_, rfl, hT⟩⟩
            · intro k s47 f48 hT h a hW hx hF
              exact c_out (rfl) hW hx hF hT
          · replace hT := hT.2 c
            refine x_aload_n dX7_take_65 rfl rfl rfl ?_
            obtain ⟨P57, hP, k56, hc, hT⟩ := hT
            have kr : ∀ r s50 f51, P57 (.inl r) s50 f51 → ∀ h, CW E w s50 f51 h → Frz f0 f51 → Ex l E (d + 1) MX7_take (66 + 3) [some (.ref (w.1 7)), some (.int x1), some (.ref a1), some (.int x3), some (.long y32), none] (r.toList ++ [.ref a1, .ref (w.1 7)]) h (PoC E w f0 Q) := by
              intro r s50 f51 h0 h hW hF
              have hT := hP _ _ _ h0
              clear h0
              obtain ⟨v52, rfl, hT⟩ := hT
              refine x_iload_n dX7_take_69 rfl rfl ?_
              refine x_iadd dX7_take_70 ?_
              refine x_goto (tgt := 75) dX7_take_71 rfl ?_
              refine x_lload dX7_take_75 rfl ?_
              refine x_l2i dX7_take_77 ?_
              refine x_iload_n dX7_take_78 rfl rfl ?_
              obtain ⟨-, -, cc, hcc, -⟩ := hW.ob 7 (by decide)
              refine c_invV (vs := [.ref a1, .int (v52 + x1), .int y32.toInt32, .int x3]) dX7_take_79 oX7_stretch q1864 q1862 hcc qs50 (Or.inl rfl) rfl rfl (Nat.le_of_ble_eq_true rfl) rfl hW hF hT ?_ ?_
              · intro _ s53 f54 hT h hW hF
                obtain ⟨a55, rfl, hT⟩ := hT
                exact x_aret dX7_take_82 rfl (by first | exact Or.inl ⟨_, rfl⟩ | exact Or.inr ⟨_, rfl⟩) rfl ⟨_, _, hW, hF, Or.inl ⟨_, rfl, hT⟩⟩
              · intro k s53 f54 hT h a hW hx hF
                exact c_out (rfl) hW hx hF hT
            have kt : ∀ k s50 f51, P57 (.inr k) s50 f51 → ∀ h a, CW E w s50 f51 h → xA w h k a → Frz f0 f51 → ExT l E (d + 1) MX7_take 66 [some (.ref (w.1 7)), some (.int x1), some (.ref a1), some (.int x3), some (.long y32), none] [.ref a1, .ref (w.1 7)] a h (PoC E w f0 Q) := by
              intro k s50 f51 h0 h a hW hx hF
              have hT := hP _ _ _ h0
              clear h0
              exact c_out (rfl) hW hx hF hT
            obtain ⟨cc, hcc⟩ := hW.ocell hc
            rcases hT with ⟨rfl, hT⟩ | ⟨rfl, hT⟩ | ⟨rfl, hT⟩ | ⟨rfl, hT⟩
            · exact c_invV (vs := []) dX7_take_66 oX32_size q1454 q1746 hcc q1453 (Or.inr hy_Thing_size) rfl rfl (Nat.le_of_ble_eq_true rfl) rfl hW hF hT kr kt
            · exact c_invV (vs := []) dX7_take_66 oX33_size q1457 q1746 hcc q1456 (Or.inr hy_Thing_size) rfl rfl (Nat.le_of_ble_eq_true rfl) rfl hW hF hT kr kt
            · exact c_invV (vs := []) dX7_take_66 oX34_size q1451 q1746 hcc q1450 (Or.inr hy_Thing_size) rfl rfl (Nat.le_of_ble_eq_true rfl) rfl hW hF hT kr kt
            · exact c_invV (vs := []) dX7_take_66 oX35_size q1460 q1746 hcc q1459 (Or.inr hy_Thing_size) rfl rfl (Nat.le_of_ble_eq_true rfl) rfl hW hF hT kr kt
        · replace hT := hT.2 c
          refine x_aload_n dX7_take_49 rfl rfl rfl ?_
          refine c_getO dX7_take_50 f_TallySlate_Works_9 (by decide) (by decide) rfl hW ?_
          refine x_iconst (v := 2) dX7_take_53 rfl ?_
          refine x_iload_n dX7_take_54 rfl rfl ?_
          obtain ⟨-, -, cc, hcc, -⟩ := hW.ob 3 (by decide)
          refine c_invV (vs := [.int 2, .int x3]) dX7_take_55 oX3_wrong q1323 q1745 hcc q1324 (Or.inl rfl) rfl rfl (Nat.le_of_ble_eq_true rfl) rfl hW hF hT ?_ ?_
          · intro _ s58 f59 hT h hW hF
            obtain ⟨rfl, hT⟩ := hT
            refine x_athrow dX7_take_58 ?_
            exact c_out (rfl) hW (Or.inl ⟨rfl, rfl⟩) hF hT
          · intro k s58 f59 hT h a hW hx hF
            exact c_out (rfl) hW hx hF hT
  · subst e
    replace hT := hT.1 rfl
    refine x_aload_n dX7_take_4 rfl rfl rfl ?_
    refine c_getO dX7_take_5 f_TallySlate_Works_9 (by decide) (by decide) rfl hW ?_
    refine x_iconst (v := 3) dX7_take_8 rfl ?_
    refine x_iload_n dX7_take_9 rfl rfl ?_
    obtain ⟨-, -, cc, hcc, -⟩ := hW.ob 3 (by decide)
    refine c_invV (vs := [.int 3, .int x3]) dX7_take_10 oX3_wrong q1323 q1745 hcc q1324 (Or.inl rfl) rfl rfl (Nat.le_of_ble_eq_true rfl) rfl hW hF hT ?_ ?_
    · intro _ s2 f3 hT h hW hF
      obtain ⟨rfl, hT⟩ := hT
      refine x_athrow dX7_take_13 ?_
      exact c_out (rfl) hW (Or.inl ⟨rfl, rfl⟩) hF hT
    · intro k s2 f3 hT h a hW hx hF
      exact c_out (rfl) hW hx hF hT
theorem eX7_take {l : Launch} {E : EN} {w : CO} {d : Nat} {s : CS} {f : RH} {Q : KO → CS → RH → Prop} {x1 : Int32} {x2 : Value} {x3 : Int32} (ix2 : isR x2 = true) (hst : l.stackTraces = false) (hT : ((x2 = .null → (EvC l E w d MX3_wrong [.ref (w.1 3), .int 3, .int x3] s f (fun o s2 f3 => KP o (fun r => r = some (.ref (w.1 9)) ∧ Q (.inr 9) s2 f3) (fun k => Q (.inr k) s2 f3)))) ∧ (∀ a1 : Nat, x2 = .ref a1 → ((0 ≤ x1 → (∀ y4 : Int64, y4 = x1.toInt64 → (isT f (.ref a1) ∧ ((tg f a1 = some (.inl 29) → (((lg_cmp y4 (64 : Int32).toInt64) ≤ 0 → ((0 ≤ x1 → (EvC l E w d MX7_stretch [.ref (w.1 7), .ref a1, .int 0, .int y4.toInt32, .int x3] s f (fun o s6 f7 => KP o (fun r => ∃ a8 : Nat, r = some (.ref a8) ∧ Q (.inl (some (.ref a8))) s6 f7) (fun k => Q (.inr k) s6 f7)))) ∧ (¬ 0 ≤ x1 → (∃ P16 : KO → CS → RH → Prop, (∀ o s9 f10, P16 o s9 f10 → KP o (fun r => ∃ v11 : Int32, r = some (.int v11) ∧ (EvC l E w d MX7_stretch [.ref (w.1 7), .ref a1, .int (v11 + x1), .int y4.toInt32, .int x3] s9 f10 (fun o s12 f13 => KP o (fun r => ∃ a14 : Nat, r = some (.ref a14) ∧ Q (.inl (some (.ref a14))) s12 f13) (fun k => Q (.inr k) s12 f13)))) (fun k => Q (.inr k) s9 f10)) ∧ ∃ k15 : Nat, oc f a1 k15 ∧ ((k15 = 29 ∧ EvC l E w d MX32_size [.ref a1] s f P16) ∨ (k15 = 30 ∧ EvC l E w d MX33_size [.ref a1] s f P16) ∨ (k15 = 31 ∧ EvC l E w d MX34_size [.ref a1] s f P16) ∨ (k15 = 32 ∧ EvC l E w d MX35_size [.ref a1] s f P16)))))) ∧ (¬ (lg_cmp y4 (64 : Int32).toInt64) ≤ 0 → (EvC l E w d MX3_wrong [.ref (w.1 3), .int 2, .int x3] s f (fun o s17 f18 => KP o (fun r => r = some (.ref (w.1 9)) ∧ Q (.inr 9) s17 f18) (fun k => Q (.inr k) s17 f18)))))) ∧ (¬ tg f a1 = some (.inl 29) → (((lg_cmp y4 (20 : Int32).toInt64) ≤ 0 → ((0 ≤ x1 → (EvC l E w d MX7_stretch [.ref (w.1 7), .ref a1, .int 0, .int y4.toInt32, .int x3] s f (fun o s19 f20 => KP o (fun r => ∃ a21 : Nat, r = some (.ref a21) ∧ Q (.inl (some (.ref a21))) s19 f20) (fun k => Q (.inr k) s19 f20)))) ∧ (¬ 0 ≤ x1 → (∃ P29 : KO → CS → RH → Prop, (∀ o s22 f23, P29 o s22 f23 → KP o (fun r => ∃ v24 : Int32, r = some (.int v24) ∧ (EvC l E w d MX7_stretch [.ref (w.1 7), .ref a1, .int (v24 + x1), .int y4.toInt32, .int x3] s22 f23 (fun o s25 f26 => KP o (fun r => ∃ a27 : Nat, r = some (.ref a27) ∧ Q (.inl (some (.ref a27))) s25 f26) (fun k => Q (.inr k) s25 f26)))) (fun k => Q (.inr k) s22 f23)) ∧ ∃ k28 : Nat, oc f a1 k28 ∧ ((k28 = 29 ∧ EvC l E w d MX32_size [.ref a1] s f P29) ∨ (k28 = 30 ∧ EvC l E w d MX33_size [.ref a1] s f P29) ∨ (k28 = 31 ∧ EvC l E w d MX34_size [.ref a1] s f P29) ∨ (k28 = 32 ∧ EvC l E w d MX35_size [.ref a1] s f P29)))))) ∧ (¬ (lg_cmp y4 (20 : Int32).toInt64) ≤ 0 → (EvC l E w d MX3_wrong [.ref (w.1 3), .int 2, .int x3] s f (fun o s30 f31 => KP o (fun r => r = some (.ref (w.1 9)) ∧ Q (.inr 9) s30 f31) (fun k => Q (.inr k) s30 f31)))))))))) ∧ (¬ 0 ≤ x1 → (∀ y32 : Int64, y32 = (-x1.toInt64) → (isT f (.ref a1) ∧ ((tg f a1 = some (.inl 29) → (((lg_cmp y32 (64 : Int32).toInt64) ≤ 0 → ((0 ≤ x1 → (EvC l E w d MX7_stretch [.ref (w.1 7), .ref a1, .int 0, .int y32.toInt32, .int x3] s f (fun o s34 f35 => KP o (fun r => ∃ a36 : Nat, r = some (.ref a36) ∧ Q (.inl (some (.ref a36))) s34 f35) (fun k => Q (.inr k) s34 f35)))) ∧ (¬ 0 ≤ x1 → (∃ P44 : KO → CS → RH → Prop, (∀ o s37 f38, P44 o s37 f38 → KP o (fun r => ∃ v39 : Int32, r = some (.int v39) ∧ (EvC l E w d MX7_stretch [.ref (w.1 7), .ref a1, .int (v39 + x1), .int y32.toInt32, .int x3] s37 f38 (fun o s40 f41 => KP o (fun r => ∃ a42 : Nat, r = some (.ref a42) ∧ Q (.inl (some (.ref a42))) s40 f41) (fun k => Q (.inr k) s40 f41)))) (fun k => Q (.inr k) s37 f38)) ∧ ∃ k43 : Nat, oc f a1 k43 ∧ ((k43 = 29 ∧ EvC l E w d MX32_size [.ref a1] s f P44) ∨ (k43 = 30 ∧ EvC l E w d MX33_size [.ref a1] s f P44) ∨ (k43 = 31 ∧ EvC l E w d MX34_size [.ref a1] s f P44) ∨ (k43 = 32 ∧ EvC l E w d MX35_size [.ref a1] s f P44)))))) ∧ (¬ (lg_cmp y32 (64 : Int32).toInt64) ≤ 0 → (EvC l E w d MX3_wrong [.ref (w.1 3), .int 2, .int x3] s f (fun o s45 f46 => KP o (fun r => r = some (.ref (w.1 9)) ∧ Q (.inr 9) s45 f46) (fun k => Q (.inr k) s45 f46)))))) ∧ (¬ tg f a1 = some (.inl 29) → (((lg_cmp y32 (20 : Int32).toInt64) ≤ 0 → ((0 ≤ x1 → (EvC l E w d MX7_stretch [.ref (w.1 7), .ref a1, .int 0, .int y32.toInt32, .int x3] s f (fun o s47 f48 => KP o (fun r => ∃ a49 : Nat, r = some (.ref a49) ∧ Q (.inl (some (.ref a49))) s47 f48) (fun k => Q (.inr k) s47 f48)))) ∧ (¬ 0 ≤ x1 → (∃ P57 : KO → CS → RH → Prop, (∀ o s50 f51, P57 o s50 f51 → KP o (fun r => ∃ v52 : Int32, r = some (.int v52) ∧ (EvC l E w d MX7_stretch [.ref (w.1 7), .ref a1, .int (v52 + x1), .int y32.toInt32, .int x3] s50 f51 (fun o s53 f54 => KP o (fun r => ∃ a55 : Nat, r = some (.ref a55) ∧ Q (.inl (some (.ref a55))) s53 f54) (fun k => Q (.inr k) s53 f54)))) (fun k => Q (.inr k) s50 f51)) ∧ ∃ k56 : Nat, oc f a1 k56 ∧ ((k56 = 29 ∧ EvC l E w d MX32_size [.ref a1] s f P57) ∨ (k56 = 30 ∧ EvC l E w d MX33_size [.ref a1] s f P57) ∨ (k56 = 31 ∧ EvC l E w d MX34_size [.ref a1] s f P57) ∨ (k56 = 32 ∧ EvC l E w d MX35_size [.ref a1] s f P57)))))) ∧ (¬ (lg_cmp y32 (20 : Int32).toInt64) ≤ 0 → (EvC l E w d MX3_wrong [.ref (w.1 3), .int 2, .int x3] s f (fun o s58 f59 => KP o (fun r => r = some (.ref (w.1 9)) ∧ Q (.inr 9) s58 f59) (fun k => Q (.inr k) s58 f59)))))))))))))) : EvC l E w (d + 1) MX7_take [.ref (w.1 7), .int x1, x2, .int x3] s f Q :=by
  rcases isR_cases ix2 with rfl | ⟨_, rfl⟩ <;> exact
  
  EvC.of hst (by decide) (Nat.le_of_ble_eq_true rfl) (vX7_take_0 ix2 hT)
set_option maxHeartbeats 16000000 in
theorem vX7_drop_0 {l : Launch} {E : EN} {w : CO} {d : Nat} {s : CS} {f : RH} {Q : KO → CS → RH → Prop} {x1 : Int32} {x2 : Value} {x3 : Int32} (ix2 : isR x2 = true) (hT : ((x2 = .null → (EvC l E w d MX3_wrong [.ref (w.1 3), .int 3, .int x3] s f (fun o s2 f3 => KP o (fun r => r = some (.ref (w.1 9)) ∧ Q (.inr 9) s2 f3) (fun k => Q (.inr k) s2 f3)))) ∧ (∀ a1 : Nat, x2 = .ref a1 → (∃ P28 : KO → CS → RH → Prop, (∀ o s4 f5, P28 o s4 f5 → KP o (fun r => ∃ v6 : Int32, r = some (.int v6) ∧ ((0 ≤ x1 → (∀ y7 : Int64, y7 = (v6.toInt64 - x1.toInt64) → (((lg_cmp y7 0) ≤ 0 → (EvC l E w d MX7_stretch [.ref (w.1 7), .ref a1, .int 0, .int (if y7 < 0 then 0 else y7).toInt32, .int x3] s4 f5 (fun o s8 f9 => KP o (fun r => ∃ a10 : Nat, r = some (.ref a10) ∧ Q (.inl (some (.ref a10))) s8 f9) (fun k => Q (.inr k) s8 f9)))) ∧ (¬ (lg_cmp y7 0) ≤ 0 → ((0 ≤ x1 → (EvC l E w d MX7_stretch [.ref (w.1 7), .ref a1, .int x1, .int (if y7 < 0 then 0 else y7).toInt32, .int x3] s4 f5 (fun o s11 f12 => KP o (fun r => ∃ a13 : Nat, r = some (.ref a13) ∧ Q (.inl (some (.ref a13))) s11 f12) (fun k => Q (.inr k) s11 f12)))) ∧ (¬ 0 ≤ x1 → (EvC l E w d MX7_stretch [.ref (w.1 7), .ref a1, .int 0, .int (if y7 < 0 then 0 else y7).toInt32, .int x3] s4 f5 (fun o s14 f15 => KP o (fun r => ∃ a16 : Nat, r = some (.ref a16) ∧ Q (.inl (some (.ref a16))) s14 f15) (fun k => Q (.inr k) s14 f15))))))))) ∧ (¬ 0 ≤ x1 → (∀ y17 : Int64, y17 = (v6.toInt64 - (-x1.toInt64)) → (((lg_cmp y17 0) ≤ 0 → (EvC l E w d MX7_stretch [.ref (w.1 7), .ref a1, .int 0, .int (if y17 < 0 then 0 else y17).toInt32, .int x3] s4 f5 (fun o s18 f19 => KP o (fun r => ∃ a20 : Nat, r = some (.ref a20) ∧ Q (.inl (some (.ref a20))) s18 f19) (fun k => Q (.inr k) s18 f19)))) ∧ (¬ (lg_cmp y17 0) ≤ 0 → ((0 ≤ x1 → (EvC l E w d MX7_stretch [.ref (w.1 7), .ref a1, .int x1, .int (if y17 < 0 then 0 else y17).toInt32, .int x3] s4 f5 (fun o s21 f22 => KP o (fun r => ∃ a23 : Nat, r = some (.ref a23) ∧ Q (.inl (some (.ref a23))) s21 f22) (fun k => Q (.inr k) s21 f22)))) ∧ (¬ 0 ≤ x1 → (EvC l E w d MX7_stretch [.ref (w.1 7), .ref a1, .int 0, .int (if y17 < 0 then 0 else y17).toInt32, .int x3] s4 f5 (fun o s24 f25 => KP o (fun r => ∃ a26 : Nat, r = some (.ref a26) ∧ Q (.inl (some (.ref a26))) s24 f25) (fun k => Q (.inr k) s24 f25))))))))))) (fun k => Q (.inr k) s4 f5)) ∧ ∃ k27 : Nat, oc f a1 k27 ∧ ((k27 = 29 ∧ EvC l E w d MX32_size [.ref a1] s f P28) ∨ (k27 = 30 ∧ EvC l E w d MX33_size [.ref a1] s f P28) ∨ (k27 = 31 ∧ EvC l E w d MX34_size [.ref a1] s f P28) ∨ (k27 = 32 ∧ EvC l E w d MX35_size [.ref a1] s f P28)))))) : ExC l E w (d + 1) MX7_drop 0 [some (.ref (w.1 7)), some (.int x1), some (x2), some (.int x3), none, none] [] s f Q := by
  intro f0 h hW hF
  refine x_aload_n dX7_drop_0 rfl rfl ix2 ?_
  refine x_ifnonnull (tgt := 14) dX7_drop_1 rfl ix2 (fun a1 e => ?_) (fun e => ?_)
  · subst e
    replace hT := hT.2 a1 rfl
    refine x_aload_n dX7_drop_14 rfl rfl rfl ?_
    obtain ⟨P28, hP, k27, hc, hT⟩ := hT
    have kr : ∀ r s4 f5, P28 (.inl r) s4 f5 → ∀ h, CW E w s4 f5 h → Frz f0 f5 → Ex l E (d + 1) MX7_drop (15 + 3) [some (.ref (w.1 7)), some (.int x1), some (.ref a1), some (.int x3), none, none] (r.toList ++ []) h (PoC E w f0 Q) := by
      intro r s4 f5 h0 h hW hF
      have hT := hP _ _ _ h0
      clear h0
      obtain ⟨v6, rfl, hT⟩ := hT
      refine x_i2l dX7_drop_18 ?_
      refine x_iload_n dX7_drop_19 rfl rfl ?_
      refine x_if_ge (tgt := 29) dX7_drop_20 rfl (fun c => ?_) (fun c => ?_)
      · replace hT := hT.1 c
        refine x_iload_n dX7_drop_29 rfl rfl ?_
        refine x_i2l dX7_drop_30 ?_
        refine x_lsub dX7_drop_31 ?_
        obtain ⟨y7, ey7⟩ : ∃ z : Int64, z = (v6.toInt64 - x1.toInt64) := ⟨_, rfl⟩
        replace hT := hT y7 ey7
        refine x_lstore (lo' := [some (.ref (w.1 7)), some (.int x1), some (.ref a1), some (.int x3), some (.long y7), none]) dX7_drop_32 (Nat.le_of_ble_eq_true rfl) (by rw [ey7]; exact rfl) ?_
        refine x_aload_n dX7_drop_34 rfl rfl rfl ?_
        refine x_aload_n dX7_drop_35 rfl rfl rfl ?_
        refine x_lload dX7_drop_36 rfl ?_
        refine x_lconst (v := 0) dX7_drop_38 rfl ?_
        refine x_lcmp dX7_drop_39 ?_
        refine x_if_le (tgt := 47) dX7_drop_40 rfl (fun c => ?_) (fun c => ?_)
        · replace hT := hT.1 c
          refine x_iconst (v := 0) dX7_drop_47 rfl ?_
          refine x_goto (tgt := 52) dX7_drop_48 rfl ?_
          refine x_lconst (v := 0) dX7_drop_52 rfl ?_
          refine x_lload dX7_drop_53 rfl ?_
          refine x_mmaxL dX7_drop_55 q1872 q1873 q181 mq_maxL (Nat.le_of_ble_eq_true rfl) rfl ?_
          refine x_l2i dX7_drop_58 ?_
          refine x_iload_n dX7_drop_59 rfl rfl ?_
          obtain ⟨-, -, cc, hcc, -⟩ := hW.ob 7 (by decide)
          refine c_invV (vs := [.ref a1, .int 0, .int (if y7 < 0 then 0 else y7).toInt32, .int x3]) dX7_drop_60 oX7_stretch q1864 q1862 hcc qs50 (Or.inl rfl) rfl rfl (Nat.le_of_ble_eq_true rfl) rfl hW hF hT ?_ ?_
          · intro _ s8 f9 hT h hW hF
            obtain ⟨a10, rfl, hT⟩ := hT
            exact x_aret dX7_drop_63 rfl (by first | exact Or.inl ⟨_, rfl⟩ | exact Or.inr ⟨_, rfl⟩) rfl ⟨_, _, hW, hF, Or.inl ⟨_, rfl, hT⟩⟩
          · intro k s8 f9 hT h a hW hx hF
            exact c_out (rfl) hW hx hF hT
        · replace hT := hT.2 c
          refine x_iload_n dX7_drop_43 rfl rfl ?_
          refine x_if_ge (tgt := 51) dX7_drop_44 rfl (fun c => ?_) (fun c => ?_)
          · replace hT := hT.1 c
            refine x_iload_n dX7_drop_51 rfl rfl ?_
            refine x_lconst (v := 0) dX7_drop_52 rfl ?_
            refine x_lload dX7_drop_53 rfl ?_
            refine x_mmaxL dX7_drop_55 q1872 q1873 q181 mq_maxL (Nat.le_of_ble_eq_true rfl) rfl ?_
            refine x_l2i dX7_drop_58 ?_
            refine x_iload_n dX7_drop_59 rfl rfl ?_
            obtain ⟨-, -, cc, hcc, -⟩ := hW.ob 7 (by decide)
            refine c_invV (vs := [.ref a1, .int x1, .int (if y7 < 0 then 0 else y7).toInt32, .int x3]) dX7_drop_60 oX7_stretch q1864 q1862 hcc qs50 (Or.inl rfl) rfl rfl (Nat.le_of_ble_eq_true rfl) rfl hW hF hT ?_ ?_
            · intro _ s11 f12 hT h hW hF
              obtain ⟨a13, rfl, hT⟩ := hT
              exact x_aret dX7_drop_63 rfl (by first | exact Or.inl ⟨_, rfl⟩ | exact Or.inr ⟨_, rfl⟩) rfl ⟨_, _, hW, hF, Or.inl ⟨_, rfl, hT⟩⟩
            · intro k s11 f12 hT h a hW hx hF
              exact c_out (rfl) hW hx hF hT
          · replace hT := hT.2 c
            refine x_iconst (v := 0) dX7_drop_47 rfl ?_
            refine x_goto (tgt := 52) dX7_drop_48 rfl ?_
            refine x_lconst (v := 0) dX7_drop_52 rfl ?_
            refine x_lload dX7_drop_53 rfl ?_
            refine x_mmaxL dX7_drop_55 q1872 q1873 q181 mq_maxL (Nat.le_of_ble_eq_true rfl) rfl ?_
            refine x_l2i dX7_drop_58 ?_
            refine x_iload_n dX7_drop_59 rfl rfl ?_
            obtain ⟨-, -, cc, hcc, -⟩ := hW.ob 7 (by decide)
            refine c_invV (vs := [.ref a1, .int 0, .int (if y7 < 0 then 0 else y7).toInt32, .int x3]) dX7_drop_60 oX7_stretch q1864 q1862 hcc qs50 (Or.inl rfl) rfl rfl (Nat.le_of_ble_eq_true rfl) rfl hW hF hT ?_ ?_
            · intro _ s14 f15 hT h hW hF
              obtain ⟨a16, rfl, hT⟩ := hT
              exact x_aret dX7_drop_63 rfl (by first | exact Or.inl ⟨_, rfl⟩ | exact Or.inr ⟨_, rfl⟩) rfl ⟨_, _, hW, hF, Or.inl ⟨_, rfl, hT⟩⟩
            · intro k s14 f15 hT h a hW hx hF
              exact c_out (rfl) hW hx hF hT
      · replace hT := hT.2 c
        refine x_iload_n dX7_drop_23 rfl rfl ?_
        refine x_i2l dX7_drop_24 ?_
        refine x_lneg dX7_drop_25 ?_
        refine x_goto (tgt := 31) dX7_drop_26 rfl ?_
        refine x_lsub dX7_drop_31 ?_
        obtain ⟨y17, ey17⟩ : ∃ z : Int64, z = (v6.toInt64 - (-x1.toInt64)) := ⟨_, rfl⟩
        replace hT := hT y17 ey17
        refine x_lstore (lo' := [some (.ref (w.1 7)), some (.int x1), some (.ref a1), some (.int x3), some (.long y17), none]) dX7_drop_32 (Nat.le_of_ble_eq_true rfl) (by rw [ey17]; exact rfl) ?_
        refine x_aload_n dX7_drop_34 rfl rfl rfl ?_
        refine x_aload_n dX7_drop_35 rfl rfl rfl ?_
        refine x_lload dX7_drop_36 rfl ?_
        refine x_lconst (v := 0) dX7_drop_38 rfl ?_
        refine x_lcmp dX7_drop_39 ?_
        refine x_if_le (tgt := 47) dX7_drop_40 rfl (fun c => ?_) (fun c => ?_)
        · replace hT := hT.1 c
          refine x_iconst (v := 0) dX7_drop_47 rfl ?_
          refine x_goto (tgt := 52) dX7_drop_48 rfl ?_
          refine x_lconst (v := 0) dX7_drop_52 rfl ?_
          refine x_lload dX7_drop_53 rfl ?_
          refine x_mmaxL dX7_drop_55 q1872 q1873 q181 mq_maxL (Nat.le_of_ble_eq_true rfl) rfl ?_
          refine x_l2i dX7_drop_58 ?_
          refine x_iload_n dX7_drop_59 rfl rfl ?_
          obtain ⟨-, -, cc, hcc, -⟩ := hW.ob 7 (by decide)
          refine c_invV (vs := [.ref a1, .int 0, .int (if y17 < 0 then 0 else y17).toInt32, .int x3]) dX7_drop_60 oX7_stretch q1864 q1862 hcc qs50 (Or.inl rfl) rfl rfl (Nat.le_of_ble_eq_true rfl) rfl hW hF hT ?_ ?_
          · intro _ s18 f19 hT h hW hF
            obtain ⟨a20, rfl, hT⟩ := hT
            exact x_aret dX7_drop_63 rfl (by first | exact Or.inl ⟨_, rfl⟩ | exact Or.inr ⟨_, rfl⟩) rfl ⟨_, _, hW, hF, Or.inl ⟨_, rfl, hT⟩⟩
          · intro k s18 f19 hT h a hW hx hF
            exact c_out (rfl) hW hx hF hT
        · replace hT := hT.2 c
          refine x_iload_n dX7_drop_43 rfl rfl ?_
          refine x_if_ge (tgt := 51) dX7_drop_44 rfl (fun c => ?_) (fun c => ?_)
          · replace hT := hT.1 c
            refine x_iload_n dX7_drop_51 rfl rfl ?_
            refine x_lconst (v := 0) dX7_drop_52 rfl ?_
            refine x_lload dX7_drop_53 rfl ?_
            refine x_mmaxL dX7_drop_55 q1872 q1873 q181 mq_maxL (Nat.le_of_ble_eq_true rfl) rfl ?_
            refine x_l2i dX7_drop_58 ?_
            refine x_iload_n dX7_drop_59 rfl rfl ?_
            obtain ⟨-, -, cc, hcc, -⟩ := hW.ob 7 (by decide)
            refine c_invV (vs := [.ref a1, .int x1, .int (if y17 < 0 then 0 else y17).toInt32, .int x3]) dX7_drop_60 oX7_stretch q1864 q1862 hcc qs50 (Or.inl rfl) rfl rfl (Nat.le_of_ble_eq_true rfl) rfl hW hF hT ?_ ?_
            · intro _ s21 f22 hT h hW hF
              obtain ⟨a23, rfl, hT⟩ := hT
              exact x_aret dX7_drop_63 rfl (by first | exact Or.inl ⟨_, rfl⟩ | exact Or.inr ⟨_, rfl⟩) rfl ⟨_, _, hW, hF, Or.inl ⟨_, rfl, hT⟩⟩
            · intro k s21 f22 hT h a hW hx hF
              exact c_out (rfl) hW hx hF hT
          · replace hT := hT.2 c
            refine x_iconst (v := 0) dX7_drop_47 rfl ?_
            refine x_goto (tgt := 52) dX7_drop_48 rfl ?_
            refine x_lconst (v := 0) dX7_drop_52 rfl ?_
            refine x_lload dX7_drop_53 rfl ?_
            refine x_mmaxL dX7_drop_55 q1872 q1873 q181 mq_maxL (Nat.le_of_ble_eq_true rfl) rfl ?_
            refine x_l2i dX7_drop_58 ?_
            refine x_iload_n dX7_drop_59 rfl rfl ?_
            obtain ⟨-, -, cc, hcc, -⟩ := hW.ob 7 (by decide)
            refine c_invV (vs := [.ref a1, .int 0, .int (if y17 < 0 then 0 else y17).toInt32, .int x3]) dX7_drop_60 oX7_stretch q1864 q1862 hcc qs50 (Or.inl rfl) rfl rfl (Nat.le_of_ble_eq_true rfl) rfl hW hF hT ?_ ?_
            · intro _ s24 f25 hT h hW hF
              obtain ⟨a26, rfl, hT⟩ := hT
              exact x_aret dX7_drop_63 rfl (by first | exact Or.inl ⟨_, rfl⟩ | exact Or.inr ⟨_, rfl⟩) rfl ⟨_, _, hW, hF, Or.inl ⟨_, rfl, hT⟩⟩
            · intro k s24 f25 hT h a hW hx hF
              exact c_out (rfl) hW hx hF hT
    have kt : ∀ k s4 f5, P28 (.inr k) s4 f5 → ∀ h a, CW E w s4 f5 h → xA w h k a → Frz f0 f5 → ExT l E (d + 1) MX7_drop 15 [some (.ref (w.1 7)), some (.int x1), some (.ref a1), some (.int x3), none, none] [] a h (PoC E w f0 Q) := by
      intro k s4 f5 h0 h a hW hx hF
      have hT := hP _ _ _ h0
      clear h0
      exact c_out (rfl) hW hx hF hT
    obtain ⟨cc, hcc⟩ := hW.ocell hc
    rcases hT with ⟨rfl, hT⟩ | ⟨rfl, hT⟩ | ⟨rfl, hT⟩ | ⟨rfl, hT⟩
    · exact c_invV (vs := []) dX7_drop_15 oX32_size q1454 q1746 hcc q1453 (Or.inr hy_Thing_size) rfl rfl (Nat.le_of_ble_eq_true rfl) rfl hW hF hT kr kt
    · exact c_invV (vs := []) dX7_drop_15 oX33_size q1457 q1746 hcc q1456 (Or.inr hy_Thing_size) rfl rfl (Nat.le_of_ble_eq_true rfl) rfl hW hF hT kr kt
    · exact c_invV (vs := []) dX7_drop_15 oX34_size q1451 q1746 hcc q1450 (Or.inr hy_Thing_size) rfl rfl (Nat.le_of_ble_eq_true rfl) rfl hW hF hT kr kt
    · exact c_invV (vs := []) dX7_drop_15 oX35_size q1460 q1746 hcc q1459 (Or.inr hy_Thing_size) rfl rfl (Nat.le_of_ble_eq_true rfl) rfl hW hF hT kr kt
  · subst e
    replace hT := hT.1 rfl
    refine x_aload_n dX7_drop_4 rfl rfl rfl ?_
    refine c_getO dX7_drop_5 f_TallySlate_Works_9 (by decide) (by decide) rfl hW ?_
    refine x_iconst (v := 3) dX7_drop_8 rfl ?_
    refine x_iload_n dX7_drop_9 rfl rfl ?_
    obtain ⟨-, -, cc, hcc, -⟩ := hW.ob 3 (by decide)
    refine c_invV (vs := [.int 3, .int x3]) dX7_drop_10 oX3_wrong q1323 q1745 hcc q1324 (Or.inl rfl) rfl rfl (Nat.le_of_ble_eq_true rfl) rfl hW hF hT ?_ ?_
    · intro _ s2 f3 hT h hW hF
      obtain ⟨rfl, hT⟩ := hT
      refine x_athrow dX7_drop_13 ?_
      exact c_out (rfl) hW (Or.inl ⟨rfl, rfl⟩) hF hT
    · intro k s2 f3 hT h a hW hx hF
      exact c_out (rfl) hW hx hF hT
theorem eX7_drop {l : Launch} {E : EN} {w : CO} {d : Nat} {s : CS} {f : RH} {Q : KO → CS → RH → Prop} {x1 : Int32} {x2 : Value} {x3 : Int32} (ix2 : isR x2 = true) (hst : l.stackTraces = false) (hT : ((x2 = .null → (EvC l E w d MX3_wrong [.ref (w.1 3), .int 3, .int x3] s f (fun o s2 f3 => KP o (fun r => r = some (.ref (w.1 9)) ∧ Q (.inr 9) s2 f3) (fun k => Q (.inr k) s2 f3)))) ∧ (∀ a1 : Nat, x2 = .ref a1 → (∃ P28 : KO → CS → RH → Prop, (∀ o s4 f5, P28 o s4 f5 → KP o (fun r => ∃ v6 : Int32, r = some (.int v6) ∧ ((0 ≤ x1 → (∀ y7 : Int64, y7 = (v6.toInt64 - x1.toInt64) → (((lg_cmp y7 0) ≤ 0 → (EvC l E w d MX7_stretch [.ref (w.1 7), .ref a1, .int 0, .int (if y7 < 0 then 0 else y7).toInt32, .int x3] s4 f5 (fun o s8 f9 => KP o (fun r => ∃ a10 : Nat, r = some (.ref a10) ∧ Q (.inl (some (.ref a10))) s8 f9) (fun k => Q (.inr k) s8 f9)))) ∧ (¬ (lg_cmp y7 0) ≤ 0 → ((0 ≤ x1 → (EvC l E w d MX7_stretch [.ref (w.1 7), .ref a1, .int x1, .int (if y7 < 0 then 0 else y7).toInt32, .int x3] s4 f5 (fun o s11 f12 => KP o (fun r => ∃ a13 : Nat, r = some (.ref a13) ∧ Q (.inl (some (.ref a13))) s11 f12) (fun k => Q (.inr k) s11 f12)))) ∧ (¬ 0 ≤ x1 → (EvC l E w d MX7_stretch [.ref (w.1 7), .ref a1, .int 0, .int (if y7 < 0 then 0 else y7).toInt32, .int x3] s4 f5 (fun o s14 f15 => KP o (fun r => ∃ a16 : Nat, r = some (.ref a16) ∧ Q (.inl (some (.ref a16))) s14 f15) (fun k => Q (.inr k) s14 f15))))))))) ∧ (¬ 0 ≤ x1 → (∀ y17 : Int64, y17 = (v6.toInt64 - (-x1.toInt64)) → (((lg_cmp y17 0) ≤ 0 → (EvC l E w d MX7_stretch [.ref (w.1 7), .ref a1, .int 0, .int (if y17 < 0 then 0 else y17).toInt32, .int x3] s4 f5 (fun o s18 f19 => KP o (fun r => ∃ a20 : Nat, r = some (.ref a20) ∧ Q (.inl (some (.ref a20))) s18 f19) (fun k => Q (.inr k) s18 f19)))) ∧ (¬ (lg_cmp y17 0) ≤ 0 → ((0 ≤ x1 → (EvC l E w d MX7_stretch [.ref (w.1 7), .ref a1, .int x1, .int (if y17 < 0 then 0 else y17).toInt32, .int x3] s4 f5 (fun o s21 f22 => KP o (fun r => ∃ a23 : Nat, r = some (.ref a23) ∧ Q (.inl (some (.ref a23))) s21 f22) (fun k => Q (.inr k) s21 f22)))) ∧ (¬ 0 ≤ x1 → (EvC l E w d MX7_stretch [.ref (w.1 7), .ref a1, .int 0, .int (if y17 < 0 then 0 else y17).toInt32, .int x3] s4 f5 (fun o s24 f25 => KP o (fun r => ∃ a26 : Nat, r = some (.ref a26) ∧ Q (.inl (some (.ref a26))) s24 f25) (fun k => Q (.inr k) s24 f25))))))))))) (fun k => Q (.inr k) s4 f5)) ∧ ∃ k27 : Nat, oc f a1 k27 ∧ ((k27 = 29 ∧ EvC l E w d MX32_size [.ref a1] s f P28) ∨ (k27 = 30 ∧ EvC l E w d MX33_size [.ref a1] s f P28) ∨ (k27 = 31 ∧ EvC l E w d MX34_size [.ref a1] s f P28) ∨ (k27 = 32 ∧ EvC l E w d MX35_size [.ref a1] s f P28)))))) : EvC l E w (d + 1) MX7_drop [.ref (w.1 7), .int x1, x2, .int x3] s f Q :=by
  rcases isR_cases ix2 with rfl | ⟨_, rfl⟩ <;> exact
  
  EvC.of hst (by decide) (Nat.le_of_ble_eq_true rfl) (vX7_drop_0 ix2 hT)
set_option maxHeartbeats 16000000 in
theorem vX7_pick_0 {l : Launch} {E : EN} {w : CO} {d : Nat} {s : CS} {f : RH} {Q : KO → CS → RH → Prop} {x1 : Value} {x2 : Int32} {x3 : Int32} (ix1 : isR x1 = true) (hT : (EvC l E w d MX3_asRow [.ref (w.1 3), .int x2, .int x3] s f (fun o s1 f2 => KP o (fun r => ∃ a3 : Nat, r = some (.ref a3) ∧ (oc f2 a3 29 ∧ (∃ a4 : Nat, vl f2 a3 203 = .ref a4 ∧ ((x1 = .null → (EvC l E w d MX3_wrong [.ref (w.1 3), .int 3, .int x3] s1 f2 (fun o s6 f7 => KP o (fun r => r = some (.ref (w.1 9)) ∧ Q (.inr 9) s6 f7) (fun k => Q (.inr k) s6 f7)))) ∧ (∀ a5 : Nat, x1 = .ref a5 → (∃ t8 : Nat, tg f2 a4 = some (.inr t8) ∧ (∃ P15 : KO → CS → RH → Prop, (∀ o s9 f10, P15 o s9 f10 → KP o (fun r => ∃ v11 : Int32, r = some (.int v11) ∧ (((nI (ln f2 a4)) = v11 → ExC l E w (d + 1) MX7_pick 54 [some (.ref (w.1 7)), some (.ref a5), none, some (.int x3), some (.ref a4), some (.int 0), some (.int 0), none] [] s9 f10 Q) ∧ (¬ (nI (ln f2 a4)) = v11 → (EvC l E w d MX3_wrong [.ref (w.1 3), .int 4, .int x3] s9 f10 (fun o s12 f13 => KP o (fun r => r = some (.ref (w.1 9)) ∧ Q (.inr 9) s12 f13) (fun k => Q (.inr k) s12 f13)))))) (fun k => Q (.inr k) s9 f10)) ∧ ∃ k14 : Nat, oc f2 a5 k14 ∧ ((k14 = 29 ∧ EvC l E w d MX32_size [.ref a5] s1 f2 P15) ∨ (k14 = 30 ∧ EvC l E w d MX33_size [.ref a5] s1 f2 P15) ∨ (k14 = 31 ∧ EvC l E w d MX34_size [.ref a5] s1 f2 P15) ∨ (k14 = 32 ∧ EvC l E w d MX35_size [.ref a5] s1 f2 P15))))))))) (fun k => Q (.inr k) s1 f2)))) : ExC l E w (d + 1) MX7_pick 0 [some (.ref (w.1 7)), some (x1), some (.int x2), some (.int x3), none, none, none, none] [] s f Q := by
  intro f0 h hW hF
  refine x_aload_n dX7_pick_0 rfl rfl rfl ?_
  refine c_getO dX7_pick_1 f_TallySlate_Works_9 (by decide) (by decide) rfl hW ?_
  refine x_iload_n dX7_pick_4 rfl rfl ?_
  refine x_iload_n dX7_pick_5 rfl rfl ?_
  obtain ⟨-, -, cc, hcc, -⟩ := hW.ob 3 (by decide)
  refine c_invV (vs := [.int x2, .int x3]) dX7_pick_6 oX3_asRow q1731 q1803 hcc q1732 (Or.inl rfl) rfl rfl (Nat.le_of_ble_eq_true rfl) rfl hW hF hT ?_ ?_
  · intro _ s1 f2 hT h hW hF
    obtain ⟨a3, rfl, hT⟩ := hT
    obtain ⟨hc, hT⟩ := hT
    obtain ⟨a4, ev, hT⟩ := hT
    refine c_fgetG dX7_pick_9 f_TallySlate_Works_66 hc (by decide) (by decide) hW ev ?_
    refine x_astore (lo' := [some (.ref (w.1 7)), some (x1), some (.int x2), some (.int x3), some (.ref a4), none, none, none]) dX7_pick_12 (Nat.le_of_ble_eq_true rfl) rfl rfl ?_
    refine x_aload_n dX7_pick_14 rfl rfl ix1 ?_
    refine x_ifnonnull (tgt := 28) dX7_pick_15 rfl ix1 (fun a5 e => ?_) (fun e => ?_)
    · subst e
      replace hT := hT.2 a5 rfl
      refine x_aload dX7_pick_28 rfl rfl ?_
      obtain ⟨t8, hc, hT⟩ := hT
      refine c_alen dX7_pick_30 hc hW ?_
      refine x_aload_n dX7_pick_31 rfl rfl rfl ?_
      obtain ⟨P15, hP, k14, hc, hT⟩ := hT
      have kr : ∀ r s9 f10, P15 (.inl r) s9 f10 → ∀ h, CW E w s9 f10 h → Frz f0 f10 → Ex l E (d + 1) MX7_pick (32 + 3) [some (.ref (w.1 7)), some (.ref a5), some (.int x2), some (.int x3), some (.ref a4), none, none, none] (r.toList ++ [.int (nI (ln f2 a4))]) h (PoC E w f0 Q) := by
        intro r s9 f10 h0 h hW hF
        have hT := hP _ _ _ h0
        clear h0
        obtain ⟨v11, rfl, hT⟩ := hT
        refine x_icmp_eq (tgt := 48) dX7_pick_35 rfl (fun c => ?_) (fun c => ?_)
        · replace hT := hT.1 c
          refine x_iconst (v := 0) dX7_pick_48 rfl ?_
          refine x_istore (lo' := [some (.ref (w.1 7)), some (.ref a5), some (.int x2), some (.int x3), some (.ref a4), some (.int 0), none, none]) dX7_pick_49 (Nat.le_of_ble_eq_true rfl) rfl ?_
          refine x_iconst (v := 0) dX7_pick_51 rfl ?_
          refine x_istore (lo' := [some (.ref (w.1 7)), some (.ref a5), some (.int x2), some (.int x3), some (.ref a4), some (.int 0), some (.int 0), none]) dX7_pick_52 (Nat.le_of_ble_eq_true rfl) rfl ?_
          refine Ex.wkl (lo' := [some (.ref (w.1 7)), some (.ref a5), none, some (.int x3), some (.ref a4), some (.int 0), some (.int 0), none]) ⟨rfl, rfl, rfl, rfl, rfl, rfl, trivial⟩ ?_
          exact hT f0 h hW hF
        · replace hT := hT.2 c
          refine x_aload_n dX7_pick_38 rfl rfl rfl ?_
          refine c_getO dX7_pick_39 f_TallySlate_Works_9 (by decide) (by decide) rfl hW ?_
          refine x_iconst (v := 4) dX7_pick_42 rfl ?_
          refine x_iload_n dX7_pick_43 rfl rfl ?_
          obtain ⟨-, -, cc, hcc, -⟩ := hW.ob 3 (by decide)
          refine c_invV (vs := [.int 4, .int x3]) dX7_pick_44 oX3_wrong q1323 q1745 hcc q1324 (Or.inl rfl) rfl rfl (Nat.le_of_ble_eq_true rfl) rfl hW hF hT ?_ ?_
          · intro _ s12 f13 hT h hW hF
            obtain ⟨rfl, hT⟩ := hT
            refine x_athrow dX7_pick_47 ?_
            exact c_out (rfl) hW (Or.inl ⟨rfl, rfl⟩) hF hT
          · intro k s12 f13 hT h a hW hx hF
            exact c_out (rfl) hW hx hF hT
      have kt : ∀ k s9 f10, P15 (.inr k) s9 f10 → ∀ h a, CW E w s9 f10 h → xA w h k a → Frz f0 f10 → ExT l E (d + 1) MX7_pick 32 [some (.ref (w.1 7)), some (.ref a5), some (.int x2), some (.int x3), some (.ref a4), none, none, none] [.int (nI (ln f2 a4))] a h (PoC E w f0 Q) := by
        intro k s9 f10 h0 h a hW hx hF
        have hT := hP _ _ _ h0
        clear h0
        exact c_out (rfl) hW hx hF hT
      obtain ⟨cc, hcc⟩ := hW.ocell hc
      rcases hT with ⟨rfl, hT⟩ | ⟨rfl, hT⟩ | ⟨rfl, hT⟩ | ⟨rfl, hT⟩
      · exact c_invV (vs := []) dX7_pick_32 oX32_size q1454 q1746 hcc q1453 (Or.inr hy_Thing_size) rfl rfl (Nat.le_of_ble_eq_true rfl) rfl hW hF hT kr kt
      · exact c_invV (vs := []) dX7_pick_32 oX33_size q1457 q1746 hcc q1456 (Or.inr hy_Thing_size) rfl rfl (Nat.le_of_ble_eq_true rfl) rfl hW hF hT kr kt
      · exact c_invV (vs := []) dX7_pick_32 oX34_size q1451 q1746 hcc q1450 (Or.inr hy_Thing_size) rfl rfl (Nat.le_of_ble_eq_true rfl) rfl hW hF hT kr kt
      · exact c_invV (vs := []) dX7_pick_32 oX35_size q1460 q1746 hcc q1459 (Or.inr hy_Thing_size) rfl rfl (Nat.le_of_ble_eq_true rfl) rfl hW hF hT kr kt
    · subst e
      replace hT := hT.1 rfl
      refine x_aload_n dX7_pick_18 rfl rfl rfl ?_
      refine c_getO dX7_pick_19 f_TallySlate_Works_9 (by decide) (by decide) rfl hW ?_
      refine x_iconst (v := 3) dX7_pick_22 rfl ?_
      refine x_iload_n dX7_pick_23 rfl rfl ?_
      obtain ⟨-, -, cc, hcc, -⟩ := hW.ob 3 (by decide)
      refine c_invV (vs := [.int 3, .int x3]) dX7_pick_24 oX3_wrong q1323 q1745 hcc q1324 (Or.inl rfl) rfl rfl (Nat.le_of_ble_eq_true rfl) rfl hW hF hT ?_ ?_
      · intro _ s6 f7 hT h hW hF
        obtain ⟨rfl, hT⟩ := hT
        refine x_athrow dX7_pick_27 ?_
        exact c_out (rfl) hW (Or.inl ⟨rfl, rfl⟩) hF hT
      · intro k s6 f7 hT h a hW hx hF
        exact c_out (rfl) hW hx hF hT
  · intro k s1 f2 hT h a hW hx hF
    exact c_out (rfl) hW hx hF hT
theorem eX7_pick {l : Launch} {E : EN} {w : CO} {d : Nat} {s : CS} {f : RH} {Q : KO → CS → RH → Prop} {x1 : Value} {x2 : Int32} {x3 : Int32} (ix1 : isR x1 = true) (hst : l.stackTraces = false) (hT : (EvC l E w d MX3_asRow [.ref (w.1 3), .int x2, .int x3] s f (fun o s1 f2 => KP o (fun r => ∃ a3 : Nat, r = some (.ref a3) ∧ (oc f2 a3 29 ∧ (∃ a4 : Nat, vl f2 a3 203 = .ref a4 ∧ ((x1 = .null → (EvC l E w d MX3_wrong [.ref (w.1 3), .int 3, .int x3] s1 f2 (fun o s6 f7 => KP o (fun r => r = some (.ref (w.1 9)) ∧ Q (.inr 9) s6 f7) (fun k => Q (.inr k) s6 f7)))) ∧ (∀ a5 : Nat, x1 = .ref a5 → (∃ t8 : Nat, tg f2 a4 = some (.inr t8) ∧ (∃ P15 : KO → CS → RH → Prop, (∀ o s9 f10, P15 o s9 f10 → KP o (fun r => ∃ v11 : Int32, r = some (.int v11) ∧ (((nI (ln f2 a4)) = v11 → ExC l E w (d + 1) MX7_pick 54 [some (.ref (w.1 7)), some (.ref a5), none, some (.int x3), some (.ref a4), some (.int 0), some (.int 0), none] [] s9 f10 Q) ∧ (¬ (nI (ln f2 a4)) = v11 → (EvC l E w d MX3_wrong [.ref (w.1 3), .int 4, .int x3] s9 f10 (fun o s12 f13 => KP o (fun r => r = some (.ref (w.1 9)) ∧ Q (.inr 9) s12 f13) (fun k => Q (.inr k) s12 f13)))))) (fun k => Q (.inr k) s9 f10)) ∧ ∃ k14 : Nat, oc f2 a5 k14 ∧ ((k14 = 29 ∧ EvC l E w d MX32_size [.ref a5] s1 f2 P15) ∨ (k14 = 30 ∧ EvC l E w d MX33_size [.ref a5] s1 f2 P15) ∨ (k14 = 31 ∧ EvC l E w d MX34_size [.ref a5] s1 f2 P15) ∨ (k14 = 32 ∧ EvC l E w d MX35_size [.ref a5] s1 f2 P15))))))))) (fun k => Q (.inr k) s1 f2)))) : EvC l E w (d + 1) MX7_pick [.ref (w.1 7), x1, .int x2, .int x3] s f Q :=by
  rcases isR_cases ix1 with rfl | ⟨_, rfl⟩ <;> exact
  
  EvC.of hst (by decide) (Nat.le_of_ble_eq_true rfl) (vX7_pick_0 ix1 hT)
theorem vX7_pick_54 {l : Launch} {E : EN} {w : CO} {d : Nat} {s : CS} {f : RH} {Q : KO → CS → RH → Prop} {b1 : Nat} {b3 : Int32} {b4 : Nat} {b5 : Int32} {b6 : Int32}  (hT : (∃ t16 : Nat, tg f b4 = some (.inr t16) ∧ (((nI (ln f b4)) ≤ b6 → (¬ b5 < 0 ∧ b5.toNatClampNeg ≤ 60000000 ∧ rmF E f 1 b5.toNatClampNeg ∧ ∀ (a17 : Nat) (f18 : RH), a17 = f.1 → f18 = fnewA f 0 b5.toNatClampNeg → ExC l E w (d + 1) MX7_pick 98 [some (.ref (w.1 7)), some (.ref b1), none, some (.int b3), some (.ref b4), some (.int 0), some (.ref a17), some (.int 0)] [] s f18 Q)) ∧ (¬ (nI (ln f b4)) ≤ b6 → (tg f b4 = some (.inr 0) ∧ inB b6 (ln f b4) ∧ (∃ v19 : Int32, vl f b4 b6.toNatClampNeg = .int v19 ∧ ((v19 = 0 → (∀ y20 : Int32, y20 = (b5 + 0) → ExC l E w (d + 1) MX7_pick 54 [some (.ref (w.1 7)), some (.ref b1), none, some (.int b3), some (.ref b4), some (.int y20), some (.int (b6 + 1)), none] [] s f Q)) ∧ (¬ v19 = 0 → (∀ y21 : Int32, y21 = (b5 + 1) → ExC l E w (d + 1) MX7_pick 54 [some (.ref (w.1 7)), some (.ref b1), none, some (.int b3), some (.ref b4), some (.int y21), some (.int (b6 + 1)), none] [] s f Q))))))))) : ExC l E w (d + 1) MX7_pick 54 [some (.ref (w.1 7)), some (.ref b1), none, some (.int b3), some (.ref b4), some (.int b5), some (.int b6), none] [] s f Q := by
  intro f0 h hW hF
  refine x_iload dX7_pick_54 rfl ?_
  refine x_aload dX7_pick_56 rfl rfl ?_
  obtain ⟨t16, hc, hT⟩ := hT
  refine c_alen dX7_pick_58 hc hW ?_
  refine x_icmp_ge (tgt := 86) dX7_pick_59 rfl (fun c => ?_) (fun c => ?_)
  · replace hT := hT.1 c
    refine x_iload dX7_pick_86 rfl ?_
    obtain ⟨hn, hT⟩ := hT
    obtain ⟨hb, hr, hT⟩ := hT
    refine c_newarrayG (t := 0) dX7_pick_88 (by decide) rfl hn hb hr hW hF ?_
    intro a17 f18 ea17 ef18 h hW hF
    replace hT := hT a17 f18 ea17 ef18
    refine x_astore (lo' := [some (.ref (w.1 7)), some (.ref b1), none, some (.int b3), some (.ref b4), some (.int b5), some (.ref a17), none]) dX7_pick_90 (Nat.le_of_ble_eq_true rfl) rfl rfl ?_
    refine x_iconst (v := 0) dX7_pick_92 rfl ?_
    refine x_istore (lo' := [some (.ref (w.1 7)), some (.ref b1), none, some (.int b3), some (.ref b4), some (.int 0), some (.ref a17), none]) dX7_pick_93 (Nat.le_of_ble_eq_true rfl) rfl ?_
    refine x_iconst (v := 0) dX7_pick_95 rfl ?_
    refine x_istore (lo' := [some (.ref (w.1 7)), some (.ref b1), none, some (.int b3), some (.ref b4), some (.int 0), some (.ref a17), some (.int 0)]) dX7_pick_96 (Nat.le_of_ble_eq_true rfl) rfl ?_
    exact hT f0 h hW hF
  · replace hT := hT.2 c
    refine x_iload dX7_pick_62 rfl ?_
    refine x_aload dX7_pick_64 rfl rfl ?_
    refine x_iload dX7_pick_66 rfl ?_
    obtain ⟨hc, hT⟩ := hT
    obtain ⟨hb, hT⟩ := hT
    obtain ⟨v19, ev, hT⟩ := hT
    refine c_fiald dX7_pick_68 hc hb hW ev ?_
    refine x_if_eq (tgt := 76) dX7_pick_69 rfl (fun c => ?_) (fun c => ?_)
    · replace hT := hT.1 c
      refine x_iconst (v := 0) dX7_pick_76 rfl ?_
      refine x_iadd dX7_pick_77 ?_
      obtain ⟨y20, ey20⟩ : ∃ z : Int32, z = (b5 + 0) := ⟨_, rfl⟩
      replace hT := hT y20 ey20
      refine x_istore (lo' := [some (.ref (w.1 7)), some (.ref b1), none, some (.int b3), some (.ref b4), some (.int y20), some (.int b6), none]) dX7_pick_78 (Nat.le_of_ble_eq_true rfl) (by rw [ey20]; exact rfl) ?_
      refine x_iinc (lo' := [some (.ref (w.1 7)), some (.ref b1), none, some (.int b3), some (.ref b4), some (.int y20), some (.int (b6 + 1)), none]) dX7_pick_80 rfl (show _ = (b6 + 1) from rfl) rfl ?_
      refine x_goto (tgt := 54) dX7_pick_83 rfl ?_
      exact hT f0 h hW hF
    · replace hT := hT.2 c
      refine x_iconst (v := 1) dX7_pick_72 rfl ?_
      refine x_goto (tgt := 77) dX7_pick_73 rfl ?_
      refine x_iadd dX7_pick_77 ?_
      obtain ⟨y21, ey21⟩ : ∃ z : Int32, z = (b5 + 1) := ⟨_, rfl⟩
      replace hT := hT y21 ey21
      refine x_istore (lo' := [some (.ref (w.1 7)), some (.ref b1), none, some (.int b3), some (.ref b4), some (.int y21), some (.int b6), none]) dX7_pick_78 (Nat.le_of_ble_eq_true rfl) (by rw [ey21]; exact rfl) ?_
      refine x_iinc (lo' := [some (.ref (w.1 7)), some (.ref b1), none, some (.int b3), some (.ref b4), some (.int y21), some (.int (b6 + 1)), none]) dX7_pick_80 rfl (show _ = (b6 + 1) from rfl) rfl ?_
      refine x_goto (tgt := 54) dX7_pick_83 rfl ?_
      exact hT f0 h hW hF
theorem vX7_pick_98 {l : Launch} {E : EN} {w : CO} {d : Nat} {s : CS} {f : RH} {Q : KO → CS → RH → Prop} {b1 : Nat} {b3 : Int32} {b4 : Nat} {b5 : Int32} {b6 : Nat} {b7 : Int32}  (hT : (∃ t22 : Nat, tg f b4 = some (.inr t22) ∧ (((nI (ln f b4)) ≤ b7 → (EvC l E w d MX6_some [.ref (w.1 6), .ref b1, .ref b6, .int b3] s f (fun o s23 f24 => KP o (fun r => ∃ a25 : Nat, r = some (.ref a25) ∧ Q (.inl (some (.ref a25))) s23 f24) (fun k => Q (.inr k) s23 f24)))) ∧ (¬ (nI (ln f b4)) ≤ b7 → (tg f b4 = some (.inr 0) ∧ inB b7 (ln f b4) ∧ (∃ v26 : Int32, vl f b4 b7.toNatClampNeg = .int v26 ∧ ((¬ v26 = 0 → (tg f b6 = some (.inr 0) ∧ inB b5 (ln f b6) ∧ f.2.2.2 ≤ b6 ∧ ∀ f27 : RH, f27 = fset f b6 b5.toNatClampNeg (.int b7) → ExC l E w (d + 1) MX7_pick 98 [some (.ref (w.1 7)), some (.ref b1), none, some (.int b3), some (.ref b4), some (.int (b5 + 1)), some (.ref b6), some (.int (b7 + 1))] [] s f27 Q)) ∧ (v26 = 0 → ExC l E w (d + 1) MX7_pick 98 [some (.ref (w.1 7)), some (.ref b1), none, some (.int b3), some (.ref b4), some (.int b5), some (.ref b6), some (.int (b7 + 1))] [] s f Q)))))))) : ExC l E w (d + 1) MX7_pick 98 [some (.ref (w.1 7)), some (.ref b1), none, some (.int b3), some (.ref b4), some (.int b5), some (.ref b6), some (.int b7)] [] s f Q := by
  intro f0 h hW hF
  refine x_iload dX7_pick_98 rfl ?_
  refine x_aload dX7_pick_100 rfl rfl ?_
  obtain ⟨t22, hc, hT⟩ := hT
  refine c_alen dX7_pick_102 hc hW ?_
  refine x_icmp_ge (tgt := 133) dX7_pick_103 rfl (fun c => ?_) (fun c => ?_)
  · replace hT := hT.1 c
    refine x_aload_n dX7_pick_133 rfl rfl rfl ?_
    refine c_getO dX7_pick_134 f_TallySlate_Works_9 (by decide) (by decide) rfl hW ?_
    refine c_getO dX7_pick_137 f_TallySlate_Works_177 (by decide) (by decide) rfl hW ?_
    refine x_aload_n dX7_pick_140 rfl rfl rfl ?_
    refine x_aload dX7_pick_141 rfl rfl ?_
    refine x_iload_n dX7_pick_143 rfl rfl ?_
    obtain ⟨-, -, cc, hcc, -⟩ := hW.ob 6 (by decide)
    refine c_invV (vs := [.ref b1, .ref b6, .int b3]) dX7_pick_144 oX6_some q1537 q1883 hcc q1538 (Or.inl rfl) rfl rfl (Nat.le_of_ble_eq_true rfl) rfl hW hF hT ?_ ?_
    · intro _ s23 f24 hT h hW hF
      obtain ⟨a25, rfl, hT⟩ := hT
      exact x_aret dX7_pick_147 rfl (by first | exact Or.inl ⟨_, rfl⟩ | exact Or.inr ⟨_, rfl⟩) rfl ⟨_, _, hW, hF, Or.inl ⟨_, rfl, hT⟩⟩
    · intro k s23 f24 hT h a hW hx hF
      exact c_out (rfl) hW hx hF hT
  · replace hT := hT.2 c
    refine x_aload dX7_pick_106 rfl rfl ?_
    refine x_iload dX7_pick_108 rfl ?_
    obtain ⟨hc, hT⟩ := hT
    obtain ⟨hb, hT⟩ := hT
    obtain ⟨v26, ev, hT⟩ := hT
    refine c_fiald dX7_pick_110 hc hb hW ev ?_
    refine x_if_ne (tgt := 117) dX7_pick_111 rfl (fun c => ?_) (fun c => ?_)
    · replace hT := hT.1 c
      refine x_aload dX7_pick_117 rfl rfl ?_
      refine x_iload dX7_pick_119 rfl ?_
      refine x_iload dX7_pick_121 rfl ?_
      obtain ⟨hc, hT⟩ := hT
      obtain ⟨hb, hz, hT⟩ := hT
      refine c_fiastG dX7_pick_123 hc hb hz hW hF ?_
      intro f27 ef27 h hW hF
      replace hT := hT f27 ef27
      refine x_iinc (lo' := [some (.ref (w.1 7)), some (.ref b1), none, some (.int b3), some (.ref b4), some (.int (b5 + 1)), some (.ref b6), some (.int b7)]) dX7_pick_124 rfl (show _ = (b5 + 1) from rfl) rfl ?_
      refine x_iinc (lo' := [some (.ref (w.1 7)), some (.ref b1), none, some (.int b3), some (.ref b4), some (.int (b5 + 1)), some (.ref b6), some (.int (b7 + 1))]) dX7_pick_127 rfl (show _ = (b7 + 1) from rfl) rfl ?_
      refine x_goto (tgt := 98) dX7_pick_130 rfl ?_
      exact hT f0 h hW hF
    · replace hT := hT.2 c
      refine x_goto (tgt := 127) dX7_pick_114 rfl ?_
      refine x_iinc (lo' := [some (.ref (w.1 7)), some (.ref b1), none, some (.int b3), some (.ref b4), some (.int b5), some (.ref b6), some (.int (b7 + 1))]) dX7_pick_127 rfl (show _ = (b7 + 1) from rfl) rfl ?_
      refine x_goto (tgt := 98) dX7_pick_130 rfl ?_
      exact hT f0 h hW hF
set_option maxHeartbeats 16000000 in
theorem vX7_find_0 {l : Launch} {E : EN} {w : CO} {d : Nat} {s : CS} {f : RH} {Q : KO → CS → RH → Prop} {x1 : Nat} {x2 : Value} {x3 : Int32} (ix2 : isR x2 = true) (hT : (∀ y1 : Int32, y1 = ((s.1 26) - 1) → ((x2 = .null → (inB y1 8400 ∧ (EvC l E w d MX7_placeOf [.ref x1, .int (s.2.2.1 24 y1.toNatClampNeg)] s f (fun o s3 f4 => KP o (fun r => ∃ v5 : Int32, r = some (.int v5) ∧ (EvC l E w d MX3_give [.ref (w.1 3), .int v5, .int 2] s3 f4 (fun o s6 f7 => KP o (fun r => r = none ∧ Q (.inl none) s6 f7) (fun k => Q (.inr k) s6 f7)))) (fun k => Q (.inr k) s3 f4))))) ∧ (∀ a2 : Nat, x2 = .ref a2 → (EvC l E w d MX3_asRow [.ref (w.1 3), .int y1, .int x3] s f (fun o s8 f9 => KP o (fun r => ∃ a10 : Nat, r = some (.ref a10) ∧ (oc f9 a10 29 ∧ (∃ a11 : Nat, vl f9 a10 203 = .ref a11 ∧ (∃ t12 : Nat, tg f9 a11 = some (.inr t12) ∧ (¬ (nI (ln f9 a11)) < 0 ∧ (nI (ln f9 a11)).toNatClampNeg ≤ 60000000 ∧ rmF E f9 1 (nI (ln f9 a11)).toNatClampNeg ∧ ∀ (a13 : Nat) (f14 : RH), a13 = f9.1 → f14 = fnewA f9 0 (nI (ln f9 a11)).toNatClampNeg → ExC l E w (d + 1) MX7_find 63 [some (.ref (w.1 7)), some (.ref x1), none, some (.int x3), none, some (.ref a11), some (.ref a13), some (.int 0)] [] s8 f14 Q))))) (fun k => Q (.inr k) s8 f9))))))) : ExC l E w (d + 1) MX7_find 0 [some (.ref (w.1 7)), some (.ref x1), some (x2), some (.int x3), none, none, none, none] [] s f Q := by
  intro f0 h hW hF
  refine x_aload_n dX7_find_0 rfl rfl rfl ?_
  refine c_getO dX7_find_1 f_TallySlate_Works_9 (by decide) (by decide) rfl hW ?_
  refine c_getI (v := (s.1 26)) dX7_find_4 f_TallySlate_Works_15 (by decide) (by decide) rfl hW rfl ?_
  refine x_iconst (v := 1) dX7_find_7 rfl ?_
  refine x_isub dX7_find_8 ?_
  obtain ⟨y1, ey1⟩ : ∃ z : Int32, z = ((s.1 26) - 1) := ⟨_, rfl⟩
  replace hT := hT y1 ey1
  refine x_istore (lo' := [some (.ref (w.1 7)), some (.ref x1), some (x2), some (.int x3), some (.int y1), none, none, none]) dX7_find_9 (Nat.le_of_ble_eq_true rfl) (by rw [ey1]; exact rfl) ?_
  refine x_aload_n dX7_find_11 rfl rfl ix2 ?_
  refine x_ifnonnull (tgt := 38) dX7_find_12 rfl ix2 (fun a2 e => ?_) (fun e => ?_)
  · subst e
    replace hT := hT.2 a2 rfl
    refine x_aload_n dX7_find_38 rfl rfl rfl ?_
    refine c_getO dX7_find_39 f_TallySlate_Works_9 (by decide) (by decide) rfl hW ?_
    refine x_iload dX7_find_42 rfl ?_
    refine x_iload_n dX7_find_44 rfl rfl ?_
    obtain ⟨-, -, cc, hcc, -⟩ := hW.ob 3 (by decide)
    refine c_invV (vs := [.int y1, .int x3]) dX7_find_45 oX3_asRow q1731 q1803 hcc q1732 (Or.inl rfl) rfl rfl (Nat.le_of_ble_eq_true rfl) rfl hW hF hT ?_ ?_
    · intro _ s8 f9 hT h hW hF
      obtain ⟨a10, rfl, hT⟩ := hT
      obtain ⟨hc, hT⟩ := hT
      obtain ⟨a11, ev, hT⟩ := hT
      refine c_fgetG dX7_find_48 f_TallySlate_Works_66 hc (by decide) (by decide) hW ev ?_
      refine x_astore (lo' := [some (.ref (w.1 7)), some (.ref x1), some (.ref a2), some (.int x3), some (.int y1), some (.ref a11), none, none]) dX7_find_51 (Nat.le_of_ble_eq_true rfl) rfl rfl ?_
      refine x_aload dX7_find_53 rfl rfl ?_
      obtain ⟨t12, hc, hT⟩ := hT
      refine c_alen dX7_find_55 hc hW ?_
      obtain ⟨hn, hT⟩ := hT
      obtain ⟨hb, hr, hT⟩ := hT
      refine c_newarrayG (t := 0) dX7_find_56 (by decide) rfl hn hb hr hW hF ?_
      intro a13 f14 ea13 ef14 h hW hF
      replace hT := hT a13 f14 ea13 ef14
      refine x_astore (lo' := [some (.ref (w.1 7)), some (.ref x1), some (.ref a2), some (.int x3), some (.int y1), some (.ref a11), some (.ref a13), none]) dX7_find_58 (Nat.le_of_ble_eq_true rfl) rfl rfl ?_
      refine x_iconst (v := 0) dX7_find_60 rfl ?_
      refine x_istore (lo' := [some (.ref (w.1 7)), some (.ref x1), some (.ref a2), some (.int x3), some (.int y1), some (.ref a11), some (.ref a13), some (.int 0)]) dX7_find_61 (Nat.le_of_ble_eq_true rfl) rfl ?_
      refine Ex.wkl (lo' := [some (.ref (w.1 7)), some (.ref x1), none, some (.int x3), none, some (.ref a11), some (.ref a13), some (.int 0)]) ⟨rfl, rfl, rfl, rfl, rfl, rfl, trivial⟩ ?_
      exact hT f0 h hW hF
    · intro k s8 f9 hT h a hW hx hF
      exact c_out (rfl) hW hx hF hT
  · subst e
    replace hT := hT.1 rfl
    refine x_aload_n dX7_find_15 rfl rfl rfl ?_
    refine c_getO dX7_find_16 f_TallySlate_Works_9 (by decide) (by decide) rfl hW ?_
    refine x_aload_n dX7_find_19 rfl rfl rfl ?_
    refine x_aload_n dX7_find_20 rfl rfl rfl ?_
    refine c_getO dX7_find_21 f_TallySlate_Works_9 (by decide) (by decide) rfl hW ?_
    refine c_getA dX7_find_24 f_TallySlate_Works_138 (by decide) (by decide) rfl hW ?_
    refine x_iload dX7_find_27 rfl ?_
    obtain ⟨hb, hT⟩ := hT
    refine c_iald (v := (s.2.2.1 24 y1.toNatClampNeg)) dX7_find_29 rfl hb hW rfl ?_
    refine c_invS (vs := [.ref x1, .int (s.2.2.1 24 y1.toNatClampNeg)]) dX7_find_30 oX7_placeOf q1889 (Or.inl q1888) rfl rfl (Nat.le_of_ble_eq_true rfl) rfl hW hF hT ?_ ?_
    · intro _ s3 f4 hT h hW hF
      obtain ⟨v5, rfl, hT⟩ := hT
      refine x_iconst (v := 2) dX7_find_33 rfl ?_
      obtain ⟨-, -, cc, hcc, -⟩ := hW.ob 3 (by decide)
      refine c_invV (vs := [.int v5, .int 2]) dX7_find_34 oX3_give q1384 q1747 hcc q1385 (Or.inl rfl) rfl rfl (Nat.le_of_ble_eq_true rfl) rfl hW hF hT ?_ ?_
      · intro _ s6 f7 hT h hW hF
        obtain ⟨rfl, hT⟩ := hT
        exact x_vret dX7_find_37 rfl ⟨_, _, hW, hF, Or.inl ⟨_, rfl, hT⟩⟩
      · intro k s6 f7 hT h a hW hx hF
        exact c_out (rfl) hW hx hF hT
    · intro k s3 f4 hT h a hW hx hF
      exact c_out (rfl) hW hx hF hT
theorem eX7_find {l : Launch} {E : EN} {w : CO} {d : Nat} {s : CS} {f : RH} {Q : KO → CS → RH → Prop} {x1 : Nat} {x2 : Value} {x3 : Int32} (ix2 : isR x2 = true) (hst : l.stackTraces = false) (hT : (∀ y1 : Int32, y1 = ((s.1 26) - 1) → ((x2 = .null → (inB y1 8400 ∧ (EvC l E w d MX7_placeOf [.ref x1, .int (s.2.2.1 24 y1.toNatClampNeg)] s f (fun o s3 f4 => KP o (fun r => ∃ v5 : Int32, r = some (.int v5) ∧ (EvC l E w d MX3_give [.ref (w.1 3), .int v5, .int 2] s3 f4 (fun o s6 f7 => KP o (fun r => r = none ∧ Q (.inl none) s6 f7) (fun k => Q (.inr k) s6 f7)))) (fun k => Q (.inr k) s3 f4))))) ∧ (∀ a2 : Nat, x2 = .ref a2 → (EvC l E w d MX3_asRow [.ref (w.1 3), .int y1, .int x3] s f (fun o s8 f9 => KP o (fun r => ∃ a10 : Nat, r = some (.ref a10) ∧ (oc f9 a10 29 ∧ (∃ a11 : Nat, vl f9 a10 203 = .ref a11 ∧ (∃ t12 : Nat, tg f9 a11 = some (.inr t12) ∧ (¬ (nI (ln f9 a11)) < 0 ∧ (nI (ln f9 a11)).toNatClampNeg ≤ 60000000 ∧ rmF E f9 1 (nI (ln f9 a11)).toNatClampNeg ∧ ∀ (a13 : Nat) (f14 : RH), a13 = f9.1 → f14 = fnewA f9 0 (nI (ln f9 a11)).toNatClampNeg → ExC l E w (d + 1) MX7_find 63 [some (.ref (w.1 7)), some (.ref x1), none, some (.int x3), none, some (.ref a11), some (.ref a13), some (.int 0)] [] s8 f14 Q))))) (fun k => Q (.inr k) s8 f9))))))) : EvC l E w (d + 1) MX7_find [.ref (w.1 7), .ref x1, x2, .int x3] s f Q :=by
  rcases isR_cases ix2 with rfl | ⟨_, rfl⟩ <;> exact
  
  EvC.of hst (by decide) (Nat.le_of_ble_eq_true rfl) (vX7_find_0 ix2 hT)
theorem vX7_find_63 {l : Launch} {E : EN} {w : CO} {d : Nat} {s : CS} {f : RH} {Q : KO → CS → RH → Prop} {b1 : Nat} {b3 : Int32} {b5 : Nat} {b6 : Nat} {b7 : Int32}  (hT : (∃ t15 : Nat, tg f b6 = some (.inr t15) ∧ (((nI (ln f b6)) ≤ b7 → (rmF E f 1 1 ∧ ∀ (a16 : Nat) (f17 : RH), a16 = f.1 → f17 = fnew f 29 → (EvC l E w d MX32_init [.ref a16, .ref b6] s f17 (fun o s18 f19 => KP o (fun r => r = none ∧ (EvC l E w d MX3_give_2 [.ref (w.1 3), .ref a16, .int 2, .int b3] s18 f19 (fun o s20 f21 => KP o (fun r => r = none ∧ Q (.inl none) s20 f21) (fun k => Q (.inr k) s20 f21)))) (fun k => Q (.inr k) s18 f19))))) ∧ (¬ (nI (ln f b6)) ≤ b7 → (tg f b5 = some (.inr 0) ∧ inB b7 (ln f b5) ∧ (∃ v22 : Int32, vl f b5 b7.toNatClampNeg = .int v22 ∧ (EvC l E w d MX7_placeOf [.ref b1, .int v22] s f (fun o s23 f24 => KP o (fun r => ∃ v25 : Int32, r = some (.int v25) ∧ (tg f24 b6 = some (.inr 0) ∧ inB b7 (ln f24 b6) ∧ f24.2.2.2 ≤ b6 ∧ ∀ f26 : RH, f26 = fset f24 b6 b7.toNatClampNeg (.int v25) → ExC l E w (d + 1) MX7_find 63 [some (.ref (w.1 7)), some (.ref b1), none, some (.int b3), none, some (.ref b5), some (.ref b6), some (.int (b7 + 1))] [] s23 f26 Q)) (fun k => Q (.inr k) s23 f24))))))))) : ExC l E w (d + 1) MX7_find 63 [some (.ref (w.1 7)), some (.ref b1), none, some (.int b3), none, some (.ref b5), some (.ref b6), some (.int b7)] [] s f Q := by
  intro f0 h hW hF
  refine x_iload dX7_find_63 rfl ?_
  refine x_aload dX7_find_65 rfl rfl ?_
  obtain ⟨t15, hc, hT⟩ := hT
  refine c_alen dX7_find_67 hc hW ?_
  refine x_icmp_ge (tgt := 91) dX7_find_68 rfl (fun c => ?_) (fun c => ?_)
  · replace hT := hT.1 c
    refine x_aload_n dX7_find_91 rfl rfl rfl ?_
    refine c_getO dX7_find_92 f_TallySlate_Works_9 (by decide) (by decide) rfl hW ?_
    obtain ⟨hr, hT⟩ := hT
    refine c_newG (k := 29) dX7_find_95 (by decide) q1755 q205 hr hW hF ?_
    intro a16 f17 ea16 ef17 h hW hF
    replace hT := hT a16 f17 ea16 ef17
    refine x_dup dX7_find_98 rfl ?_
    refine x_aload dX7_find_99 rfl rfl ?_
    refine c_invI (b := a16) (vs := [.ref b6]) dX7_find_101 oX32_init rfl rfl rfl q1396 (Or.inl q1756) rfl rfl (Nat.le_of_ble_eq_true rfl) rfl hW hF hT ?_ ?_
    · intro _ s18 f19 hT h hW hF
      obtain ⟨rfl, hT⟩ := hT
      refine x_iconst (v := 2) dX7_find_104 rfl ?_
      refine x_iload_n dX7_find_105 rfl rfl ?_
      obtain ⟨-, -, cc, hcc, -⟩ := hW.ob 3 (by decide)
      refine c_invV (vs := [.ref a16, .int 2, .int b3]) dX7_find_106 oX3_give_2 q1412 q1757 hcc q1413 (Or.inl rfl) rfl rfl (Nat.le_of_ble_eq_true rfl) rfl hW hF hT ?_ ?_
      · intro _ s20 f21 hT h hW hF
        obtain ⟨rfl, hT⟩ := hT
        exact x_vret dX7_find_109 rfl ⟨_, _, hW, hF, Or.inl ⟨_, rfl, hT⟩⟩
      · intro k s20 f21 hT h a hW hx hF
        exact c_out (rfl) hW hx hF hT
    · intro k s18 f19 hT h a hW hx hF
      exact c_out (rfl) hW hx hF hT
  · replace hT := hT.2 c
    refine x_aload dX7_find_71 rfl rfl ?_
    refine x_iload dX7_find_73 rfl ?_
    refine x_aload_n dX7_find_75 rfl rfl rfl ?_
    refine x_aload dX7_find_76 rfl rfl ?_
    refine x_iload dX7_find_78 rfl ?_
    obtain ⟨hc, hT⟩ := hT
    obtain ⟨hb, hT⟩ := hT
    obtain ⟨v22, ev, hT⟩ := hT
    refine c_fiald dX7_find_80 hc hb hW ev ?_
    refine c_invS (vs := [.ref b1, .int v22]) dX7_find_81 oX7_placeOf q1889 (Or.inl q1888) rfl rfl (Nat.le_of_ble_eq_true rfl) rfl hW hF hT ?_ ?_
    · intro _ s23 f24 hT h hW hF
      obtain ⟨v25, rfl, hT⟩ := hT
      obtain ⟨hc, hT⟩ := hT
      obtain ⟨hb, hz, hT⟩ := hT
      refine c_fiastG dX7_find_84 hc hb hz hW hF ?_
      intro f26 ef26 h hW hF
      replace hT := hT f26 ef26
      refine x_iinc (lo' := [some (.ref (w.1 7)), some (.ref b1), none, some (.int b3), none, some (.ref b5), some (.ref b6), some (.int (b7 + 1))]) dX7_find_85 rfl (show _ = (b7 + 1) from rfl) rfl ?_
      refine x_goto (tgt := 63) dX7_find_88 rfl ?_
      exact hT f0 h hW hF
    · intro k s23 f24 hT h a hW hx hF
      exact c_out (rfl) hW hx hF hT
theorem vX7_placeOf_0 {l : Launch} {E : EN} {w : CO} {d : Nat} {s : CS} {f : RH} {Q : KO → CS → RH → Prop} {x1 : Nat} {x2 : Int32}  (hT : ExC l E w d MX7_placeOf 2 [some (.ref x1), some (.int x2), some (.int 0)] [] s f Q) : ExC l E w d MX7_placeOf 0 [some (.ref x1), some (.int x2), none] [] s f Q := by
  intro f0 h hW hF
  refine x_iconst (v := 0) dX7_placeOf_0 rfl ?_
  refine x_istore_n (lo' := [some (.ref x1), some (.int x2), some (.int 0)]) dX7_placeOf_1 rfl (Nat.le_of_ble_eq_true rfl) rfl ?_
  exact hT f0 h hW hF
theorem eX7_placeOf {l : Launch} {E : EN} {w : CO} {d : Nat} {s : CS} {f : RH} {Q : KO → CS → RH → Prop} {x1 : Nat} {x2 : Int32}  (hst : l.stackTraces = false) (hT : ExC l E w d MX7_placeOf 2 [some (.ref x1), some (.int x2), some (.int 0)] [] s f Q) : EvC l E w d MX7_placeOf [.ref x1, .int x2] s f Q :=
  EvC.of hst (by decide) (Nat.le_of_ble_eq_true rfl) (vX7_placeOf_0  hT)
theorem vX7_placeOf_2 {l : Launch} {E : EN} {w : CO} {d : Nat} {s : CS} {f : RH} {Q : KO → CS → RH → Prop} {b0 : Nat} {b1 : Int32} {b2 : Int32}  (hT : (∃ t1 : Nat, tg f b0 = some (.inr t1) ∧ (((nI (ln f b0)) ≤ b2 → (∃ t2 : Nat, tg f b0 = some (.inr t2) ∧ (((nI (ln f b0)) ≤ b2 → Q (.inl (some (.int (-1)))) s f) ∧ (¬ (nI (ln f b0)) ≤ b2 → Q (.inl (some (.int b2))) s f)))) ∧ (¬ (nI (ln f b0)) ≤ b2 → (tg f b0 = some (.inr 0) ∧ inB b2 (ln f b0) ∧ (∃ v3 : Int32, vl f b0 b2.toNatClampNeg = .int v3 ∧ ((v3 = b1 → (∃ t4 : Nat, tg f b0 = some (.inr t4) ∧ (((nI (ln f b0)) ≤ b2 → Q (.inl (some (.int (-1)))) s f) ∧ (¬ (nI (ln f b0)) ≤ b2 → Q (.inl (some (.int b2))) s f)))) ∧ (¬ v3 = b1 → ExC l E w d MX7_placeOf 2 [some (.ref b0), some (.int b1), some (.int (b2 + 1))] [] s f Q)))))))) : ExC l E w d MX7_placeOf 2 [some (.ref b0), some (.int b1), some (.int b2)] [] s f Q := by
  intro f0 h hW hF
  refine x_iload_n dX7_placeOf_2 rfl rfl ?_
  refine x_aload_n dX7_placeOf_3 rfl rfl rfl ?_
  obtain ⟨t1, hc, hT⟩ := hT
  refine c_alen dX7_placeOf_4 hc hW ?_
  refine x_icmp_ge (tgt := 21) dX7_placeOf_5 rfl (fun c => ?_) (fun c => ?_)
  · replace hT := hT.1 c
    refine x_iload_n dX7_placeOf_21 rfl rfl ?_
    refine x_aload_n dX7_placeOf_22 rfl rfl rfl ?_
    obtain ⟨t2, hc, hT⟩ := hT
    refine c_alen dX7_placeOf_23 hc hW ?_
    refine x_icmp_ge (tgt := 31) dX7_placeOf_24 rfl (fun c => ?_) (fun c => ?_)
    · replace hT := hT.1 c
      refine x_iconst (v := (-1)) dX7_placeOf_31 rfl ?_
      exact x_iret dX7_placeOf_32 rfl rfl ⟨_, _, hW, hF, Or.inl ⟨_, rfl, hT⟩⟩
    · replace hT := hT.2 c
      refine x_iload_n dX7_placeOf_27 rfl rfl ?_
      refine x_goto (tgt := 32) dX7_placeOf_28 rfl ?_
      exact x_iret dX7_placeOf_32 rfl rfl ⟨_, _, hW, hF, Or.inl ⟨_, rfl, hT⟩⟩
  · replace hT := hT.2 c
    refine x_aload_n dX7_placeOf_8 rfl rfl rfl ?_
    refine x_iload_n dX7_placeOf_9 rfl rfl ?_
    obtain ⟨hc, hT⟩ := hT
    obtain ⟨hb, hT⟩ := hT
    obtain ⟨v3, ev, hT⟩ := hT
    refine c_fiald dX7_placeOf_10 hc hb hW ev ?_
    refine x_iload_n dX7_placeOf_11 rfl rfl ?_
    refine x_icmp_eq (tgt := 21) dX7_placeOf_12 rfl (fun c => ?_) (fun c => ?_)
    · replace hT := hT.1 c
      refine x_iload_n dX7_placeOf_21 rfl rfl ?_
      refine x_aload_n dX7_placeOf_22 rfl rfl rfl ?_
      obtain ⟨t4, hc, hT⟩ := hT
      refine c_alen dX7_placeOf_23 hc hW ?_
      refine x_icmp_ge (tgt := 31) dX7_placeOf_24 rfl (fun c => ?_) (fun c => ?_)
      · replace hT := hT.1 c
        refine x_iconst (v := (-1)) dX7_placeOf_31 rfl ?_
        exact x_iret dX7_placeOf_32 rfl rfl ⟨_, _, hW, hF, Or.inl ⟨_, rfl, hT⟩⟩
      · replace hT := hT.2 c
        refine x_iload_n dX7_placeOf_27 rfl rfl ?_
        refine x_goto (tgt := 32) dX7_placeOf_28 rfl ?_
        exact x_iret dX7_placeOf_32 rfl rfl ⟨_, _, hW, hF, Or.inl ⟨_, rfl, hT⟩⟩
    · replace hT := hT.2 c
      refine x_iinc (lo' := [some (.ref b0), some (.int b1), some (.int (b2 + 1))]) dX7_placeOf_15 rfl (show _ = (b2 + 1) from rfl) rfl ?_
      refine x_goto (tgt := 2) dX7_placeOf_18 rfl ?_
      exact hT f0 h hW hF
theorem vX7_outer_0 {l : Launch} {E : EN} {w : CO} {d : Nat} {s : CS} {f : RH} {Q : KO → CS → RH → Prop} {x1 : Nat} {x2 : Nat} {x3 : Int32}  (hT : (∃ t1 : Nat, tg f x1 = some (.inr t1) ∧ (∃ t2 : Nat, tg f x2 = some (.inr t2) ∧ (EvC l E w d MX6_grid [.ref (w.1 6), .int (nI (ln f x1)), .int (nI (ln f x2)), .int x3] s f (fun o s3 f4 => KP o (fun r => ∃ a5 : Nat, r = some (.ref a5) ∧ ExC l E w (d + 1) MX7_outer 20 [none, some (.ref x1), some (.ref x2), none, some (.ref a5), some (.int 0), none] [] s3 f4 Q) (fun k => Q (.inr k) s3 f4)))))) : ExC l E w (d + 1) MX7_outer 0 [some (.ref (w.1 7)), some (.ref x1), some (.ref x2), some (.int x3), none, none, none] [] s f Q := by
  intro f0 h hW hF
  refine x_aload_n dX7_outer_0 rfl rfl rfl ?_
  refine c_getO dX7_outer_1 f_TallySlate_Works_9 (by decide) (by decide) rfl hW ?_
  refine c_getO dX7_outer_4 f_TallySlate_Works_177 (by decide) (by decide) rfl hW ?_
  refine x_aload_n dX7_outer_7 rfl rfl rfl ?_
  obtain ⟨t1, hc, hT⟩ := hT
  refine c_alen dX7_outer_8 hc hW ?_
  refine x_aload_n dX7_outer_9 rfl rfl rfl ?_
  obtain ⟨t2, hc, hT⟩ := hT
  refine c_alen dX7_outer_10 hc hW ?_
  refine x_iload_n dX7_outer_11 rfl rfl ?_
  obtain ⟨-, -, cc, hcc, -⟩ := hW.ob 6 (by decide)
  refine c_invV (vs := [.int (nI (ln f x1)), .int (nI (ln f x2)), .int x3]) dX7_outer_12 oX6_grid q1726 q1895 hcc q1727 (Or.inl rfl) rfl rfl (Nat.le_of_ble_eq_true rfl) rfl hW hF hT ?_ ?_
  · intro _ s3 f4 hT h hW hF
    obtain ⟨a5, rfl, hT⟩ := hT
    refine x_astore (lo' := [some (.ref (w.1 7)), some (.ref x1), some (.ref x2), some (.int x3), some (.ref a5), none, none]) dX7_outer_15 (Nat.le_of_ble_eq_true rfl) rfl rfl ?_
    refine x_iconst (v := 0) dX7_outer_17 rfl ?_
    refine x_istore (lo' := [some (.ref (w.1 7)), some (.ref x1), some (.ref x2), some (.int x3), some (.ref a5), some (.int 0), none]) dX7_outer_18 (Nat.le_of_ble_eq_true rfl) rfl ?_
    refine Ex.wkl (lo' := [none, some (.ref x1), some (.ref x2), none, some (.ref a5), some (.int 0), none]) ⟨rfl, rfl, rfl, rfl, trivial⟩ ?_
    exact hT f0 h hW hF
  · intro k s3 f4 hT h a hW hx hF
    exact c_out (rfl) hW hx hF hT
theorem eX7_outer {l : Launch} {E : EN} {w : CO} {d : Nat} {s : CS} {f : RH} {Q : KO → CS → RH → Prop} {x1 : Nat} {x2 : Nat} {x3 : Int32}  (hst : l.stackTraces = false) (hT : (∃ t1 : Nat, tg f x1 = some (.inr t1) ∧ (∃ t2 : Nat, tg f x2 = some (.inr t2) ∧ (EvC l E w d MX6_grid [.ref (w.1 6), .int (nI (ln f x1)), .int (nI (ln f x2)), .int x3] s f (fun o s3 f4 => KP o (fun r => ∃ a5 : Nat, r = some (.ref a5) ∧ ExC l E w (d + 1) MX7_outer 20 [none, some (.ref x1), some (.ref x2), none, some (.ref a5), some (.int 0), none] [] s3 f4 Q) (fun k => Q (.inr k) s3 f4)))))) : EvC l E w (d + 1) MX7_outer [.ref (w.1 7), .ref x1, .ref x2, .int x3] s f Q :=
  EvC.of hst (by decide) (Nat.le_of_ble_eq_true rfl) (vX7_outer_0  hT)
theorem vX7_outer_20 {l : Launch} {E : EN} {w : CO} {d : Nat} {s : CS} {f : RH} {Q : KO → CS → RH → Prop} {b1 : Nat} {b2 : Nat} {b4 : Nat} {b5 : Int32}  (hT : (∃ t6 : Nat, tg f b1 = some (.inr t6) ∧ (((nI (ln f b1)) ≤ b5 → Q (.inl (some (.ref b4))) s f) ∧ (¬ (nI (ln f b1)) ≤ b5 → ExC l E w (d + 1) MX7_outer 30 [none, some (.ref b1), some (.ref b2), none, some (.ref b4), some (.int b5), some (.int 0)] [] s f Q)))) : ExC l E w (d + 1) MX7_outer 20 [none, some (.ref b1), some (.ref b2), none, some (.ref b4), some (.int b5), none] [] s f Q := by
  intro f0 h hW hF
  refine x_iload dX7_outer_20 rfl ?_
  refine x_aload_n dX7_outer_22 rfl rfl rfl ?_
  obtain ⟨t6, hc, hT⟩ := hT
  refine c_alen dX7_outer_23 hc hW ?_
  refine x_icmp_ge (tgt := 66) dX7_outer_24 rfl (fun c => ?_) (fun c => ?_)
  · replace hT := hT.1 c
    refine x_aload dX7_outer_66 rfl rfl ?_
    exact x_aret dX7_outer_68 rfl (by first | exact Or.inl ⟨_, rfl⟩ | exact Or.inr ⟨_, rfl⟩) rfl ⟨_, _, hW, hF, Or.inl ⟨_, rfl, hT⟩⟩
  · replace hT := hT.2 c
    refine x_iconst (v := 0) dX7_outer_27 rfl ?_
    refine x_istore (lo' := [none, some (.ref b1), some (.ref b2), none, some (.ref b4), some (.int b5), some (.int 0)]) dX7_outer_28 (Nat.le_of_ble_eq_true rfl) rfl ?_
    exact hT f0 h hW hF
theorem vX7_outer_30 {l : Launch} {E : EN} {w : CO} {d : Nat} {s : CS} {f : RH} {Q : KO → CS → RH → Prop} {b1 : Nat} {b2 : Nat} {b4 : Nat} {b5 : Int32} {b6 : Int32}  (hT : (∃ t7 : Nat, tg f b2 = some (.inr t7) ∧ (((nI (ln f b2)) ≤ b6 → ExC l E w (d + 1) MX7_outer 20 [none, some (.ref b1), some (.ref b2), none, some (.ref b4), some (.int (b5 + 1)), none] [] s f Q) ∧ (¬ (nI (ln f b2)) ≤ b6 → (∃ t8 : Nat, 4 ≤ t8 ∧ (tg f b4 = some (.inr t8) ∧ inB b5 (ln f b4) ∧ (∃ a9 : Nat, vl f b4 b5.toNatClampNeg = .ref a9 ∧ (tg f b1 = some (.inr 0) ∧ inB b5 (ln f b1) ∧ (∃ v10 : Int32, vl f b1 b5.toNatClampNeg = .int v10 ∧ (tg f b2 = some (.inr 0) ∧ inB b6 (ln f b2) ∧ (∃ v11 : Int32, vl f b2 b6.toNatClampNeg = .int v11 ∧ (tg f a9 = some (.inr 0) ∧ inB b6 (ln f a9) ∧ f.2.2.2 ≤ a9 ∧ ∀ f12 : RH, f12 = fset f a9 b6.toNatClampNeg (.int (v10 * v11)) → ExC l E w (d + 1) MX7_outer 30 [none, some (.ref b1), some (.ref b2), none, some (.ref b4), some (.int b5), some (.int (b6 + 1))] [] s f12 Q)))))))))))) : ExC l E w (d + 1) MX7_outer 30 [none, some (.ref b1), some (.ref b2), none, some (.ref b4), some (.int b5), some (.int b6)] [] s f Q := by
  intro f0 h hW hF
  refine x_iload dX7_outer_30 rfl ?_
  refine x_aload_n dX7_outer_32 rfl rfl rfl ?_
  obtain ⟨t7, hc, hT⟩ := hT
  refine c_alen dX7_outer_33 hc hW ?_
  refine x_icmp_ge (tgt := 60) dX7_outer_34 rfl (fun c => ?_) (fun c => ?_)
  · replace hT := hT.1 c
    refine x_iinc (lo' := [none, some (.ref b1), some (.ref b2), none, some (.ref b4), some (.int (b5 + 1)), some (.int b6)]) dX7_outer_60 rfl (show _ = (b5 + 1) from rfl) rfl ?_
    refine x_goto (tgt := 20) dX7_outer_63 rfl ?_
    refine Ex.wkl (lo' := [none, some (.ref b1), some (.ref b2), none, some (.ref b4), some (.int (b5 + 1)), none]) ⟨rfl, rfl, rfl, rfl, trivial⟩ ?_
    exact hT f0 h hW hF
  · replace hT := hT.2 c
    refine x_aload dX7_outer_37 rfl rfl ?_
    refine x_iload dX7_outer_39 rfl ?_
    obtain ⟨t8, ht2, hc, hT⟩ := hT
    obtain ⟨hb, hT⟩ := hT
    obtain ⟨a9, ev, hT⟩ := hT
    refine c_faald dX7_outer_41 hc ht2 hb hW ev ?_
    refine x_iload dX7_outer_42 rfl ?_
    refine x_aload_n dX7_outer_44 rfl rfl rfl ?_
    refine x_iload dX7_outer_45 rfl ?_
    obtain ⟨hc, hT⟩ := hT
    obtain ⟨hb, hT⟩ := hT
    obtain ⟨v10, ev, hT⟩ := hT
    refine c_fiald dX7_outer_47 hc hb hW ev ?_
    refine x_aload_n dX7_outer_48 rfl rfl rfl ?_
    refine x_iload dX7_outer_49 rfl ?_
    obtain ⟨hc, hT⟩ := hT
    obtain ⟨hb, hT⟩ := hT
    obtain ⟨v11, ev, hT⟩ := hT
    refine c_fiald dX7_outer_51 hc hb hW ev ?_
    refine x_imul dX7_outer_52 ?_
    obtain ⟨hc, hT⟩ := hT
    obtain ⟨hb, hz, hT⟩ := hT
    refine c_fiastG dX7_outer_53 hc hb hz hW hF ?_
    intro f12 ef12 h hW hF
    replace hT := hT f12 ef12
    refine x_iinc (lo' := [none, some (.ref b1), some (.ref b2), none, some (.ref b4), some (.int b5), some (.int (b6 + 1))]) dX7_outer_54 rfl (show _ = (b6 + 1) from rfl) rfl ?_
    refine x_goto (tgt := 30) dX7_outer_57 rfl ?_
    exact hT f0 h hW hF
theorem vX8_number_0 {l : Launch} {E : EN} {w : CO} {d : Nat} {s : CS} {f : RH} {Q : KO → CS → RH → Prop} {x1 : Int32}  (hT : ((0 ≤ x1 → ((0 ≤ x1 → (∀ y1 : Int64, y1 = x1.toInt64 → ExC l E w (d + 1) MX8_number 26 [some (.ref (w.1 8)), none, some (.long y1), none, some (.long 1), none] [] s f Q)) ∧ (¬ 0 ≤ x1 → (∀ y2 : Int64, y2 = (-x1.toInt64) → ExC l E w (d + 1) MX8_number 26 [some (.ref (w.1 8)), none, some (.long y2), none, some (.long 1), none] [] s f Q)))) ∧ (¬ 0 ≤ x1 → (EvC l E w d MX8_sign [.ref (w.1 8), .int 45] s f (fun o s3 f4 => KP o (fun r => r = none ∧ ((0 ≤ x1 → (∀ y5 : Int64, y5 = x1.toInt64 → ExC l E w (d + 1) MX8_number 26 [some (.ref (w.1 8)), none, some (.long y5), none, some (.long 1), none] [] s3 f4 Q)) ∧ (¬ 0 ≤ x1 → (∀ y6 : Int64, y6 = (-x1.toInt64) → ExC l E w (d + 1) MX8_number 26 [some (.ref (w.1 8)), none, some (.long y6), none, some (.long 1), none] [] s3 f4 Q)))) (fun k => Q (.inr k) s3 f4)))))) : ExC l E w (d + 1) MX8_number 0 [some (.ref (w.1 8)), some (.int x1), none, none, none, none] [] s f Q := by
  intro f0 h hW hF
  refine x_iload_n dX8_number_0 rfl rfl ?_
  refine x_if_ge (tgt := 10) dX8_number_1 rfl (fun c => ?_) (fun c => ?_)
  · replace hT := hT.1 c
    refine x_iload_n dX8_number_10 rfl rfl ?_
    refine x_if_ge (tgt := 20) dX8_number_11 rfl (fun c => ?_) (fun c => ?_)
    · replace hT := hT.1 c
      refine x_iload_n dX8_number_20 rfl rfl ?_
      refine x_i2l dX8_number_21 ?_
      obtain ⟨y1, ey1⟩ : ∃ z : Int64, z = x1.toInt64 := ⟨_, rfl⟩
      replace hT := hT y1 ey1
      refine x_lstore_n (lo' := [some (.ref (w.1 8)), some (.int x1), some (.long y1), none, none, none]) dX8_number_22 rfl (Nat.le_of_ble_eq_true rfl) (by rw [ey1]; exact rfl) ?_
      refine x_lconst (v := 1) dX8_number_23 rfl ?_
      refine x_lstore (lo' := [some (.ref (w.1 8)), some (.int x1), some (.long y1), none, some (.long 1), none]) dX8_number_24 (Nat.le_of_ble_eq_true rfl) rfl ?_
      refine Ex.wkl (lo' := [some (.ref (w.1 8)), none, some (.long y1), none, some (.long 1), none]) ⟨rfl, rfl, rfl, trivial⟩ ?_
      exact hT f0 h hW hF
    · replace hT := hT.2 c
      refine x_iload_n dX8_number_14 rfl rfl ?_
      refine x_i2l dX8_number_15 ?_
      refine x_lneg dX8_number_16 ?_
      refine x_goto (tgt := 22) dX8_number_17 rfl ?_
      obtain ⟨y2, ey2⟩ : ∃ z : Int64, z = (-x1.toInt64) := ⟨_, rfl⟩
      replace hT := hT y2 ey2
      refine x_lstore_n (lo' := [some (.ref (w.1 8)), some (.int x1), some (.long y2), none, none, none]) dX8_number_22 rfl (Nat.le_of_ble_eq_true rfl) (by rw [ey2]; exact rfl) ?_
      refine x_lconst (v := 1) dX8_number_23 rfl ?_
      refine x_lstore (lo' := [some (.ref (w.1 8)), some (.int x1), some (.long y2), none, some (.long 1), none]) dX8_number_24 (Nat.le_of_ble_eq_true rfl) rfl ?_
      refine Ex.wkl (lo' := [some (.ref (w.1 8)), none, some (.long y2), none, some (.long 1), none]) ⟨rfl, rfl, rfl, trivial⟩ ?_
      exact hT f0 h hW hF
  · replace hT := hT.2 c
    refine x_aload_n dX8_number_4 rfl rfl rfl ?_
    refine x_bipush (v := 45) dX8_number_5 rfl ?_
    obtain ⟨-, -, cc, hcc, -⟩ := hW.ob 8 (by decide)
    refine c_invV (vs := [.int 45]) dX8_number_7 oX8_sign q1999 q1998 hcc q2000 (Or.inl rfl) rfl rfl (Nat.le_of_ble_eq_true rfl) rfl hW hF hT ?_ ?_
    · intro _ s3 f4 hT h hW hF
      obtain ⟨rfl, hT⟩ := hT
      refine x_iload_n dX8_number_10 rfl rfl ?_
      refine x_if_ge (tgt := 20) dX8_number_11 rfl (fun c => ?_) (fun c => ?_)
      · replace hT := hT.1 c
        refine x_iload_n dX8_number_20 rfl rfl ?_
        refine x_i2l dX8_number_21 ?_
        obtain ⟨y5, ey5⟩ : ∃ z : Int64, z = x1.toInt64 := ⟨_, rfl⟩
        replace hT := hT y5 ey5
        refine x_lstore_n (lo' := [some (.ref (w.1 8)), some (.int x1), some (.long y5), none, none, none]) dX8_number_22 rfl (Nat.le_of_ble_eq_true rfl) (by rw [ey5]; exact rfl) ?_
        refine x_lconst (v := 1) dX8_number_23 rfl ?_
        refine x_lstore (lo' := [some (.ref (w.1 8)), some (.int x1), some (.long y5), none, some (.long 1), none]) dX8_number_24 (Nat.le_of_ble_eq_true rfl) rfl ?_
        refine Ex.wkl (lo' := [some (.ref (w.1 8)), none, some (.long y5), none, some (.long 1), none]) ⟨rfl, rfl, rfl, trivial⟩ ?_
        exact hT f0 h hW hF
      · replace hT := hT.2 c
        refine x_iload_n dX8_number_14 rfl rfl ?_
        refine x_i2l dX8_number_15 ?_
        refine x_lneg dX8_number_16 ?_
        refine x_goto (tgt := 22) dX8_number_17 rfl ?_
        obtain ⟨y6, ey6⟩ : ∃ z : Int64, z = (-x1.toInt64) := ⟨_, rfl⟩
        replace hT := hT y6 ey6
        refine x_lstore_n (lo' := [some (.ref (w.1 8)), some (.int x1), some (.long y6), none, none, none]) dX8_number_22 rfl (Nat.le_of_ble_eq_true rfl) (by rw [ey6]; exact rfl) ?_
        refine x_lconst (v := 1) dX8_number_23 rfl ?_
        refine x_lstore (lo' := [some (.ref (w.1 8)), some (.int x1), some (.long y6), none, some (.long 1), none]) dX8_number_24 (Nat.le_of_ble_eq_true rfl) rfl ?_
        refine Ex.wkl (lo' := [some (.ref (w.1 8)), none, some (.long y6), none, some (.long 1), none]) ⟨rfl, rfl, rfl, trivial⟩ ?_
        exact hT f0 h hW hF
    · intro k s3 f4 hT h a hW hx hF
      exact c_out (rfl) hW hx hF hT
theorem eX8_number {l : Launch} {E : EN} {w : CO} {d : Nat} {s : CS} {f : RH} {Q : KO → CS → RH → Prop} {x1 : Int32}  (hst : l.stackTraces = false) (hT : ((0 ≤ x1 → ((0 ≤ x1 → (∀ y1 : Int64, y1 = x1.toInt64 → ExC l E w (d + 1) MX8_number 26 [some (.ref (w.1 8)), none, some (.long y1), none, some (.long 1), none] [] s f Q)) ∧ (¬ 0 ≤ x1 → (∀ y2 : Int64, y2 = (-x1.toInt64) → ExC l E w (d + 1) MX8_number 26 [some (.ref (w.1 8)), none, some (.long y2), none, some (.long 1), none] [] s f Q)))) ∧ (¬ 0 ≤ x1 → (EvC l E w d MX8_sign [.ref (w.1 8), .int 45] s f (fun o s3 f4 => KP o (fun r => r = none ∧ ((0 ≤ x1 → (∀ y5 : Int64, y5 = x1.toInt64 → ExC l E w (d + 1) MX8_number 26 [some (.ref (w.1 8)), none, some (.long y5), none, some (.long 1), none] [] s3 f4 Q)) ∧ (¬ 0 ≤ x1 → (∀ y6 : Int64, y6 = (-x1.toInt64) → ExC l E w (d + 1) MX8_number 26 [some (.ref (w.1 8)), none, some (.long y6), none, some (.long 1), none] [] s3 f4 Q)))) (fun k => Q (.inr k) s3 f4)))))) : EvC l E w (d + 1) MX8_number [.ref (w.1 8), .int x1] s f Q :=
  EvC.of hst (by decide) (Nat.le_of_ble_eq_true rfl) (vX8_number_0  hT)
theorem vX8_number_26 {l : Launch} {E : EN} {w : CO} {d : Nat} {s : CS} {f : RH} {Q : KO → CS → RH → Prop} {b2 : Int64} {b4 : Int64}  (hT : (¬ b4 = 0 ∧ (((lg_cmp (b2 / b4) 9) ≤ 0 → ExC l E w (d + 1) MX8_number 48 [some (.ref (w.1 8)), none, some (.long b2), none, some (.long b4), none] [] s f Q) ∧ (¬ (lg_cmp (b2 / b4) 9) ≤ 0 → (∀ y7 : Int64, y7 = (10 * b4) → ExC l E w (d + 1) MX8_number 26 [some (.ref (w.1 8)), none, some (.long b2), none, some (.long y7), none] [] s f Q))))) : ExC l E w (d + 1) MX8_number 26 [some (.ref (w.1 8)), none, some (.long b2), none, some (.long b4), none] [] s f Q := by
  intro f0 h hW hF
  refine x_lload_n dX8_number_26 rfl rfl ?_
  refine x_lload dX8_number_27 rfl ?_
  obtain ⟨hb, hT⟩ := hT
  refine x_ldiv dX8_number_29 hb ?_
  refine x_ldc2 dX8_number_30 q2002 ?_
  refine x_lcmp dX8_number_33 ?_
  refine x_if_le (tgt := 48) dX8_number_34 rfl (fun c => ?_) (fun c => ?_)
  · replace hT := hT.1 c
    exact hT f0 h hW hF
  · replace hT := hT.2 c
    refine x_ldc2 dX8_number_37 q2003 ?_
    refine x_lload dX8_number_40 rfl ?_
    refine x_lmul dX8_number_42 ?_
    obtain ⟨y7, ey7⟩ : ∃ z : Int64, z = (10 * b4) := ⟨_, rfl⟩
    replace hT := hT y7 ey7
    refine x_lstore (lo' := [some (.ref (w.1 8)), none, some (.long b2), none, some (.long y7), none]) dX8_number_43 (Nat.le_of_ble_eq_true rfl) (by rw [ey7]; exact rfl) ?_
    refine x_goto (tgt := 26) dX8_number_45 rfl ?_
    exact hT f0 h hW hF
theorem vX8_number_48 {l : Launch} {E : EN} {w : CO} {d : Nat} {s : CS} {f : RH} {Q : KO → CS → RH → Prop} {b2 : Int64} {b4 : Int64}  (hT : (((lg_cmp b4 0) ≤ 0 → Q (.inl none) s f) ∧ (¬ (lg_cmp b4 0) ≤ 0 → (¬ b4 = 0 ∧ (EvC l E w d MX8_sign [.ref (w.1 8), .int (48 + ((b2 / b4) - (b2 / b4) / 10 * 10)).toInt32] s f (fun o s8 f9 => KP o (fun r => r = none ∧ (∀ y10 : Int64, y10 = (b4 / 10) → ExC l E w (d + 1) MX8_number 48 [some (.ref (w.1 8)), none, some (.long b2), none, some (.long y10), none] [] s8 f9 Q)) (fun k => Q (.inr k) s8 f9))))))) : ExC l E w (d + 1) MX8_number 48 [some (.ref (w.1 8)), none, some (.long b2), none, some (.long b4), none] [] s f Q := by
  intro f0 h hW hF
  refine x_lload dX8_number_48 rfl ?_
  refine x_lconst (v := 0) dX8_number_50 rfl ?_
  refine x_lcmp dX8_number_51 ?_
  refine x_if_le (tgt := 83) dX8_number_52 rfl (fun c => ?_) (fun c => ?_)
  · replace hT := hT.1 c
    exact x_vret dX8_number_83 rfl ⟨_, _, hW, hF, Or.inl ⟨_, rfl, hT⟩⟩
  · replace hT := hT.2 c
    refine x_aload_n dX8_number_55 rfl rfl rfl ?_
    refine x_ldc2 dX8_number_56 q2004 ?_
    refine x_lload_n dX8_number_59 rfl rfl ?_
    refine x_lload dX8_number_60 rfl ?_
    obtain ⟨hb, hT⟩ := hT
    refine x_ldiv dX8_number_62 hb ?_
    refine x_ldc2 dX8_number_63 q2003 ?_
    refine x_lrem dX8_number_66 (by decide) ?_
    refine x_ladd dX8_number_67 ?_
    refine x_l2i dX8_number_68 ?_
    obtain ⟨-, -, cc, hcc, -⟩ := hW.ob 8 (by decide)
    refine c_invV (vs := [.int (48 + ((b2 / b4) - (b2 / b4) / 10 * 10)).toInt32]) dX8_number_69 oX8_sign q1999 q1998 hcc q2000 (Or.inl rfl) rfl rfl (Nat.le_of_ble_eq_true rfl) rfl hW hF hT ?_ ?_
    · intro _ s8 f9 hT h hW hF
      obtain ⟨rfl, hT⟩ := hT
      refine x_lload dX8_number_72 rfl ?_
      refine x_ldc2 dX8_number_74 q2003 ?_
      refine x_ldiv dX8_number_77 (by decide) ?_
      obtain ⟨y10, ey10⟩ : ∃ z : Int64, z = (b4 / 10) := ⟨_, rfl⟩
      replace hT := hT y10 ey10
      refine x_lstore (lo' := [some (.ref (w.1 8)), none, some (.long b2), none, some (.long y10), none]) dX8_number_78 (Nat.le_of_ble_eq_true rfl) (by rw [ey10]; exact rfl) ?_
      refine x_goto (tgt := 48) dX8_number_80 rfl ?_
      exact hT f0 h hW hF
    · intro k s8 f9 hT h a hW hx hF
      exact c_out (rfl) hW hx hF hT
theorem vX8_sign_0 {l : Launch} {E : EN} {w : CO} {d : Nat} {s : CS} {f : RH} {Q : KO → CS → RH → Prop} {x1 : Int32}  (hT : ((600 ≤ (s.1 53) → Q (.inl none) (uI s 53 ((s.1 53) + 1)) f) ∧ (¬ 600 ≤ (s.1 53) → (inB (s.1 53) 600 ∧ Q (.inl none) (uI (uA s 52 (s.1 53).toNatClampNeg x1.toInt8.toInt32.toInt8.toInt32) 53 ((s.1 53) + 1)) f)))) : ExC l E w d MX8_sign 0 [some (.ref (w.1 8)), some (.int x1)] [] s f Q := by
  intro f0 h hW hF
  refine x_aload_n dX8_sign_0 rfl rfl rfl ?_
  refine c_getI (v := (s.1 53)) dX8_sign_1 f_TallySlate_Output_15 (by decide) (by decide) rfl hW rfl ?_
  refine x_sipush (v := 600) dX8_sign_4 rfl ?_
  refine x_icmp_ge (tgt := 21) dX8_sign_7 rfl (fun c => ?_) (fun c => ?_)
  · replace hT := hT.1 c
    refine x_aload_n dX8_sign_21 rfl rfl rfl ?_
    refine x_dup dX8_sign_22 rfl ?_
    refine c_getI (v := (s.1 53)) dX8_sign_23 f_TallySlate_Output_15 (by decide) (by decide) rfl hW rfl ?_
    refine x_iconst (v := 1) dX8_sign_26 rfl ?_
    refine x_iadd dX8_sign_27 ?_
    refine c_putI dX8_sign_28 f_TallySlate_Output_15 (by decide) (by decide) rfl rfl rfl rfl hW ?_
    intro h hW
    exact x_vret dX8_sign_31 rfl ⟨_, _, hW, hF, Or.inl ⟨_, rfl, hT⟩⟩
  · replace hT := hT.2 c
    refine x_aload_n dX8_sign_10 rfl rfl rfl ?_
    refine c_getA dX8_sign_11 f_TallySlate_Output_9 (by decide) (by decide) rfl hW ?_
    refine x_aload_n dX8_sign_14 rfl rfl rfl ?_
    refine c_getI (v := (s.1 53)) dX8_sign_15 f_TallySlate_Output_15 (by decide) (by decide) rfl hW rfl ?_
    refine x_iload_n dX8_sign_18 rfl rfl ?_
    refine x_i2b dX8_sign_19 ?_
    obtain ⟨hb, hT⟩ := hT
    refine c_bast dX8_sign_20 rfl hb hW ?_
    intro h hW
    refine x_aload_n dX8_sign_21 rfl rfl rfl ?_
    refine x_dup dX8_sign_22 rfl ?_
    refine c_getI (v := (s.1 53)) dX8_sign_23 f_TallySlate_Output_15 (by decide) (by decide) rfl hW rfl ?_
    refine x_iconst (v := 1) dX8_sign_26 rfl ?_
    refine x_iadd dX8_sign_27 ?_
    refine c_putI dX8_sign_28 f_TallySlate_Output_15 (by decide) (by decide) rfl rfl rfl rfl hW ?_
    intro h hW
    exact x_vret dX8_sign_31 rfl ⟨_, _, hW, hF, Or.inl ⟨_, rfl, hT⟩⟩
theorem eX8_sign {l : Launch} {E : EN} {w : CO} {d : Nat} {s : CS} {f : RH} {Q : KO → CS → RH → Prop} {x1 : Int32}  (hst : l.stackTraces = false) (hT : ((600 ≤ (s.1 53) → Q (.inl none) (uI s 53 ((s.1 53) + 1)) f) ∧ (¬ 600 ≤ (s.1 53) → (inB (s.1 53) 600 ∧ Q (.inl none) (uI (uA s 52 (s.1 53).toNatClampNeg x1.toInt8.toInt32.toInt8.toInt32) 53 ((s.1 53) + 1)) f)))) : EvC l E w d MX8_sign [.ref (w.1 8), .int x1] s f Q :=
  EvC.of hst (by decide) (Nat.le_of_ble_eq_true rfl) (vX8_sign_0  hT)
theorem vJ3_indexOf_0 {l : Launch} {E : EN} {w : CO} {d : Nat} {s : CS} {f : RH} {Q : KO → CS → RH → Prop} {x0 : Nat} {x1 : Int32}  (hT : (oc f x0 34 ∧ EvC l E w d MJ3_indexOf_2 [.ref x0, .int x1, .int 0] s f (fun o s1 f2 => KP o (fun r => ∃ v3 : Int32, r = some (.int v3) ∧ Q (.inl (some (.int v3))) s1 f2) (fun k => Q (.inr k) s1 f2)))) : ExC l E w (d + 1) MJ3_indexOf 0 [some (.ref x0), some (.int x1)] [] s f Q := by
  intro f0 h hW hF
  refine x_aload_n dJ3_indexOf_0 rfl rfl rfl ?_
  refine x_iload_n dJ3_indexOf_1 rfl rfl ?_
  refine x_iconst (v := 0) dJ3_indexOf_2 rfl ?_
  obtain ⟨hc, hT⟩ := hT
  obtain ⟨cc, hcc⟩ := hW.ocell hc
  refine c_invV (vs := [.int x1, .int 0]) dJ3_indexOf_3 oJ3_indexOf_2 q645 q644 hcc q646 (Or.inl rfl) rfl rfl (Nat.le_of_ble_eq_true rfl) rfl hW hF hT ?_ ?_
  · intro _ s1 f2 hT h hW hF
    obtain ⟨v3, rfl, hT⟩ := hT
    exact x_iret dJ3_indexOf_6 rfl rfl ⟨_, _, hW, hF, Or.inl ⟨_, rfl, hT⟩⟩
  · intro k s1 f2 hT h a hW hx hF
    exact c_out (rfl) hW hx hF hT
theorem eJ3_indexOf {l : Launch} {E : EN} {w : CO} {d : Nat} {s : CS} {f : RH} {Q : KO → CS → RH → Prop} {x0 : Nat} {x1 : Int32}  (hst : l.stackTraces = false) (hT : (oc f x0 34 ∧ EvC l E w d MJ3_indexOf_2 [.ref x0, .int x1, .int 0] s f (fun o s1 f2 => KP o (fun r => ∃ v3 : Int32, r = some (.int v3) ∧ Q (.inl (some (.int v3))) s1 f2) (fun k => Q (.inr k) s1 f2)))) : EvC l E w (d + 1) MJ3_indexOf [.ref x0, .int x1] s f Q :=
  EvC.of hst (by decide) (Nat.le_of_ble_eq_true rfl) (vJ3_indexOf_0  hT)
theorem vJ3_indexOf_2_0 {l : Launch} {E : EN} {w : CO} {d : Nat} {s : CS} {f : RH} {Q : KO → CS → RH → Prop} {x0 : Nat} {x1 : Int32} {x2 : Int32}  (hT : (oc f x0 34 ∧ EvC l E w d MJ3_isLatin1 [.ref x0] s f (fun o s1 f2 => KP o (fun r => ∃ v3 : Int32, r = some (.int v3) ∧ ((v3 = 0 → (oc f2 x0 34 ∧ (∃ a4 : Nat, vl f2 x0 210 = .ref a4 ∧ (oc f2 x0 34 ∧ EvC l E w d MJ3_length [.ref x0] s1 f2 (fun o s5 f6 => KP o (fun r => ∃ v7 : Int32, r = some (.int v7) ∧ (EvC l E w d MJ6_indexOf [.ref a4, .int x1, .int x2, .int v7] s5 f6 (fun o s8 f9 => KP o (fun r => ∃ v10 : Int32, r = some (.int v10) ∧ Q (.inl (some (.int v10))) s8 f9) (fun k => Q (.inr k) s8 f9)))) (fun k => Q (.inr k) s5 f6)))))) ∧ (¬ v3 = 0 → (oc f2 x0 34 ∧ (∃ a12 : Nat, vl f2 x0 210 = .ref a12 ∧ (oc f2 x0 34 ∧ EvC l E w d MJ3_length [.ref x0] s1 f2 (fun o s13 f14 => KP o (fun r => ∃ v15 : Int32, r = some (.int v15) ∧ (EvC l E w d MJ4_indexOf [.ref a12, .int x1, .int x2, .int v15] s13 f14 (fun o s16 f17 => KP o (fun r => ∃ v18 : Int32, r = some (.int v18) ∧ Q (.inl (some (.int v18))) s16 f17) (fun k => Q (.inr k) s16 f17)))) (fun k => Q (.inr k) s13 f14)))))))) (fun k => Q (.inr k) s1 f2)))) : ExC l E w (d + 1) MJ3_indexOf_2 0 [some (.ref x0), some (.int x1), some (.int x2)] [] s f Q := by
  intro f0 h hW hF
  refine x_aload_n dJ3_indexOf_2_0 rfl rfl rfl ?_
  obtain ⟨hc, hT⟩ := hT
  obtain ⟨cc, hcc⟩ := hW.ocell hc
  refine c_invV (vs := []) dJ3_indexOf_2_1 oJ3_isLatin1 q649 q648 hcc q650 (Or.inl rfl) rfl rfl (Nat.le_of_ble_eq_true rfl) rfl hW hF hT ?_ ?_
  · intro _ s1 f2 hT h hW hF
    obtain ⟨v3, rfl, hT⟩ := hT
    refine x_if_eq (tgt := 23) dJ3_indexOf_2_4 rfl (fun c => ?_) (fun c => ?_)
    · replace hT := hT.1 c
      refine x_aload_n dJ3_indexOf_2_23 rfl rfl rfl ?_
      obtain ⟨hc, hT⟩ := hT
      obtain ⟨a4, ev, hT⟩ := hT
      refine c_fgetG dJ3_indexOf_2_24 f_java_lang_String_9 hc (by decide) (by decide) hW ev ?_
      refine x_iload_n dJ3_indexOf_2_27 rfl rfl ?_
      refine x_iload_n dJ3_indexOf_2_28 rfl rfl ?_
      refine x_aload_n dJ3_indexOf_2_29 rfl rfl rfl ?_
      obtain ⟨hc, hT⟩ := hT
      obtain ⟨cc, hcc⟩ := hW.ocell hc
      refine c_invV (vs := []) dJ3_indexOf_2_30 oJ3_length q655 q654 hcc q656 (Or.inl rfl) rfl rfl (Nat.le_of_ble_eq_true rfl) rfl hW hF hT ?_ ?_
      · intro _ s5 f6 hT h hW hF
        obtain ⟨v7, rfl, hT⟩ := hT
        refine c_invS (vs := [.ref a4, .int x1, .int x2, .int v7]) dJ3_indexOf_2_33 oJ6_indexOf q678 (Or.inl q677) rfl rfl (Nat.le_of_ble_eq_true rfl) rfl hW hF hT ?_ ?_
        · intro _ s8 f9 hT h hW hF
          obtain ⟨v10, rfl, hT⟩ := hT
          exact x_iret dJ3_indexOf_2_36 rfl rfl ⟨_, _, hW, hF, Or.inl ⟨_, rfl, hT⟩⟩
        · intro k s8 f9 hT h a hW hx hF
          exact c_out (rfl) hW hx hF hT
      · intro k s5 f6 hT h a hW hx hF
        exact c_out (rfl) hW hx hF hT
    · replace hT := hT.2 c
      refine x_aload_n dJ3_indexOf_2_7 rfl rfl rfl ?_
      obtain ⟨hc, hT⟩ := hT
      obtain ⟨a12, ev, hT⟩ := hT
      refine c_fgetG dJ3_indexOf_2_8 f_java_lang_String_9 hc (by decide) (by decide) hW ev ?_
      refine x_iload_n dJ3_indexOf_2_11 rfl rfl ?_
      refine x_iload_n dJ3_indexOf_2_12 rfl rfl ?_
      refine x_aload_n dJ3_indexOf_2_13 rfl rfl rfl ?_
      obtain ⟨hc, hT⟩ := hT
      obtain ⟨cc, hcc⟩ := hW.ocell hc
      refine c_invV (vs := []) dJ3_indexOf_2_14 oJ3_length q655 q654 hcc q656 (Or.inl rfl) rfl rfl (Nat.le_of_ble_eq_true rfl) rfl hW hF hT ?_ ?_
      · intro _ s13 f14 hT h hW hF
        obtain ⟨v15, rfl, hT⟩ := hT
        refine c_invS (vs := [.ref a12, .int x1, .int x2, .int v15]) dJ3_indexOf_2_17 oJ4_indexOf q663 (Or.inl q662) rfl rfl (Nat.le_of_ble_eq_true rfl) rfl hW hF hT ?_ ?_
        · intro _ s16 f17 hT h hW hF
          obtain ⟨v18, rfl, hT⟩ := hT
          refine x_goto (tgt := 36) dJ3_indexOf_2_20 rfl ?_
          exact x_iret dJ3_indexOf_2_36 rfl rfl ⟨_, _, hW, hF, Or.inl ⟨_, rfl, hT⟩⟩
        · intro k s16 f17 hT h a hW hx hF
          exact c_out (rfl) hW hx hF hT
      · intro k s13 f14 hT h a hW hx hF
        exact c_out (rfl) hW hx hF hT
  · intro k s1 f2 hT h a hW hx hF
    exact c_out (rfl) hW hx hF hT
theorem eJ3_indexOf_2 {l : Launch} {E : EN} {w : CO} {d : Nat} {s : CS} {f : RH} {Q : KO → CS → RH → Prop} {x0 : Nat} {x1 : Int32} {x2 : Int32}  (hst : l.stackTraces = false) (hT : (oc f x0 34 ∧ EvC l E w d MJ3_isLatin1 [.ref x0] s f (fun o s1 f2 => KP o (fun r => ∃ v3 : Int32, r = some (.int v3) ∧ ((v3 = 0 → (oc f2 x0 34 ∧ (∃ a4 : Nat, vl f2 x0 210 = .ref a4 ∧ (oc f2 x0 34 ∧ EvC l E w d MJ3_length [.ref x0] s1 f2 (fun o s5 f6 => KP o (fun r => ∃ v7 : Int32, r = some (.int v7) ∧ (EvC l E w d MJ6_indexOf [.ref a4, .int x1, .int x2, .int v7] s5 f6 (fun o s8 f9 => KP o (fun r => ∃ v10 : Int32, r = some (.int v10) ∧ Q (.inl (some (.int v10))) s8 f9) (fun k => Q (.inr k) s8 f9)))) (fun k => Q (.inr k) s5 f6)))))) ∧ (¬ v3 = 0 → (oc f2 x0 34 ∧ (∃ a12 : Nat, vl f2 x0 210 = .ref a12 ∧ (oc f2 x0 34 ∧ EvC l E w d MJ3_length [.ref x0] s1 f2 (fun o s13 f14 => KP o (fun r => ∃ v15 : Int32, r = some (.int v15) ∧ (EvC l E w d MJ4_indexOf [.ref a12, .int x1, .int x2, .int v15] s13 f14 (fun o s16 f17 => KP o (fun r => ∃ v18 : Int32, r = some (.int v18) ∧ Q (.inl (some (.int v18))) s16 f17) (fun k => Q (.inr k) s16 f17)))) (fun k => Q (.inr k) s13 f14)))))))) (fun k => Q (.inr k) s1 f2)))) : EvC l E w (d + 1) MJ3_indexOf_2 [.ref x0, .int x1, .int x2] s f Q :=
  EvC.of hst (by decide) (Nat.le_of_ble_eq_true rfl) (vJ3_indexOf_2_0  hT)
theorem vJ3_isLatin1_0 {l : Launch} {E : EN} {w : CO} {d : Nat} {s : CS} {f : RH} {Q : KO → CS → RH → Prop} {x0 : Nat}  (hT : (∃ v1 : Int32, eSV E 3 = .int v1 ∧ ((v1 = 0 → Q (.inl (some (.int 0))) s f) ∧ (¬ v1 = 0 → (oc f x0 34 ∧ (∃ v2 : Int32, vl f x0 211 = .int v2 ∧ ((¬ v2 = 0 → Q (.inl (some (.int 0))) s f) ∧ (v2 = 0 → Q (.inl (some (.int 1))) s f)))))))) : ExC l E w d MJ3_isLatin1 0 [some (.ref x0)] [] s f Q := by
  intro f0 h hW hF
  obtain ⟨v1, es, hT⟩ := hT
  refine x_getstatic (i := 3) (ref := "") dJ3_isLatin1_0 rfl (Or.inl q652) ?_
  rw [es]
  refine x_if_eq (tgt := 17) dJ3_isLatin1_3 rfl (fun c => ?_) (fun c => ?_)
  · replace hT := hT.1 c
    refine x_iconst (v := 0) dJ3_isLatin1_17 rfl ?_
    exact x_iret dJ3_isLatin1_18 rfl rfl ⟨_, _, hW, hF, Or.inl ⟨_, rfl, hT⟩⟩
  · replace hT := hT.2 c
    refine x_aload_n dJ3_isLatin1_6 rfl rfl rfl ?_
    obtain ⟨hc, hT⟩ := hT
    obtain ⟨v2, ev, hT⟩ := hT
    refine c_fgetG dJ3_isLatin1_7 f_java_lang_String_15 hc (by decide) (by decide) hW ev ?_
    refine x_if_ne (tgt := 17) dJ3_isLatin1_10 rfl (fun c => ?_) (fun c => ?_)
    · replace hT := hT.1 c
      refine x_iconst (v := 0) dJ3_isLatin1_17 rfl ?_
      exact x_iret dJ3_isLatin1_18 rfl rfl ⟨_, _, hW, hF, Or.inl ⟨_, rfl, hT⟩⟩
    · replace hT := hT.2 c
      refine x_iconst (v := 1) dJ3_isLatin1_13 rfl ?_
      refine x_goto (tgt := 18) dJ3_isLatin1_14 rfl ?_
      exact x_iret dJ3_isLatin1_18 rfl rfl ⟨_, _, hW, hF, Or.inl ⟨_, rfl, hT⟩⟩
theorem eJ3_isLatin1 {l : Launch} {E : EN} {w : CO} {d : Nat} {s : CS} {f : RH} {Q : KO → CS → RH → Prop} {x0 : Nat}  (hst : l.stackTraces = false) (hT : (∃ v1 : Int32, eSV E 3 = .int v1 ∧ ((v1 = 0 → Q (.inl (some (.int 0))) s f) ∧ (¬ v1 = 0 → (oc f x0 34 ∧ (∃ v2 : Int32, vl f x0 211 = .int v2 ∧ ((¬ v2 = 0 → Q (.inl (some (.int 0))) s f) ∧ (v2 = 0 → Q (.inl (some (.int 1))) s f)))))))) : EvC l E w d MJ3_isLatin1 [.ref x0] s f Q :=
  EvC.of hst (by decide) (Nat.le_of_ble_eq_true rfl) (vJ3_isLatin1_0  hT)
theorem vJ3_length_0 {l : Launch} {E : EN} {w : CO} {d : Nat} {s : CS} {f : RH} {Q : KO → CS → RH → Prop} {x0 : Nat}  (hT : (oc f x0 34 ∧ (∃ a1 : Nat, vl f x0 210 = .ref a1 ∧ (∃ t2 : Nat, tg f a1 = some (.inr t2) ∧ (oc f x0 34 ∧ EvC l E w d MJ3_coder [.ref x0] s f (fun o s3 f4 => KP o (fun r => ∃ v5 : Int32, r = some (.int v5) ∧ Q (.inl (some (.int ((nI (ln f a1)) >>> (v5 &&& 31))))) s3 f4) (fun k => Q (.inr k) s3 f4))))))) : ExC l E w (d + 1) MJ3_length 0 [some (.ref x0)] [] s f Q := by
  intro f0 h hW hF
  refine x_aload_n dJ3_length_0 rfl rfl rfl ?_
  obtain ⟨hc, hT⟩ := hT
  obtain ⟨a1, ev, hT⟩ := hT
  refine c_fgetG dJ3_length_1 f_java_lang_String_9 hc (by decide) (by decide) hW ev ?_
  obtain ⟨t2, hc, hT⟩ := hT
  refine c_alen dJ3_length_4 hc hW ?_
  refine x_aload_n dJ3_length_5 rfl rfl rfl ?_
  obtain ⟨hc, hT⟩ := hT
  obtain ⟨cc, hcc⟩ := hW.ocell hc
  refine c_invV (vs := []) dJ3_length_6 oJ3_coder q659 q658 hcc q660 (Or.inl rfl) rfl rfl (Nat.le_of_ble_eq_true rfl) rfl hW hF hT ?_ ?_
  · intro _ s3 f4 hT h hW hF
    obtain ⟨v5, rfl, hT⟩ := hT
    refine x_ishr dJ3_length_9 ?_
    exact x_iret dJ3_length_10 rfl rfl ⟨_, _, hW, hF, Or.inl ⟨_, rfl, hT⟩⟩
  · intro k s3 f4 hT h a hW hx hF
    exact c_out (rfl) hW hx hF hT
theorem eJ3_length {l : Launch} {E : EN} {w : CO} {d : Nat} {s : CS} {f : RH} {Q : KO → CS → RH → Prop} {x0 : Nat}  (hst : l.stackTraces = false) (hT : (oc f x0 34 ∧ (∃ a1 : Nat, vl f x0 210 = .ref a1 ∧ (∃ t2 : Nat, tg f a1 = some (.inr t2) ∧ (oc f x0 34 ∧ EvC l E w d MJ3_coder [.ref x0] s f (fun o s3 f4 => KP o (fun r => ∃ v5 : Int32, r = some (.int v5) ∧ Q (.inl (some (.int ((nI (ln f a1)) >>> (v5 &&& 31))))) s3 f4) (fun k => Q (.inr k) s3 f4))))))) : EvC l E w (d + 1) MJ3_length [.ref x0] s f Q :=
  EvC.of hst (by decide) (Nat.le_of_ble_eq_true rfl) (vJ3_length_0  hT)
theorem vJ3_coder_0 {l : Launch} {E : EN} {w : CO} {d : Nat} {s : CS} {f : RH} {Q : KO → CS → RH → Prop} {x0 : Nat}  (hT : (∃ v1 : Int32, eSV E 3 = .int v1 ∧ ((v1 = 0 → (narrow .byte (.int 1) = .int 1 ∧ Q (.inl (some (.int 1))) s f)) ∧ (¬ v1 = 0 → (oc f x0 34 ∧ (∃ v2 : Int32, vl f x0 211 = .int v2 ∧ (narrow .byte (.int v2) = .int v2 ∧ Q (.inl (some (.int v2))) s f))))))) : ExC l E w d MJ3_coder 0 [some (.ref x0)] [] s f Q := by
  intro f0 h hW hF
  obtain ⟨v1, es, hT⟩ := hT
  refine x_getstatic (i := 3) (ref := "") dJ3_coder_0 rfl (Or.inl q652) ?_
  rw [es]
  refine x_if_eq (tgt := 13) dJ3_coder_3 rfl (fun c => ?_) (fun c => ?_)
  · replace hT := hT.1 c
    refine x_iconst (v := 1) dJ3_coder_13 rfl ?_
    exact x_iret dJ3_coder_14 rfl hT.1 ⟨_, _, hW, hF, Or.inl ⟨_, rfl, hT.2⟩⟩
  · replace hT := hT.2 c
    refine x_aload_n dJ3_coder_6 rfl rfl rfl ?_
    obtain ⟨hc, hT⟩ := hT
    obtain ⟨v2, ev, hT⟩ := hT
    refine c_fgetG dJ3_coder_7 f_java_lang_String_15 hc (by decide) (by decide) hW ev ?_
    refine x_goto (tgt := 14) dJ3_coder_10 rfl ?_
    exact x_iret dJ3_coder_14 rfl hT.1 ⟨_, _, hW, hF, Or.inl ⟨_, rfl, hT.2⟩⟩
theorem eJ3_coder {l : Launch} {E : EN} {w : CO} {d : Nat} {s : CS} {f : RH} {Q : KO → CS → RH → Prop} {x0 : Nat}  (hst : l.stackTraces = false) (hT : (∃ v1 : Int32, eSV E 3 = .int v1 ∧ ((v1 = 0 → (narrow .byte (.int 1) = .int 1 ∧ Q (.inl (some (.int 1))) s f)) ∧ (¬ v1 = 0 → (oc f x0 34 ∧ (∃ v2 : Int32, vl f x0 211 = .int v2 ∧ (narrow .byte (.int v2) = .int v2 ∧ Q (.inl (some (.int v2))) s f))))))) : EvC l E w d MJ3_coder [.ref x0] s f Q :=
  EvC.of hst (by decide) (Nat.le_of_ble_eq_true rfl) (vJ3_coder_0  hT)
theorem vJ3_charAt_0 {l : Launch} {E : EN} {w : CO} {d : Nat} {s : CS} {f : RH} {Q : KO → CS → RH → Prop} {x0 : Nat} {x1 : Int32}  (hT : (oc f x0 34 ∧ EvC l E w d MJ3_isLatin1 [.ref x0] s f (fun o s1 f2 => KP o (fun r => ∃ v3 : Int32, r = some (.int v3) ∧ ((v3 = 0 → (oc f2 x0 34 ∧ (∃ a4 : Nat, vl f2 x0 210 = .ref a4 ∧ (EvC l E w d MJ6_charAt [.ref a4, .int x1] s1 f2 (fun o s5 f6 => KP o (fun r => ∃ v7 : Int32, r = some (.int v7) ∧ (narrow .char (.int v7) = .int v7 ∧ Q (.inl (some (.int v7))) s5 f6)) (fun k => Q (.inr k) s5 f6)))))) ∧ (¬ v3 = 0 → (oc f2 x0 34 ∧ (∃ a8 : Nat, vl f2 x0 210 = .ref a8 ∧ (EvC l E w d MJ4_charAt [.ref a8, .int x1] s1 f2 (fun o s9 f10 => KP o (fun r => ∃ v11 : Int32, r = some (.int v11) ∧ (narrow .char (.int v11) = .int v11 ∧ Q (.inl (some (.int v11))) s9 f10)) (fun k => Q (.inr k) s9 f10)))))))) (fun k => Q (.inr k) s1 f2)))) : ExC l E w (d + 1) MJ3_charAt 0 [some (.ref x0), some (.int x1)] [] s f Q := by
  intro f0 h hW hF
  refine x_aload_n dJ3_charAt_0 rfl rfl rfl ?_
  obtain ⟨hc, hT⟩ := hT
  obtain ⟨cc, hcc⟩ := hW.ocell hc
  refine c_invV (vs := []) dJ3_charAt_1 oJ3_isLatin1 q649 q648 hcc q650 (Or.inl rfl) rfl rfl (Nat.le_of_ble_eq_true rfl) rfl hW hF hT ?_ ?_
  · intro _ s1 f2 hT h hW hF
    obtain ⟨v3, rfl, hT⟩ := hT
    refine x_if_eq (tgt := 16) dJ3_charAt_4 rfl (fun c => ?_) (fun c => ?_)
    · replace hT := hT.1 c
      refine x_aload_n dJ3_charAt_16 rfl rfl rfl ?_
      obtain ⟨hc, hT⟩ := hT
      obtain ⟨a4, ev, hT⟩ := hT
      refine c_fgetG dJ3_charAt_17 f_java_lang_String_9 hc (by decide) (by decide) hW ev ?_
      refine x_iload_n dJ3_charAt_20 rfl rfl ?_
      refine c_invS (vs := [.ref a4, .int x1]) dJ3_charAt_21 oJ6_charAt q746 (Or.inl q745) rfl rfl (Nat.le_of_ble_eq_true rfl) rfl hW hF hT ?_ ?_
      · intro _ s5 f6 hT h hW hF
        obtain ⟨v7, rfl, hT⟩ := hT
        exact x_iret dJ3_charAt_24 rfl hT.1 ⟨_, _, hW, hF, Or.inl ⟨_, rfl, hT.2⟩⟩
      · intro k s5 f6 hT h a hW hx hF
        exact c_out (rfl) hW hx hF hT
    · replace hT := hT.2 c
      refine x_aload_n dJ3_charAt_7 rfl rfl rfl ?_
      obtain ⟨hc, hT⟩ := hT
      obtain ⟨a8, ev, hT⟩ := hT
      refine c_fgetG dJ3_charAt_8 f_java_lang_String_9 hc (by decide) (by decide) hW ev ?_
      refine x_iload_n dJ3_charAt_11 rfl rfl ?_
      refine c_invS (vs := [.ref a8, .int x1]) dJ3_charAt_12 oJ4_charAt q737 (Or.inl q736) rfl rfl (Nat.le_of_ble_eq_true rfl) rfl hW hF hT ?_ ?_
      · intro _ s9 f10 hT h hW hF
        obtain ⟨v11, rfl, hT⟩ := hT
        exact x_iret dJ3_charAt_15 rfl hT.1 ⟨_, _, hW, hF, Or.inl ⟨_, rfl, hT.2⟩⟩
      · intro k s9 f10 hT h a hW hx hF
        exact c_out (rfl) hW hx hF hT
  · intro k s1 f2 hT h a hW hx hF
    exact c_out (rfl) hW hx hF hT
theorem eJ3_charAt {l : Launch} {E : EN} {w : CO} {d : Nat} {s : CS} {f : RH} {Q : KO → CS → RH → Prop} {x0 : Nat} {x1 : Int32}  (hst : l.stackTraces = false) (hT : (oc f x0 34 ∧ EvC l E w d MJ3_isLatin1 [.ref x0] s f (fun o s1 f2 => KP o (fun r => ∃ v3 : Int32, r = some (.int v3) ∧ ((v3 = 0 → (oc f2 x0 34 ∧ (∃ a4 : Nat, vl f2 x0 210 = .ref a4 ∧ (EvC l E w d MJ6_charAt [.ref a4, .int x1] s1 f2 (fun o s5 f6 => KP o (fun r => ∃ v7 : Int32, r = some (.int v7) ∧ (narrow .char (.int v7) = .int v7 ∧ Q (.inl (some (.int v7))) s5 f6)) (fun k => Q (.inr k) s5 f6)))))) ∧ (¬ v3 = 0 → (oc f2 x0 34 ∧ (∃ a8 : Nat, vl f2 x0 210 = .ref a8 ∧ (EvC l E w d MJ4_charAt [.ref a8, .int x1] s1 f2 (fun o s9 f10 => KP o (fun r => ∃ v11 : Int32, r = some (.int v11) ∧ (narrow .char (.int v11) = .int v11 ∧ Q (.inl (some (.int v11))) s9 f10)) (fun k => Q (.inr k) s9 f10)))))))) (fun k => Q (.inr k) s1 f2)))) : EvC l E w (d + 1) MJ3_charAt [.ref x0, .int x1] s f Q :=
  EvC.of hst (by decide) (Nat.le_of_ble_eq_true rfl) (vJ3_charAt_0  hT)
theorem vJ3_checkIndex_0 {l : Launch} {E : EN} {w : CO} {d : Nat} {s : CS} {f : RH} {Q : KO → CS → RH → Prop} {x1 : Int32} {x2 : Int32}  (hT : (∃ v1 : Value, eSV E 6 = v1 ∧ isR v1 = true ∧ (EvC l E w d MJ7_checkIndex [.int x1, .int x2, v1] s f (fun o s2 f3 => KP o (fun r => ∃ v4 : Int32, r = some (.int v4) ∧ Q (.inl none) s2 f3) (fun k => Q (.inr k) s2 f3))))) : ExC l E w (d + 1) MJ3_checkIndex 0 [some (.int x1), some (.int x2)] [] s f Q := by
  intro f0 h hW hF
  refine x_iload_n dJ3_checkIndex_0 rfl rfl ?_
  refine x_iload_n dJ3_checkIndex_1 rfl rfl ?_
  obtain ⟨v1, es, iv1, hT⟩ := hT
  refine x_getstatic (i := 6) (ref := "") dJ3_checkIndex_2 rfl (Or.inl q695) ?_
  rw [es]
  refine c_invS (vs := [.int x1, .int x2, v1]) dJ3_checkIndex_5 oJ7_checkIndex q743 (Or.inl q742) rfl rfl (Nat.le_of_ble_eq_true rfl) rfl hW hF hT ?_ ?_
  · intro _ s2 f3 hT h hW hF
    obtain ⟨v4, rfl, hT⟩ := hT
    refine x_pop dJ3_checkIndex_8 rfl ?_
    exact x_vret dJ3_checkIndex_9 rfl ⟨_, _, hW, hF, Or.inl ⟨_, rfl, hT⟩⟩
  · intro k s2 f3 hT h a hW hx hF
    exact c_out (rfl) hW hx hF hT
theorem eJ3_checkIndex {l : Launch} {E : EN} {w : CO} {d : Nat} {s : CS} {f : RH} {Q : KO → CS → RH → Prop} {x1 : Int32} {x2 : Int32}  (hst : l.stackTraces = false) (hT : (∃ v1 : Value, eSV E 6 = v1 ∧ isR v1 = true ∧ (EvC l E w d MJ7_checkIndex [.int x1, .int x2, v1] s f (fun o s2 f3 => KP o (fun r => ∃ v4 : Int32, r = some (.int v4) ∧ Q (.inl none) s2 f3) (fun k => Q (.inr k) s2 f3))))) : EvC l E w (d + 1) MJ3_checkIndex [.int x1, .int x2] s f Q :=
  EvC.of hst (by decide) (Nat.le_of_ble_eq_true rfl) (vJ3_checkIndex_0  hT)
theorem vJ4_indexOf_0 {l : Launch} {E : EN} {w : CO} {d : Nat} {s : CS} {f : RH} {Q : KO → CS → RH → Prop} {x1 : Nat} {x2 : Int32} {x3 : Int32} {x4 : Int32}  (hT : (EvC l E w d MJ4_canEncode [.int x2] s f (fun o s1 f2 => KP o (fun r => ∃ v3 : Int32, r = some (.int v3) ∧ ((¬ v3 = 0 → (∀ y4 : Int32, y4 = (if x3 < 0 then 0 else x3) → (∃ t5 : Nat, tg f2 x1 = some (.inr t5) ∧ (∀ y6 : Int32, y6 = (if (nI (ln f2 x1)) < x4 then (nI (ln f2 x1)) else x4) → ((y4 < y6 → (EvC l E w d MJ4_indexOfChar [.ref x1, .int x2, .int y4, .int y6] s1 f2 (fun o s7 f8 => KP o (fun r => ∃ v9 : Int32, r = some (.int v9) ∧ Q (.inl (some (.int v9))) s7 f8) (fun k => Q (.inr k) s7 f8)))) ∧ (¬ y4 < y6 → Q (.inl (some (.int (-1)))) s1 f2)))))) ∧ (v3 = 0 → Q (.inl (some (.int (-1)))) s1 f2))) (fun k => Q (.inr k) s1 f2)))) : ExC l E w (d + 1) MJ4_indexOf 0 [some (.ref x1), some (.int x2), some (.int x3), some (.int x4)] [] s f Q := by
  intro f0 h hW hF
  refine x_iload_n dJ4_indexOf_0 rfl rfl ?_
  refine c_invS (vs := [.int x2]) dJ4_indexOf_1 oJ4_canEncode q666 (Or.inl q665) rfl rfl (Nat.le_of_ble_eq_true rfl) rfl hW hF hT ?_ ?_
  · intro _ s1 f2 hT h hW hF
    obtain ⟨v3, rfl, hT⟩ := hT
    refine x_if_ne (tgt := 9) dJ4_indexOf_4 rfl (fun c => ?_) (fun c => ?_)
    · replace hT := hT.1 c
      refine x_iload_n dJ4_indexOf_9 rfl rfl ?_
      refine x_iconst (v := 0) dJ4_indexOf_10 rfl ?_
      refine x_mmax dJ4_indexOf_11 q668 q669 q181 mq_max (Nat.le_of_ble_eq_true rfl) rfl ?_
      obtain ⟨y4, ey4⟩ : ∃ z : Int32, z = (if x3 < 0 then 0 else x3) := ⟨_, rfl⟩
      replace hT := hT y4 ey4
      refine x_istore_n (lo' := [some (.ref x1), some (.int x2), some (.int y4), some (.int x4)]) dJ4_indexOf_14 rfl (Nat.le_of_ble_eq_true rfl) (by rw [ey4]; exact rfl) ?_
      refine x_iload_n dJ4_indexOf_15 rfl rfl ?_
      refine x_aload_n dJ4_indexOf_16 rfl rfl rfl ?_
      obtain ⟨t5, hc, hT⟩ := hT
      refine c_alen dJ4_indexOf_17 hc hW ?_
      refine x_mmin dJ4_indexOf_18 q671 q672 q181 mq_min (Nat.le_of_ble_eq_true rfl) rfl ?_
      obtain ⟨y6, ey6⟩ : ∃ z : Int32, z = (if (nI (ln f2 x1)) < x4 then (nI (ln f2 x1)) else x4) := ⟨_, rfl⟩
      replace hT := hT y6 ey6
      refine x_istore_n (lo' := [some (.ref x1), some (.int x2), some (.int y4), some (.int y6)]) dJ4_indexOf_21 rfl (Nat.le_of_ble_eq_true rfl) (by rw [ey6]; exact rfl) ?_
      refine x_iload_n dJ4_indexOf_22 rfl rfl ?_
      refine x_iload_n dJ4_indexOf_23 rfl rfl ?_
      refine x_icmp_lt (tgt := 29) dJ4_indexOf_24 rfl (fun c => ?_) (fun c => ?_)
      · replace hT := hT.1 c
        refine x_aload_n dJ4_indexOf_29 rfl rfl rfl ?_
        refine x_iload_n dJ4_indexOf_30 rfl rfl ?_
        refine x_iload_n dJ4_indexOf_31 rfl rfl ?_
        refine x_iload_n dJ4_indexOf_32 rfl rfl ?_
        refine c_invS (vs := [.ref x1, .int x2, .int y4, .int y6]) dJ4_indexOf_33 oJ4_indexOfChar q675 (Or.inl q674) rfl rfl (Nat.le_of_ble_eq_true rfl) rfl hW hF hT ?_ ?_
        · intro _ s7 f8 hT h hW hF
          obtain ⟨v9, rfl, hT⟩ := hT
          exact x_iret dJ4_indexOf_36 rfl rfl ⟨_, _, hW, hF, Or.inl ⟨_, rfl, hT⟩⟩
        · intro k s7 f8 hT h a hW hx hF
          exact c_out (rfl) hW hx hF hT
      · replace hT := hT.2 c
        refine x_iconst (v := (-1)) dJ4_indexOf_27 rfl ?_
        exact x_iret dJ4_indexOf_28 rfl rfl ⟨_, _, hW, hF, Or.inl ⟨_, rfl, hT⟩⟩
    · replace hT := hT.2 c
      refine x_iconst (v := (-1)) dJ4_indexOf_7 rfl ?_
      exact x_iret dJ4_indexOf_8 rfl rfl ⟨_, _, hW, hF, Or.inl ⟨_, rfl, hT⟩⟩
  · intro k s1 f2 hT h a hW hx hF
    exact c_out (rfl) hW hx hF hT
theorem eJ4_indexOf {l : Launch} {E : EN} {w : CO} {d : Nat} {s : CS} {f : RH} {Q : KO → CS → RH → Prop} {x1 : Nat} {x2 : Int32} {x3 : Int32} {x4 : Int32}  (hst : l.stackTraces = false) (hT : (EvC l E w d MJ4_canEncode [.int x2] s f (fun o s1 f2 => KP o (fun r => ∃ v3 : Int32, r = some (.int v3) ∧ ((¬ v3 = 0 → (∀ y4 : Int32, y4 = (if x3 < 0 then 0 else x3) → (∃ t5 : Nat, tg f2 x1 = some (.inr t5) ∧ (∀ y6 : Int32, y6 = (if (nI (ln f2 x1)) < x4 then (nI (ln f2 x1)) else x4) → ((y4 < y6 → (EvC l E w d MJ4_indexOfChar [.ref x1, .int x2, .int y4, .int y6] s1 f2 (fun o s7 f8 => KP o (fun r => ∃ v9 : Int32, r = some (.int v9) ∧ Q (.inl (some (.int v9))) s7 f8) (fun k => Q (.inr k) s7 f8)))) ∧ (¬ y4 < y6 → Q (.inl (some (.int (-1)))) s1 f2)))))) ∧ (v3 = 0 → Q (.inl (some (.int (-1)))) s1 f2))) (fun k => Q (.inr k) s1 f2)))) : EvC l E w (d + 1) MJ4_indexOf [.ref x1, .int x2, .int x3, .int x4] s f Q :=
  EvC.of hst (by decide) (Nat.le_of_ble_eq_true rfl) (vJ4_indexOf_0  hT)
theorem vJ4_canEncode_0 {l : Launch} {E : EN} {w : CO} {d : Nat} {s : CS} {f : RH} {Q : KO → CS → RH → Prop} {x1 : Int32}  (hT : ((x1 < 0 → Q (.inl (some (.int 0))) s f) ∧ (¬ x1 < 0 → ((255 < x1 → Q (.inl (some (.int 0))) s f) ∧ (¬ 255 < x1 → Q (.inl (some (.int 1))) s f))))) : ExC l E w d MJ4_canEncode 0 [some (.int x1)] [] s f Q := by
  intro f0 h hW hF
  refine x_iload_n dJ4_canEncode_0 rfl rfl ?_
  refine x_if_lt (tgt := 15) dJ4_canEncode_1 rfl (fun c => ?_) (fun c => ?_)
  · replace hT := hT.1 c
    refine x_iconst (v := 0) dJ4_canEncode_15 rfl ?_
    exact x_iret dJ4_canEncode_16 rfl rfl ⟨_, _, hW, hF, Or.inl ⟨_, rfl, hT⟩⟩
  · replace hT := hT.2 c
    refine x_iload_n dJ4_canEncode_4 rfl rfl ?_
    refine x_sipush (v := 255) dJ4_canEncode_5 rfl ?_
    refine x_icmp_gt (tgt := 15) dJ4_canEncode_8 rfl (fun c => ?_) (fun c => ?_)
    · replace hT := hT.1 c
      refine x_iconst (v := 0) dJ4_canEncode_15 rfl ?_
      exact x_iret dJ4_canEncode_16 rfl rfl ⟨_, _, hW, hF, Or.inl ⟨_, rfl, hT⟩⟩
    · replace hT := hT.2 c
      refine x_iconst (v := 1) dJ4_canEncode_11 rfl ?_
      refine x_goto (tgt := 16) dJ4_canEncode_12 rfl ?_
      exact x_iret dJ4_canEncode_16 rfl rfl ⟨_, _, hW, hF, Or.inl ⟨_, rfl, hT⟩⟩
theorem eJ4_canEncode {l : Launch} {E : EN} {w : CO} {d : Nat} {s : CS} {f : RH} {Q : KO → CS → RH → Prop} {x1 : Int32}  (hst : l.stackTraces = false) (hT : ((x1 < 0 → Q (.inl (some (.int 0))) s f) ∧ (¬ x1 < 0 → ((255 < x1 → Q (.inl (some (.int 0))) s f) ∧ (¬ 255 < x1 → Q (.inl (some (.int 1))) s f))))) : EvC l E w d MJ4_canEncode [.int x1] s f Q :=
  EvC.of hst (by decide) (Nat.le_of_ble_eq_true rfl) (vJ4_canEncode_0  hT)
theorem vJ4_indexOfChar_0 {l : Launch} {E : EN} {w : CO} {d : Nat} {s : CS} {f : RH} {Q : KO → CS → RH → Prop} {x1 : Nat} {x2 : Int32} {x3 : Int32} {x4 : Int32}  (hT : (∀ y1 : Int32, y1 = x2.toInt8.toInt32 → ExC l E w d MJ4_indexOfChar 7 [some (.ref x1), none, none, some (.int x4), some (.int y1), some (.int x3)] [] s f Q)) : ExC l E w d MJ4_indexOfChar 0 [some (.ref x1), some (.int x2), some (.int x3), some (.int x4), none, none] [] s f Q := by
  intro f0 h hW hF
  refine x_iload_n dJ4_indexOfChar_0 rfl rfl ?_
  refine x_i2b dJ4_indexOfChar_1 ?_
  obtain ⟨y1, ey1⟩ : ∃ z : Int32, z = x2.toInt8.toInt32 := ⟨_, rfl⟩
  replace hT := hT y1 ey1
  refine x_istore (lo' := [some (.ref x1), some (.int x2), some (.int x3), some (.int x4), some (.int y1), none]) dJ4_indexOfChar_2 (Nat.le_of_ble_eq_true rfl) (by rw [ey1]; exact rfl) ?_
  refine x_iload_n dJ4_indexOfChar_4 rfl rfl ?_
  refine x_istore (lo' := [some (.ref x1), some (.int x2), some (.int x3), some (.int x4), some (.int y1), some (.int x3)]) dJ4_indexOfChar_5 (Nat.le_of_ble_eq_true rfl) rfl ?_
  refine Ex.wkl (lo' := [some (.ref x1), none, none, some (.int x4), some (.int y1), some (.int x3)]) ⟨rfl, rfl, rfl, rfl, trivial⟩ ?_
  exact hT f0 h hW hF
theorem eJ4_indexOfChar {l : Launch} {E : EN} {w : CO} {d : Nat} {s : CS} {f : RH} {Q : KO → CS → RH → Prop} {x1 : Nat} {x2 : Int32} {x3 : Int32} {x4 : Int32}  (hst : l.stackTraces = false) (hT : (∀ y1 : Int32, y1 = x2.toInt8.toInt32 → ExC l E w d MJ4_indexOfChar 7 [some (.ref x1), none, none, some (.int x4), some (.int y1), some (.int x3)] [] s f Q)) : EvC l E w d MJ4_indexOfChar [.ref x1, .int x2, .int x3, .int x4] s f Q :=
  EvC.of hst (by decide) (Nat.le_of_ble_eq_true rfl) (vJ4_indexOfChar_0  hT)
theorem vJ4_indexOfChar_7 {l : Launch} {E : EN} {w : CO} {d : Nat} {s : CS} {f : RH} {Q : KO → CS → RH → Prop} {b0 : Nat} {b3 : Int32} {b4 : Int32} {b5 : Int32}  (hT : ((b3 ≤ b5 → Q (.inl (some (.int (-1)))) s f) ∧ (¬ b3 ≤ b5 → (∃ t2 : Nat, (t2 = 2 ∨ t2 = 3) ∧ (tg f b0 = some (.inr t2) ∧ inB b5 (ln f b0) ∧ (∃ v3 : Int32, vl f b0 b5.toNatClampNeg = .int v3 ∧ ((¬ v3 = b4 → ExC l E w d MJ4_indexOfChar 7 [some (.ref b0), none, none, some (.int b3), some (.int b4), some (.int (b5 + 1))] [] s f Q) ∧ (v3 = b4 → Q (.inl (some (.int b5))) s f)))))))) : ExC l E w d MJ4_indexOfChar 7 [some (.ref b0), none, none, some (.int b3), some (.int b4), some (.int b5)] [] s f Q := by
  intro f0 h hW hF
  refine x_iload dJ4_indexOfChar_7 rfl ?_
  refine x_iload_n dJ4_indexOfChar_9 rfl rfl ?_
  refine x_icmp_ge (tgt := 31) dJ4_indexOfChar_10 rfl (fun c => ?_) (fun c => ?_)
  · replace hT := hT.1 c
    refine x_iconst (v := (-1)) dJ4_indexOfChar_31 rfl ?_
    exact x_iret dJ4_indexOfChar_32 rfl rfl ⟨_, _, hW, hF, Or.inl ⟨_, rfl, hT⟩⟩
  · replace hT := hT.2 c
    refine x_aload_n dJ4_indexOfChar_13 rfl rfl rfl ?_
    refine x_iload dJ4_indexOfChar_14 rfl ?_
    obtain ⟨t2, ht2, hc, hT⟩ := hT
    obtain ⟨hb, hT⟩ := hT
    obtain ⟨v3, ev, hT⟩ := hT
    refine c_fbald dJ4_indexOfChar_16 hc ht2 hb hW ev ?_
    refine x_iload dJ4_indexOfChar_17 rfl ?_
    refine x_icmp_ne (tgt := 25) dJ4_indexOfChar_19 rfl (fun c => ?_) (fun c => ?_)
    · replace hT := hT.1 c
      refine x_iinc (lo' := [some (.ref b0), none, none, some (.int b3), some (.int b4), some (.int (b5 + 1))]) dJ4_indexOfChar_25 rfl (show _ = (b5 + 1) from rfl) rfl ?_
      refine x_goto (tgt := 7) dJ4_indexOfChar_28 rfl ?_
      exact hT f0 h hW hF
    · replace hT := hT.2 c
      refine x_iload dJ4_indexOfChar_22 rfl ?_
      exact x_iret dJ4_indexOfChar_24 rfl rfl ⟨_, _, hW, hF, Or.inl ⟨_, rfl, hT⟩⟩
theorem vJ7_checkIndex_0 {l : Launch} {E : EN} {w : CO} {d : Nat} {s : CS} {f : RH} {Q : KO → CS → RH → Prop} {x1 : Int32} {x2 : Int32} {x3 : Value} (ix3 : isR x3 = true) (hT : ((x1 < 0 → False) ∧ (¬ x1 < 0 → ((x1 < x2 → Q (.inl (some (.int x1))) s f) ∧ (¬ x1 < x2 → False))))) : ExC l E w (d + 1) MJ7_checkIndex 0 [some (.int x1), some (.int x2), some (x3)] [] s f Q := by
  intro f0 h hW hF
  refine x_iload_n dJ7_checkIndex_0 rfl rfl ?_
  refine x_if_lt (tgt := 9) dJ7_checkIndex_1 rfl (fun c => ?_) (fun c => ?_)
  · replace hT := hT.1 c
    refine x_aload_n dJ7_checkIndex_9 rfl rfl ix3 ?_
    refine x_iload_n dJ7_checkIndex_10 rfl rfl ?_
    refine x_iload_n dJ7_checkIndex_11 rfl rfl ?_
    exact hT.elim
  · replace hT := hT.2 c
    refine x_iload_n dJ7_checkIndex_4 rfl rfl ?_
    refine x_iload_n dJ7_checkIndex_5 rfl rfl ?_
    refine x_icmp_lt (tgt := 16) dJ7_checkIndex_6 rfl (fun c => ?_) (fun c => ?_)
    · replace hT := hT.1 c
      refine x_iload_n dJ7_checkIndex_16 rfl rfl ?_
      exact x_iret dJ7_checkIndex_17 rfl rfl ⟨_, _, hW, hF, Or.inl ⟨_, rfl, hT⟩⟩
    · replace hT := hT.2 c
      refine x_aload_n dJ7_checkIndex_9 rfl rfl ix3 ?_
      refine x_iload_n dJ7_checkIndex_10 rfl rfl ?_
      refine x_iload_n dJ7_checkIndex_11 rfl rfl ?_
      exact hT.elim
theorem eJ7_checkIndex {l : Launch} {E : EN} {w : CO} {d : Nat} {s : CS} {f : RH} {Q : KO → CS → RH → Prop} {x1 : Int32} {x2 : Int32} {x3 : Value} (ix3 : isR x3 = true) (hst : l.stackTraces = false) (hT : ((x1 < 0 → False) ∧ (¬ x1 < 0 → ((x1 < x2 → Q (.inl (some (.int x1))) s f) ∧ (¬ x1 < x2 → False))))) : EvC l E w (d + 1) MJ7_checkIndex [.int x1, .int x2, x3] s f Q :=by
  rcases isR_cases ix3 with rfl | ⟨_, rfl⟩ <;> exact
  
  EvC.of hst (by decide) (Nat.le_of_ble_eq_true rfl) (vJ7_checkIndex_0 ix3 hT)
theorem vJ3_checkBoundsBeginEnd_0 {l : Launch} {E : EN} {w : CO} {d : Nat} {s : CS} {f : RH} {Q : KO → CS → RH → Prop} {x1 : Int32} {x2 : Int32} {x3 : Int32}  (hT : (∃ v1 : Value, eSV E 6 = v1 ∧ isR v1 = true ∧ (EvC l E w d MJ7_checkFromToIndex [.int x1, .int x2, .int x3, v1] s f (fun o s2 f3 => KP o (fun r => ∃ v4 : Int32, r = some (.int v4) ∧ Q (.inl none) s2 f3) (fun k => Q (.inr k) s2 f3))))) : ExC l E w (d + 1) MJ3_checkBoundsBeginEnd 0 [some (.int x1), some (.int x2), some (.int x3)] [] s f Q := by
  intro f0 h hW hF
  refine x_iload_n dJ3_checkBoundsBeginEnd_0 rfl rfl ?_
  refine x_iload_n dJ3_checkBoundsBeginEnd_1 rfl rfl ?_
  refine x_iload_n dJ3_checkBoundsBeginEnd_2 rfl rfl ?_
  obtain ⟨v1, es, iv1, hT⟩ := hT
  refine x_getstatic (i := 6) (ref := "") dJ3_checkBoundsBeginEnd_3 rfl (Or.inl q695) ?_
  rw [es]
  refine c_invS (vs := [.int x1, .int x2, .int x3, v1]) dJ3_checkBoundsBeginEnd_6 oJ7_checkFromToIndex q698 (Or.inl q697) rfl rfl (Nat.le_of_ble_eq_true rfl) rfl hW hF hT ?_ ?_
  · intro _ s2 f3 hT h hW hF
    obtain ⟨v4, rfl, hT⟩ := hT
    refine x_pop dJ3_checkBoundsBeginEnd_9 rfl ?_
    exact x_vret dJ3_checkBoundsBeginEnd_10 rfl ⟨_, _, hW, hF, Or.inl ⟨_, rfl, hT⟩⟩
  · intro k s2 f3 hT h a hW hx hF
    exact c_out (rfl) hW hx hF hT
theorem eJ3_checkBoundsBeginEnd {l : Launch} {E : EN} {w : CO} {d : Nat} {s : CS} {f : RH} {Q : KO → CS → RH → Prop} {x1 : Int32} {x2 : Int32} {x3 : Int32}  (hst : l.stackTraces = false) (hT : (∃ v1 : Value, eSV E 6 = v1 ∧ isR v1 = true ∧ (EvC l E w d MJ7_checkFromToIndex [.int x1, .int x2, .int x3, v1] s f (fun o s2 f3 => KP o (fun r => ∃ v4 : Int32, r = some (.int v4) ∧ Q (.inl none) s2 f3) (fun k => Q (.inr k) s2 f3))))) : EvC l E w (d + 1) MJ3_checkBoundsBeginEnd [.int x1, .int x2, .int x3] s f Q :=
  EvC.of hst (by decide) (Nat.le_of_ble_eq_true rfl) (vJ3_checkBoundsBeginEnd_0  hT)
theorem vJ7_checkFromToIndex_0 {l : Launch} {E : EN} {w : CO} {d : Nat} {s : CS} {f : RH} {Q : KO → CS → RH → Prop} {x1 : Int32} {x2 : Int32} {x3 : Int32} {x4 : Value} (ix4 : isR x4 = true) (hT : ((x1 < 0 → False) ∧ (¬ x1 < 0 → ((x2 < x1 → False) ∧ (¬ x2 < x1 → ((x2 ≤ x3 → Q (.inl (some (.int x1))) s f) ∧ (¬ x2 ≤ x3 → False))))))) : ExC l E w (d + 1) MJ7_checkFromToIndex 0 [some (.int x1), some (.int x2), some (.int x3), some (x4)] [] s f Q := by
  intro f0 h hW hF
  refine x_iload_n dJ7_checkFromToIndex_0 rfl rfl ?_
  refine x_if_lt (tgt := 14) dJ7_checkFromToIndex_1 rfl (fun c => ?_) (fun c => ?_)
  · replace hT := hT.1 c
    refine x_aload_n dJ7_checkFromToIndex_14 rfl rfl ix4 ?_
    refine x_iload_n dJ7_checkFromToIndex_15 rfl rfl ?_
    refine x_iload_n dJ7_checkFromToIndex_16 rfl rfl ?_
    refine x_iload_n dJ7_checkFromToIndex_17 rfl rfl ?_
    exact hT.elim
  · replace hT := hT.2 c
    refine x_iload_n dJ7_checkFromToIndex_4 rfl rfl ?_
    refine x_iload_n dJ7_checkFromToIndex_5 rfl rfl ?_
    refine x_icmp_gt (tgt := 14) dJ7_checkFromToIndex_6 rfl (fun c => ?_) (fun c => ?_)
    · replace hT := hT.1 c
      refine x_aload_n dJ7_checkFromToIndex_14 rfl rfl ix4 ?_
      refine x_iload_n dJ7_checkFromToIndex_15 rfl rfl ?_
      refine x_iload_n dJ7_checkFromToIndex_16 rfl rfl ?_
      refine x_iload_n dJ7_checkFromToIndex_17 rfl rfl ?_
      exact hT.elim
    · replace hT := hT.2 c
      refine x_iload_n dJ7_checkFromToIndex_9 rfl rfl ?_
      refine x_iload_n dJ7_checkFromToIndex_10 rfl rfl ?_
      refine x_icmp_le (tgt := 22) dJ7_checkFromToIndex_11 rfl (fun c => ?_) (fun c => ?_)
      · replace hT := hT.1 c
        refine x_iload_n dJ7_checkFromToIndex_22 rfl rfl ?_
        exact x_iret dJ7_checkFromToIndex_23 rfl rfl ⟨_, _, hW, hF, Or.inl ⟨_, rfl, hT⟩⟩
      · replace hT := hT.2 c
        refine x_aload_n dJ7_checkFromToIndex_14 rfl rfl ix4 ?_
        refine x_iload_n dJ7_checkFromToIndex_15 rfl rfl ?_
        refine x_iload_n dJ7_checkFromToIndex_16 rfl rfl ?_
        refine x_iload_n dJ7_checkFromToIndex_17 rfl rfl ?_
        exact hT.elim
theorem eJ7_checkFromToIndex {l : Launch} {E : EN} {w : CO} {d : Nat} {s : CS} {f : RH} {Q : KO → CS → RH → Prop} {x1 : Int32} {x2 : Int32} {x3 : Int32} {x4 : Value} (ix4 : isR x4 = true) (hst : l.stackTraces = false) (hT : ((x1 < 0 → False) ∧ (¬ x1 < 0 → ((x2 < x1 → False) ∧ (¬ x2 < x1 → ((x2 ≤ x3 → Q (.inl (some (.int x1))) s f) ∧ (¬ x2 ≤ x3 → False))))))) : EvC l E w (d + 1) MJ7_checkFromToIndex [.int x1, .int x2, .int x3, x4] s f Q :=by
  rcases isR_cases ix4 with rfl | ⟨_, rfl⟩ <;> exact
  
  EvC.of hst (by decide) (Nat.le_of_ble_eq_true rfl) (vJ7_checkFromToIndex_0 ix4 hT)
