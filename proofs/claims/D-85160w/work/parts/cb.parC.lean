/-! THE READER'S FUNCTIONS: parameters -/
section PC
variable {l : Launch} {E : EN} {w : CO} {wm : MO} {dt d : Nat} {ch : Nat → Nat} {n hf p o x0 nw na ca cap c : Nat} {vs vs' : List Nat} {O : Nat → Od} {A : List (Nat × Nat × Nat)} {B : List Tok} {s : CS} {f f' : RH} {Q : KO → CS → RH → Prop} {F : Nat → Nat → Prop} {G : Nat → List Nat → Prop}
theorem PR_step (hst : l.stackTraces = false) (hl : vs.length ≤ 4) {t : Tok} (et : tk ch n p = t)
    (hno : ¬ (t.1 = 1 ∧ kw t = 41) → F (wk t) t.2.1) (hfull : t.1 = 1 → kw t = 41 → vs.length = 4 → F 3 t.2.1) (hdup : t.1 = 1 → kw t = 41 → vs.length < 4 → dupN vs t.2.2.1 → F 4 t.2.1)
    (hend : t.1 = 1 → kw t = 41 → vs.length < 4 → ¬ dupN vs t.2.2.1 → ¬ ((tk ch n t.2.2.2).1 = 3 ∧ (tk ch n t.2.2.2).2.2.1 = 44) → PR l E wm dt ch n hf o O c B 0 t.2.2.2 (vs ++ [t.2.2.1]) F G)
    (hmore : t.1 = 1 → kw t = 41 → vs.length < 4 → ¬ dupN vs t.2.2.1 → (tk ch n t.2.2.2).1 = 3 → (tk ch n t.2.2.2).2.2.1 = 44 → PR l E wm dt ch n hf o O c B 1 (tk ch n t.2.2.2).2.2.2 (vs ++ [t.2.2.1]) F G) : PR l E wm dt ch n hf o O c B 1 p vs F G := by
  intro s0 s Q h hF hG
  exact P_step hst h hl et (fun z s' h1 h2 => hF _ _ (hno z) s' h1 h2) (fun z1 z2 z3 s' h1 h2 => hF _ _ (hfull z1 z2 z3) s' h1 h2) (fun z1 z2 z3 z4 s' h1 h2 => hF _ _ (hdup z1 z2 z3 z4) s' h1 h2) (fun z1 z2 z3 z4 z5 s' h1 => hend z1 z2 z3 z4 z5 s0 s' Q h1 hF hG) (fun z1 z2 z3 z4 z5 z6 s' h1 => hmore z1 z2 z3 z4 z5 z6 s0 s' Q h1 hF hG)
theorem PR_end (hst : l.stackTraces = false) (hno : ¬ ((tk ch n p).1 = 3 ∧ (tk ch n p).2.2.1 = 41) → F (wk (tk ch n p)) (tk ch n p).2.1) (hok : (tk ch n p).1 = 3 → (tk ch n p).2.2.1 = 41 → G (tk ch n p).2.2.2 vs) : PR l E wm dt ch n hf o O c B 0 p vs F G := by
  intro s0 s Q h hF hG
  exact P_end hst h (by omega) (fun z s' h1 h2 => hF _ _ (hno z) s' h1 h2) (fun z1 z2 s' h1 => hG _ _ (hok z1 z2) s' h1)
/-- names anew -/
theorem rdR.mk2 (h : rdR w f x0 nw na ca cap vs A) (gg : gZ [nw, na] f f') (sz : f'.1 = f.1) (h156 : vl f' nw 156 = .int (nI vs'.length)) (h157 : vl f' nw 157 = .ref na) (hl : vs'.length ≤ 14) (hv : ∀ v ∈ vs', v < 27 ^ 8) (hk : ∀ k, k < vs'.length → vl f' na k = .long (lN (cv (vs'.getD k 0)))) : rdR w f' x0 nw na ca cap vs' A := by
  obtain ⟨n1, n2, n3, n4, n5, n6⟩ := h.ne
  obtain ⟨⟨h1, h2, h3, h4⟩, ⟨i1, i2, i3, i4, i5, i6⟩, ⟨j1, j2, j3, j4, j5, j6, j7⟩, ⟨k1, k2, k3, k4, k5, k6, k7, k8⟩⟩ := id h
  have c0 := gg.ce h3 (by simp only [List.mem_cons, List.not_mem_nil, or_false]; omega)
  have c3 := gg.ce k3 (by simp only [List.mem_cons, List.not_mem_nil, or_false]; omega)
  refine ⟨⟨ocE c0 h1, by rw [(cellE c0).2.2]; exact h2, by omega, by rw [gg.2.1]; exact h4⟩, ⟨by rw [(cellE c0).2.2]; exact i1, gg.oc i2 i3, by omega, by rw [gg.2.1]; exact i4, h156, h157⟩, ⟨by rw [(gg.2.2.2 na j3).1]; exact j1, by rw [(gg.2.2.2 na j3).2]; exact j2, by omega, by rw [gg.2.1]; exact j4, hl, hv, hk⟩, ⟨by rw [(cellE c0).2.2]; exact k1, by rw [(cellE c3).1]; exact k2, by omega, by rw [gg.2.1]; exact k4, by rw [(cellE c3).2.1]; exact k5, by rw [(cellE c0).2.2]; exact k6, k7, fun k hk => ?_⟩⟩
  obtain ⟨q1, q2, q3⟩ := k8 k hk
  exact ⟨by rw [(cellE c3).2.2]; exact q1, gg.oc q2 q3, by omega⟩
theorem rdR.par {v : Nat} (h : rdR w f x0 nw na ca cap vs A) (hv : v < 27 ^ 8) (hl : vs.length < 14) : ∀ f1 f2 f3, f1 = fset f na vs.length (.long (lN (cv v))) → f2 = fset f1 nw 155 (.int (nI (vs.length + 1))) → f3 = fset f2 nw 156 (.int (nI (vs.length + 1))) → rdR w f3 x0 nw na ca cap (vs ++ [v]) A ∧ vl f3 nw 155 = .int (nI (vs.length + 1)) ∧ gZ [nw, na] f f3 ∧ (f3.1 = f.1 ∧ f3.2.1 = f.2.1) ∧ ∀ j, ¬ j = 155 → ¬ j = 156 → vl f3 nw j = vl f nw j := by
  intro f1 f2 f3 e1 e2 e3
  obtain ⟨n1, n2, n3, n4, n5, n6⟩ := h.ne
  obtain ⟨-, ⟨i1, i2, i3, i4, i5, i6⟩, ⟨j1, j2, j3, j4, j5, j6, j7⟩, -⟩ := id h
  have ga : gZ [nw, na] f f1 := by rw [e1]; exact (gZ.set na _ _).mono (fun a ha => Or.inl (by rw [List.mem_singleton.mp ha]; simp))
  have gb : gZ [nw, na] f1 f2 := by rw [e2]; exact (gZ.set nw _ _).mono (fun a ha => Or.inl (by rw [List.mem_singleton.mp ha]; simp))
  have gc : gZ [nw, na] f2 f3 := by rw [e3]; exact (gZ.set nw _ _).mono (fun a ha => Or.inl (by rw [List.mem_singleton.mp ha]; simp))
  have gg := (ga.trans gb (fun _ h => Or.inl h)).trans gc (fun _ h => Or.inl h)
  have sz : f3.1 = f.1 ∧ f3.2.1 = f.2.1 := by rw [e3, e2, e1]; exact ⟨rfl, rfl⟩
  have cnw : f1.2.2.1 nw = f.2.2.1 nw := by rw [e1]; exact set_cell n4
  have o1 : oc f1 nw 12 := ocE cnw i2
  have o2 : oc f2 nw 12 := by rw [e2]; exact set_oc o1
  have cna : f3.2.2.1 na = f1.2.2.1 na := by
    rw [e3]; refine (set_cell (fun e => n4 e.symm)).trans ?_
    rw [e2]; exact set_cell (fun e => n4 e.symm)
  have oth : ∀ j, ¬ j = 155 → ¬ j = 156 → vl f3 nw j = vl f nw j := by
    intro j h1 h2
    rw [e3]; refine (set_vn o2.1 h2).trans ?_
    rw [e2]; refine (set_vn o1.1 h1).trans ?_
    rw [(cellE cnw).2.2]
  have hlen : (vs ++ [v]).length = vs.length + 1 := by rw [List.length_append]; rfl
  refine ⟨h.mk2 gg sz.1 (by rw [e3, hlen]; exact set_vl o2.1) ((oth 157 (by decide) (by decide)).trans i6) (by rw [hlen]; omega) (fun u hu => ?_) (fun k hk => ?_), ?_, gg, sz, oth⟩
  · rcases List.mem_append.mp hu with hu | hu
    · exact j6 u hu
    · rw [List.mem_singleton.mp hu]; exact hv
  · rw [hlen] at hk
    rw [(cellE cna).2.2]
    by_cases ek : k = vs.length
    · subst ek
      rw [getD_last, e1]; exact set_vl j1
    · rw [getD_app1 _ _ (by omega), e1]; exact (set_vn j1 ek).trans (j7 k (by omega))
  · rw [e3]; refine (set_vn o2.1 (by decide)).trans ?_
    rw [e2]; exact set_vl o1.1
theorem cv_cmp {a b : Nat} (ha : a < 27 ^ 8) (hb : b < 27 ^ 8) : lg_cmp (lN (cv a)) (lN (cv b)) = 0 ↔ a = b := (lN_cmp (cv_lt a) (cv_lt b)).trans (cv_inj ha hb)
set_option maxHeartbeats 1000000 in
/-- one parameter -/
theorem R_param (hst : l.stackTraces = false) (h : cSc ch n p o s) (hc : cKc E f) (hr : rdR w f x0 nw na ca cap vs A) (h155 : vl f nw 155 = .int (nI vs.length)) (h4 : vs.length ≤ 4) (hfb : f.2.2.2 ≤ f.1) {t : Tok} (et : tk ch n p = t)
    (hno : ¬ (t.1 = 1 ∧ kw t = 41) → ∀ s', cFl s s' 2 t.2.1 → Q (.inr 1) s' f)
    (hfull : t.1 = 1 → kw t = 41 → vs.length = 4 → ∀ s', cFl s s' 3 t.2.1 → Q (.inr 1) s' f)
    (hdup : t.1 = 1 → kw t = 41 → vs.length < 4 → dupN vs t.2.2.1 → ∀ s', cFl s s' 4 t.2.1 → Q (.inr 1) s' f)
    (hbad : t.1 = 1 → kw t = 41 → vs.length < 4 → ¬ dupN vs t.2.2.1 → (tk ch n t.2.2.2).1 = 4 → ∀ s' f', cFl s s' 1 (tk ch n t.2.2.2).2.1 → f'.2.1 = f.2.1 → Q (.inr 1) s' f')
    (hok : t.1 = 1 → kw t = 41 → vs.length < 4 → ¬ dupN vs t.2.2.1 → ∀ s' f', cfP s s' → cSc ch n t.2.2.2 o s' → rdR w f' x0 nw na ca cap (vs ++ [t.2.2.1]) A → vl f' nw 155 = .int (nI (vs.length + 1)) → gZ [nw, na] f f' → f'.1 = f.1 → f'.2.1 = f.2.1 → (∀ j, ¬ j = 155 → ¬ j = 156 → vl f' nw j = vl f nw j) → Q (.inl none) s' f') : EvC l E w (d + 9) MX11_parameter [.ref x0] s f Q := by
  subst et
  obtain ⟨n1, n2, n3, n4, n5, n6⟩ := hr.ne
  obtain ⟨r1, r2, r3, r4⟩ := id hr
  refine eR11_parameter hst ⟨r1.1, R_wantName hst h hc r1.1 r1.2.1 hno (fun z1 z2 => ⟨rfl, r1.1, nw, r2.1, r2.2.1, _, h155, ?_⟩)⟩
  obtain ⟨w1, w2, w3, w4⟩ := tk_word z1
  refine bn_eq vs.length 4 (fun z4 => ⟨r1.1, r1.2.1, ?_⟩) (fun z4 => ⟨r1.1, r1.2.1, r1.1, r1.2.1, eX2_wrong hst ⟨rfl, hfull z1 z2 z4 _ ⟨(cfP.uI _ 14 _).trans (cfP.uI _ 15 _), rfl, h.2.1.1.2.1⟩⟩⟩) rfl rfl
  have hl4 : vs.length < 4 := by omega
  replace hdup := hdup z1 z2 hl4
  replace hbad := hbad z1 z2 hl4
  replace hok := hok z1 z2 hl4
  refine C_name hst h.1 h.2.1.1 h.2.1.2.1 z1 ⟨_, rfl, R_isShelf hst w4 ⟨_, rfl, ?_⟩⟩
  have nam : ∀ {Q' : KO → CS → RH → Prop}, Q' (.inl (some (.long (lN (cv (tk ch n p).2.2.1))))) s f → EvC l E w (d + 8) MX2_name [.ref (w.1 2)] s f Q' := fun hQ => C_name hst h.1 h.2.1.1 h.2.1.2.1 z1 hQ
  obtain ⟨v, ev⟩ : ∃ v, v = (tk ch n p).2.2.1 := ⟨_, rfl⟩
  rw [← ev] at hdup hbad hok w4 nam ⊢
  have fin : ∀ b : Bool, (b = true ↔ dupN vs v) → ((bI b = 0 → (oc f x0 11 ∧ (∃ a16 : Nat, vl f x0 150 = .ref a16 ∧ (oc f a16 12 ∧ (∃ a17 : Nat, vl f a16 157 = .ref a17 ∧ (oc f x0 11 ∧ (∃ a18 : Nat, vl f x0 150 = .ref a18 ∧ (oc f a18 12 ∧ (∃ v19 : Int32, vl f a18 155 = .int v19 ∧ (oc f x0 11 ∧ vl f x0 147 = .ref (w.1 2) ∧ (EvC l E w (d + 8) MX2_name [.ref (w.1 2)] s f (fun o s20 f21 => KP o (fun r => ∃ v22 : Int64, r = some (.long v22) ∧ (tg f21 a17 = some (.inr 1) ∧ inB v19 (ln f21 a17) ∧ f21.2.2.2 ≤ a17 ∧ ∀ f23 : RH, f23 = fset f21 a17 v19.toNatClampNeg (.long v22) → (oc f23 x0 11 ∧ (∃ a24 : Nat, vl f23 x0 150 = .ref a24 ∧ (oc f23 a24 12 ∧ (∃ v25 : Int32, vl f23 a24 155 = .int v25 ∧ (oc f23 a24 12 ∧ f23.2.2.2 ≤ a24 ∧ ∀ f26 : RH, f26 = fset f23 a24 155 (.int (v25 + 1)) → (oc f26 x0 11 ∧ (∃ a27 : Nat, vl f26 x0 150 = .ref a27 ∧ (oc f26 a27 12 ∧ (∃ v28 : Int32, vl f26 a27 156 = .int v28 ∧ (oc f26 a27 12 ∧ f26.2.2.2 ≤ a27 ∧ ∀ f29 : RH, f29 = fset f26 a27 156 (.int (v28 + 1)) → (oc f29 x0 11 ∧ vl f29 x0 147 = .ref (w.1 2) ∧ (EvC l E w (d + 8) MX2_next [.ref (w.1 2)] s20 f29 (fun o s30 f31 => KP o (fun r => r = none ∧ Q (.inl none) s30 f31) (fun k => Q (.inr k) s30 f31)))))))))))))))) (fun k => Q (.inr k) s20 f21))))))))))))) ∧ (¬ bI b = 0 → (oc f x0 11 ∧ vl f x0 147 = .ref (w.1 2) ∧ (oc f x0 11 ∧ vl f x0 147 = .ref (w.1 2) ∧ (EvC l E w (d + 8) MX2_wrong [.ref (w.1 2), .int 4, .int (s.1 21)] s f (fun o s32 f33 => KP o (fun r => r = some (.ref (w.1 1)) ∧ Q (.inr 1) s32 f33) (fun k => Q (.inr k) s32 f33))))))) := by
    intro b hb
    cases b with
    | true => exact ⟨fun z => absurd z (by decide), fun _ => ⟨r1.1, r1.2.1, r1.1, r1.2.1, eX2_wrong hst ⟨rfl, hdup (hb.mp rfl) _ ⟨(cfP.uI _ 14 _).trans (cfP.uI _ 15 _), rfl, h.2.1.1.2.1⟩⟩⟩⟩
    | false =>
      have hnd : ¬ dupN vs v := fun z => absurd (hb.mpr z) (by decide)
      refine ⟨fun _ => ⟨r1.1, nw, r2.1, r2.2.1, na, r2.2.2.2.2.2, r1.1, nw, r2.1, r2.2.1, _, h155, r1.1, r1.2.1, nam ⟨_, rfl, r3.1, by rw [r3.2.1]; exact inB_n (by omega), r3.2.2.2.1, fun f1 e1 => ?_⟩⟩, fun z => absurd rfl z⟩
      rw [nI_clamp (by omega)] at e1
      have c0 : f1.2.2.1 x0 = f.2.2.1 x0 := by rw [e1]; exact set_cell n2
      have cn : f1.2.2.1 nw = f.2.2.1 nw := by rw [e1]; exact set_cell n4
      have o1 := ocE cn r2.2.1
      have cb1 : f1.2.2.2 = f.2.2.2 := by rw [e1]; rfl
      refine ⟨ocE c0 r1.1, nw, by rw [(cellE c0).2.2]; exact r2.1, o1, _, by rw [(cellE cn).2.2]; exact h155, o1, by rw [cb1]; exact r2.2.2.2.1, fun f2 e2 => ?_⟩
      rw [← nI_succ] at e2
      have c02 : f2.2.2.1 x0 = f1.2.2.1 x0 := by rw [e2]; exact set_cell n1
      have o2 : oc f2 nw 12 := by rw [e2]; exact set_oc o1
      have cb2 : f2.2.2.2 = f.2.2.2 := by rw [e2]; exact cb1
      have h156 : vl f2 nw 156 = .int (nI vs.length) := by
        rw [e2]; refine (set_vn o1.1 (by decide)).trans ?_
        rw [(cellE cn).2.2]; exact r2.2.2.2.2.1
      refine ⟨ocE c02 (ocE c0 r1.1), nw, by rw [(cellE c02).2.2, (cellE c0).2.2]; exact r2.1, o2, _, h156, o2, by rw [cb2]; exact r2.2.2.2.1, fun f3 e3 => ?_⟩
      rw [← nI_succ] at e3
      obtain ⟨q1, q2, q3, ⟨q4, q5⟩, q6⟩ := hr.par w4 (by omega) f1 f2 f3 e1 e2 e3
      have hc3 : cKc E f3 := hc.geZ q3 (fun a ha => by
        simp only [List.mem_cons, List.not_mem_nil, or_false] at ha
        rcases ha with rfl | rfl
        · exact r2.2.2.2.1
        · exact r3.2.2.2.1) hfb
      exact ⟨q1.1.1, q1.1.2.1, C_nextS hst h hc3.1 (fun s' zb hF => hbad hnd zb s' f3 hF q5) (fun s' hf hs => ⟨rfl, hok hnd s' f3 hf hs q1 q2 q3 q4 q5 q6⟩)⟩
  have main : ∀ m i, vs.length - i ≤ m → i ≤ vs.length → ∀ b : Bool, (b = true ↔ ((1 ≤ v ∧ v ≤ 8) ∨ ∃ k, k < i ∧ vs.getD k 0 = v)) → ExC l E w (d + 9) MX11_parameter 44 [some (.ref x0), some (.int (bI b)), some (.int (nI i))] [] s f Q := by
    intro m
    induction m with
    | zero =>
      intro i hm hi b hb
      have e : i = vs.length := by clear hb; omega
      subst e
      refine vR11_parameter_44 ⟨r1.1, nw, r2.1, r2.2.1, _, h155, pk_le vs.length vs.length (fun _ => fin b (by unfold dupN; rw [hb, mem_getD])) (fun z => absurd z (by omega)) rfl rfl (by omega) (by omega)⟩
    | succ m ih =>
      intro i hm hi b hb
      refine vR11_parameter_44 ⟨r1.1, nw, r2.1, r2.2.1, _, h155, pk_le vs.length i (fun z => ?_) (fun z => ?_) rfl rfl (by omega) (by clear hb; omega)⟩
      · have e : i = vs.length := by clear hb; omega
        subst e
        exact fin b (by unfold dupN; rw [hb, mem_getD])
      · rw [← nI_succ]
        have hm' : vs.length - (i + 1) ≤ m := by clear hb; omega
        have hi' : i + 1 ≤ vs.length := by clear hb; omega
        have nx : ∀ b' : Bool, (b' = true ↔ (b = true ∨ vs.getD i 0 = v)) → ExC l E w (d + 9) MX11_parameter 44 [some (.ref x0), some (.int (bI b')), some (.int (nI (i + 1)))] [] s f Q := by
          intro b' hb'
          refine ih (i + 1) hm' hi' b' ?_
          rw [hb', hb]
          constructor
          · rintro ((q | ⟨k, k1, k2⟩) | q)
            · exact Or.inl q
            · exact Or.inr ⟨k, by omega, k2⟩
            · exact Or.inr ⟨i, by omega, q⟩
          · rintro (q | ⟨k, k1, k2⟩)
            · exact Or.inl (Or.inl q)
            · by_cases ek : k = i
              · subst ek; exact Or.inr k2
              · exact Or.inl (Or.inr ⟨k, by omega, k2⟩)
        cases b with
        | true => exact ⟨fun _ => nx true ⟨fun _ => Or.inl rfl, fun _ => rfl⟩, fun z => absurd z (by decide)⟩
        | false =>
          have hcmp : lg_cmp (lN (cv (vs.getD i 0))) (lN (cv v)) = 0 ↔ vs.getD i 0 = v := cv_cmp (r3.2.2.2.2.2.1 _ (mem_getD.mpr ⟨i, by omega, rfl⟩)) w4
          refine ⟨fun z => absurd rfl z, fun _ => ⟨r1.1, nw, r2.1, r2.2.1, na, r2.2.2.2.2.2, r3.1, by rw [r3.2.1]; exact inB_n (by omega), _, by rw [nI_clamp (by omega)]; exact r3.2.2.2.2.2.2 i (by omega), r1.1, r1.2.1, nam ⟨_, rfl, ?_⟩⟩⟩
          exact ⟨fun z => nx false ⟨fun y => (by cases y), fun y => y.elim id (fun y => absurd (hcmp.mpr y) z)⟩, fun z => nx true ⟨fun _ => Or.inr (hcmp.mp z), fun _ => rfl⟩⟩
  refine main vs.length 0 (by omega) (by omega) (decide (1 ≤ v ∧ v ≤ 8)) ?_
  rw [decide_eq_true_iff]
  constructor
  · exact fun q => Or.inl q
  · rintro (q | ⟨k, k1, -⟩)
    · exact q
    · omega
end PC
