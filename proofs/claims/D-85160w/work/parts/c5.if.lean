/-! IF -/
section IFD
variable {l : Launch} {E : EN} {w : CO} {wm : MO} {dt d : Nat} {ch : Nat → Nat} {n hf : Nat} {x0 nw na K0 p o ca cap c u z r p1 o1 ca1 cap1 c1 p2 c2 N k m : Nat} {vs vs1 : List Nat} {O O1 O2 : Nat → Od} {A dA : List (Nat × Nat × Nat)} {B B1 : List Tok} {dC : List CE} {s s1 s2 : CS} {f f1 f2 : RH} {Q : KO → CS → RH → Prop}
set_option maxHeartbeats 8000000 in
/-- if -/
theorem D_choice (hst : l.stackTraces = false) (hIH : ∀ p', p < p' → bkS l E w wm dt ch n hf x0 nw na K0 p') (h : tIn w ch n x0 nw na E K0 p o ca cap c vs A B s f) (h1 : (tk ch n p).1 = 1) (hk : kw (tk ch n p) = 1) (ho1 : 1 ≤ o) (hd : 20 * (10 - o) + 59 ≤ d) (hok : dOk l E w wm dt ch n hf x0 nw na p o ca cap c vs O A B s f Q) (hbad : ∀ s' f', tBad l E wm dt ch n hf K0 p o c vs O B s s' f' → Q (.inr 1) s' f') : EvC l E w d MX11_choice [.ref x0] s f Q := by
  have hm := h.num
  have hsc := h.1.1
  have ht := hsc.tk
  have hr := h.1.2.2.1
  have hfb := h.1.2.2.2.1
  have hp1 := ht.1.2.1
  have hp2 := ht.2.2.2.2 (by omega)
  have hwk : ∀ p', ¬ (tk ch n p').1 = 4 → wk (tk ch n p') = 2 := fun p' z => if_neg z
  have hwk1 : ∀ p', (tk ch n p').1 = 4 → wk (tk ch n p') = 1 := fun p' z => if_pos z
  have kB : B ++ ([] : List CE).map toB = B := by rw [List.map_nil, List.append_nil]
  have hkw : kw (tk ch n p) = if false = true then 3 else 1 := hk
  obtain ⟨d, rfl⟩ : ∃ d', d = d' + 7 + 1 := ⟨d - 8, by omega⟩
  refine eR11_choice hst ⟨by unfold rmF; omega, fun N f1 eN e1 => ?_⟩
  subst eN
  have g1 : gE [] f f1 := by rw [e1]; exact gE.new _ _
  have o1 : oc f1 f.1 14 := by rw [e1]; exact oc_new _ _
  have z1 : f1.1 = f.1 + 1 ∧ f1.2.1 = f.2.1 + 5 := by rw [e1]; exact ⟨rfl, rfl⟩
  have n164 : vl f1 f.1 164 = .null := by rw [e1]; exact vl_new _ _ _
  refine eX15_init hst (eX14_init hst ⟨rfl, rfl, ?_⟩)
  have D1 := (dM.init (hf := hf) (O := O) h).heap (z' := 5) h g1 (fun a ha => absurd ha List.not_mem_nil) (by omega)
  have hr1 := D1.2.1.2.1
  have hk1 := D1.kc h
  have lx := hr.1.2.2.1
  have lw := hr.2.1.2.2.1
  have la := hr.2.2.1.2.2.1
  have lc := hr.2.2.2.2.2.1
  have cbN : ∀ {D : List Nat} {g : RH}, gE D f g → g.2.2.2 ≤ f.1 := fun q => by rw [q.2.1]; exact hfb
  refine ⟨hr1.1.1, hr1.1.2.1, C_nextS hst hsc hk1.1.1 (fun s' y4 hF => hbad s' f1 (tBad.mk D1 hF (by omega) (by decide) (fun s00 bk Bl Fn hb => ask_b1 hst h1 hkw (by omega) hb (by omega) (Or.inl ⟨fun y => by omega, (hwk1 _ y4).symm, rfl⟩)))) (fun s1 hcf1 hs1 => ⟨rfl, hr1.1.1, hr1.1.2.1, ?_⟩)⟩
  have D2 := D1.tok (u' := 1) hcf1 hs1 (by omega)
  have ht1 := hs1.tk
  have hp3 := ht1.1.2.1
  refine C_takeS hst (c := 40) hs1 hk1.1.1 (by decide) (fun z => absurd z (by decide)) (fun y s' hF => hbad s' f1 (tBad.mk D2 hF (by omega) (by decide) (fun s00 bk Bl Fn hb => ask_b1 hst h1 hkw (by omega) hb (by omega) (Or.inl ⟨y, (hwk _ hs1.2.1.2.2).symm, rfl⟩)))) (fun y1 y2 _ y3 s' hF => hbad s' f1 (tBad.mk D2 hF (by omega) (by decide) (fun s00 bk Bl Fn hb => ask_b1 hst h1 hkw (by omega) hb (by omega) (Or.inr (Or.inl ⟨⟨y1, y2⟩, y3, rfl, rfl⟩))))) (fun y1 y2 y3 s' y4 hF => hbad s' f1 (tBad.mk D2 hF (by omega) (by decide) (fun s00 bk Bl Fn hb => ask_b1 hst h1 hkw (by omega) hb (by omega) (Or.inr (Or.inr ⟨⟨y1, y2⟩, by have := fun q => y3 ⟨Or.inl rfl, q⟩; omega, XB_bad0 hst y4 (by decide) (by have := askC_le (c + 1) false; omega)⟩))))) (fun y1 y2 y3 s2 hcf2 hs2 => ⟨rfl, hr1.1.1, ?_⟩)
  have ho : o < 10 := by have := fun q => y3 ⟨Or.inl rfl, q⟩; omega
  rw [if_pos (by decide)] at hs2
  have hp4 := ht1.2.2.2.2 (by omega)
  have D3 := (D2.tok (u' := 1) hcf2 hs2 (by omega)).ord (O2 := oup O (4000 * (1 - hf) + c) (1, 0, 0, 0, nI (tk ch n p).2.1)) (c2 := c + 1) (r' := 1) (fun i hi => oup_ne _ _ (by omega)) (by omega) (by omega)
  have I3 := D3.inn h (by omega) (by omega)
  refine R_expr (al := 0) (wm := wm) (dm := dt + 1) (hf := hf) (s0 := ms0) hst (tk ch n (tk ch n p).2.2.2).2.2.2 (o + 1) ca cap (c + 1) vs (oup O (4000 * (1 - hf) + c) (1, 0, 0, 0, nI (tk ch n p).2.1)) (A ++ []) (B ++ ([] : List CE).map toB) [] s2 f1 (d + 7) _ I3 (Nat.zero_le _) (by decide) (fun x X' e => by cases e) (Or.inl rfl) (by omega) (fun v s3 f3 k => ⟨v, rfl, ?_⟩) (fun s' f' k => ?_)
  · obtain ⟨p3, vs3, O3, c3, dC3, dA3, ca3, cap3, q3, D4, ⟨k1, k2⟩, ⟨k3, k4, k5, k6⟩, ⟨k7, k8, k9⟩⟩ := D3.sub (D := [f.1]) (fun x hx => by rw [List.mem_singleton.mp hx]; omega) k
    rw [kB] at k2
    have hNc : f.1 ∉ [x0, nw, na, ca] := by
      intro z
      simp only [List.mem_cons, List.not_mem_nil, or_false] at z
      omega
    have cN3 : f3.2.2.1 f.1 = f1.2.2.1 f.1 := k3.ce (by omega) hNc
    have o3 := ocE cN3 o1
    have hl3 := k3.1
    refine ⟨o3, cbN D4.2.1.1, fun f4 e4 => ?_⟩
    have g4 : gE [f.1] f3 f4 := by rw [e4]; exact gE.set _ _ _
    have o4 : oc f4 f.1 14 := by rw [e4]; exact set_oc o3
    have z4 : f4.1 = f3.1 ∧ f4.2.1 = f3.2.1 := by rw [e4]; exact ⟨rfl, rfl⟩
    have v4 : vl f4 f.1 162 = .ref v ∧ vl f4 f.1 164 = .null := by
      rw [e4]
      refine ⟨set_vl o3.1, (set_vn o3.1 (by decide)).trans ?_⟩
      rw [(cellE cN3).2.2]; exact n164
    have D5 := D4.heap (z' := 5) h g4 (fun a ha => Or.inr (by rw [List.mem_singleton.mp ha, o3.1]; exact ⟨Nat.le_refl _, fun y => (by cases y), fun y => (by cases y)⟩)) (by omega)
    have k6 := k6.keep (D2 := [f.1]) g4 (fun x hx => Or.inr (Or.inl hx)) (fun x hx => Or.inl hx) (fun _ _ _ => rfl) (fun _ he => he) (Nat.le_refl _)
    have hr5 := D5.2.1.2.1
    have hk5 := D5.kc h
    have hs5 := D5.1.2
    have ht5 := hs5.tk
    have hp5 := ht5.1.2.1
    have I5 := (D5.inn h (by omega) (by omega)).nums
    refine ⟨hr5.1.1, hr5.1.2.1, C_takeS hst (c := 41) hs5 hk5.1.1 (by decide) (fun _ => by omega) (fun y s' hF => hbad s' f4 (tBad.mk D5 hF (by omega) (by decide) (fun s00 bk Bl Fn hb => ask_b2 hst h1 hkw (by omega) hb ho ⟨y1, y2⟩ k2 k1 (by omega) (Or.inl ⟨y, (hwk _ hs5.2.1.2.2).symm, rfl⟩)))) (fun _ _ y => absurd y (by decide)) (fun q1 q2 _ s' y4 hF => hbad s' f4 (tBad.mk D5 hF (by omega) (by decide) (fun s00 bk Bl Fn hb => ask_b2 hst h1 hkw (by omega) hb ho ⟨y1, y2⟩ k2 k1 (by omega) (Or.inr ⟨⟨q1, q2⟩, fun y => by omega, (hwk1 _ y4).symm, rfl⟩)))) (fun q1 q2 _ s6 hcf6 hs6 => ⟨rfl, hr5.1.1, ?_⟩)⟩
    rw [if_neg (by decide), if_pos (by decide), Nat.add_sub_cancel] at hs6
    have hp6 := ht5.2.2.2.2 (by omega)
    have D6 := (D5.tok (u' := 1) hcf6 hs6 (by omega)).ord (O2 := oup O3 (4000 * (1 - hf) + c3) (14, 0, 0, 0, nI (tk ch n p).2.1)) (c2 := c3 + 1) (r' := 2) (fun i hi => oup_ne _ _ (by omega)) (by omega) (by omega)
    have T6 := D6.tin h (by omega) (by omega)
    have hd1 := fun (h123 : (tk ch n (tk ch n p3).2.2.2).1 = 3 ∧ (tk ch n (tk ch n p3).2.2.2).2.2.1 = 123) s00 bk Bl Fn (hb : List.length Bl + 1 ≤ o) => ask_hd (s00 := s00) (bk := bk) (Bl := Bl) (Fn := Fn) hst h1 hkw (by omega) hb ho ⟨y1, y2⟩ k2 k1 (by omega) ⟨q1, q2⟩ h123
    refine hIH (tk ch n p3).2.2.2 (by omega) o ca3 cap3 (c3 + 1) vs3 (oup O3 (4000 * (1 - hf) + c3) (14, 0, 0, 0, nI (tk ch n p).2.1)) (A ++ ([] ++ dA3)) (B ++ List.map toB ([] ++ dC3)) s6 f4 (d + 7) _ T6 (by omega) (fun v2 s7 f5 k => ⟨v2, rfl, ?_⟩) (fun kk pl s' f' kF kb kk' kx => ?_)
    · obtain ⟨⟨t1, t2, t3⟩, p7, vs7, O7, c7, dC7, dA7, ca7, cap7, h125, D7, m2, ⟨m3, m4, m5, m6⟩, ⟨m7, m8, m9, m10⟩⟩ := D6.blk (D := [f.1]) (fun x hx => by rw [List.mem_singleton.mp hx]; omega) k
      have hl5 := m3.1
      have hNc2 : f.1 ∉ [x0, nw, na, ca3] := by
        intro z
        simp only [List.mem_cons, List.not_mem_nil, or_false] at z
        rcases z with z | z | z | z
        · omega
        · omega
        · omega
        · have := o4.1; rw [z, m10] at this; cases this
      have cN5 : f5.2.2.1 f.1 = f4.2.2.1 f.1 := m3.ce (by omega) hNc2
      have o5 := ocE cN5 o4
      refine ⟨o5, cbN D7.2.1.1, fun f6 e6 => ?_⟩
      have g6 : gE [f.1] f5 f6 := by rw [e6]; exact gE.set _ _ _
      have o6 : oc f6 f.1 14 := by rw [e6]; exact set_oc o5
      have z6 : f6.1 = f5.1 ∧ f6.2.1 = f5.2.1 := by rw [e6]; exact ⟨rfl, rfl⟩
      have v6 : vl f6 f.1 163 = .ref v2 ∧ vl f6 f.1 162 = .ref v ∧ vl f6 f.1 164 = .null := by
        rw [e6]
        refine ⟨set_vl o5.1, (set_vn o5.1 (by decide)).trans ?_, (set_vn o5.1 (by decide)).trans ?_⟩
        · rw [(cellE cN5).2.2]; exact v4.1
        · rw [(cellE cN5).2.2]; exact v4.2
      have Oa : O7 (4000 * (1 - hf) + c3) = (14, 0, 0, 0, nI (tk ch n p).2.1) := (m4 _ (by omega)).trans (oup_at _ _ _)
      have Oz : ¬ (O7 (4000 * (1 - hf) + c3)).1 = 2 ∧ ¬ (O7 (4000 * (1 - hf) + c3)).1 = 5 := by rw [Oa]; exact ⟨Nat.ne_of_beq_eq_false rfl, Nat.ne_of_beq_eq_false rfl⟩
      have D8 := D7.heap (z' := 5) h g6 (fun a ha => Or.inr (by rw [List.mem_singleton.mp ha, o5.1]; exact ⟨Nat.le_refl _, fun y => (by cases y), fun y => (by cases y)⟩)) (by omega)
      have I7 := (D8.inn h (by omega) (by omega)).nums
      have hll := D7.2.1.1.1
      have hr8 := D8.2.1.2.1
      have hk8 := D8.kc h
      have hs8 := D8.1.2
      have ht8 := hs8.tk
      have hp8 := ht8.1.2.1
      have K1 : ∀ f7, gE [f.1] f6 f7 → Kg f7 O7 ([] ++ dC3 ++ dC7) f.1 [f.1] vs7.length _ _ _ := fun f7 g7 => ((k6.keep (D2 := [f.1]) (O' := O7) (C' := [] ++ dC3 ++ dC7) m3 (fun x hx => by
        simp only [List.mem_cons, List.not_mem_nil, or_false] at hx
        rcases hx with rfl | rfl | rfl | rfl
        · exact Or.inl lx
        · exact Or.inl lw
        · exact Or.inl la
        · exact Or.inr (Or.inr (Or.inr m10))) (fun x hx => Or.inl hx) (fun i i1 i2 => (m4 i (by omega)).trans (oup_ne _ _ (by omega))) (fun e he => List.mem_append_left _ he) m5).keep (D2 := [f.1]) g6 (fun x hx => Or.inr (Or.inl hx)) (fun x hx => Or.inl hx) (fun _ _ _ => rfl) (fun _ he => he) (Nat.le_refl _)).keep (D2 := [f.1]) g7 (fun x hx => Or.inr (Or.inl hx)) (fun x hx => Or.inl hx) (fun _ _ _ => rfl) (fun _ he => he) (Nat.le_refl _)
      have K2 := fun f7 (g7 : gE [f.1] f6 f7) => (m6.keep (D2 := [f.1]) g6 (fun x hx => Or.inr (Or.inl hx)) (fun x hx => Or.inl hx) (fun _ _ _ => rfl) (fun _ he => he) (Nat.le_refl _)).keep (D2 := [f.1]) g7 (fun x hx => Or.inr (Or.inl hx)) (fun x hx => Or.inl hx) (fun _ _ _ => rfl) (fun _ he => he) (Nat.le_refl _)
      have base := fun s00 bk Bl Fn (hb : List.length Bl + 1 ≤ o) => (hd1 ⟨t1, t2⟩ s00 bk Bl Fn hb).trans (m2 s00 _ (bk :: Bl) Fn (by rw [List.length_cons]; omega))
      refine ⟨hr8.1.1, hr8.1.2.1, C_isW (k := 2) hst hs8 (by omega) (hk8.1.2.2.2.2.2 (49, 2) (by decide)) hk8.1.2.1 ⟨_, rfl, bn_b (fun ne => ?_) (fun el => ?_)⟩⟩
      · have D9 := D8.ord (O2 := oup O7 (4000 * (1 - hf) + c3) (14, 4000 * (1 - hf) + c7, 0, 0, nI (tk ch n p).2.1)) (c2 := c7) (r' := 2) (fun i hi => oup_ne _ _ (by omega)) (by omega) (by omega)
        refine hok f.1 14 s7 f6 o6 (by decide) (cbN D8.2.1.1) (fun f7 e7 => D9.fin h o6 (by decide) ⟨Nat.le_refl _, by omega⟩ e7 (by omega) (by omega) (by omega) (by omega) (fun s00 bk Bl Fn hb => ?_) ?_ (fun f' P F M nv' t1' t2' t3' t4' t5' e161 oN ltN vlN => ?_))
        · refine (base s00 bk Bl Fn hb).trans ?_
          intro Q hQ s' hs'
          refine T_clI hst hs' h125 (by omega) (by rw [List.length_cons]; omega) (by omega) ⟨by omega, by omega⟩ Oz rfl rfl (fun _ s'' h'' => hQ s'' ?_) (fun z => absurd z ne) (fun z => absurd z ne)
          rw [Oa, Nat.add_sub_cancel] at h''
          exact h''
        · rw [oup_ne _ _ (by omega), m4 _ (by omega), oup_ne _ _ (by omega), k4 _ (by omega)]; exact oup_at _ _ _
        · have g7 : gE [f.1] f6 f7 := by rw [e7]; exact gE.set _ _ _
          have old : ∀ i, 4000 * (1 - hf) + c ≤ i → i < 4000 * (1 - hf) + c7 → ¬ i = 4000 * (1 - hf) + c3 → oAg (O7 i) (P.1 i) := fun i i1 i2 i3 => by
            have := t3' i i1 (by omega)
            rw [oup_ne _ _ i3] at this
            exact this
          have rn := (K1 f7 g7).rep (Nat.le_refl f7.1) t1' t2' (fun i i1 i2 => old i (by omega) (by omega) (by omega)) t4' t5'
          have rb := (K2 f7 g7).rep (Nat.le_refl f7.1) t1' t2' (fun i i1 i2 => old i (by omega) (by omega) (by omega)) t4' t5'
          have pt := t3' (4000 * (1 - hf) + c3) (by omega) (by omega)
          rw [oup_at] at pt
          have pt := pt.eq (by exact Nat.ne_of_beq_eq_false rfl) (by exact Nat.ne_of_beq_eq_false rfl)
          refine ⟨f.1, nI (tk ch n p).2.1, rfl, ltN, e161, hN_1 _ _, Or.inr (Or.inl ⟨oN, 4000 * (1 - hf) + c3, 4000 * (1 - hf) + c7, 0, 0, ?_, pt, Or.inl ⟨by rw [vlN 164 (by decide)]; exact v6.2.2, ?_, rfl⟩⟩)⟩
          · rw [vlN 162 (by decide), v6.2.1]
            exact rn.mono (by omega) (hN_le (by omega) (by omega))
          · rw [vlN 163 (by decide), v6.1]
            exact rb.mono (by omega) (by omega) (hN_le (by omega) (by omega))
      · refine ⟨hr8.1.1, hr8.1.2.1, C_nextS hst hs8 hk8.1.1 (fun s' y4 hF => hbad s' f6 (tBad.mk D8 hF (by omega) (by decide) (fun s00 bk Bl Fn hb => (base s00 bk Bl Fn hb).bad ?_))) (fun s9 hcf9 hs9 => ⟨rfl, hr8.1.1, ?_⟩)⟩
        · intro Q hQ s' hs'
          refine T_clI hst hs' h125 (by omega) (by rw [List.length_cons]; omega) (by omega) ⟨by omega, by omega⟩ Oz rfl rfl (fun z => absurd el z) (fun _ _ => ?_) (fun _ z => by omega)
          rw [hwk1 _ y4]; exact hQ
        have h1e : (tk ch n (tk ch n p7).2.2.2).1 = 1 := by
          by_cases q : (tk ch n (tk ch n p7).2.2.2).1 = 1
          · exact q
          · unfold kw at el; rw [if_neg q] at el; omega
        have hp9 := ht8.2.2.2.2 (by omega)
        have D9 := (D8.tok (u' := 1) hcf9 hs9 (by omega)).ord (O2 := oup (oup O7 (4000 * (1 - hf) + c7) (15, 0, 0, 0, 0)) (4000 * (1 - hf) + c3) (14, 4000 * (1 - hf) + (c7 + 1), 0, 0, nI (tk ch n p).2.1)) (c2 := c7 + 1) (r' := 3) (fun i hi => (oup_ne _ _ (by omega)).trans (oup_ne _ _ (by omega))) (by omega) (by omega)
        have T9 := D9.tin h (by omega) (by omega)
        have hel := fun (h123 : (tk ch n (tk ch n (tk ch n p7).2.2.2).2.2.2).1 = 3 ∧ (tk ch n (tk ch n (tk ch n p7).2.2.2).2.2.2).2.2.1 = 123) s00 bk Bl Fn (hb : List.length Bl + 1 ≤ o) => show TF l E wm dt ch n hf s00 (((p7, o + 1), vs7, O7, c7, B ++ List.map toB ([] ++ dC3 ++ dC7)), (1, 4000 * (1 - hf) + c3, 4000 * (1 - hf) + (c + 1)) :: bk :: Bl, Fn) ((((tk ch n (tk ch n (tk ch n p7).2.2.2).2.2.2).2.2.2, o + 1), vs7, oup (oup O7 (4000 * (1 - hf) + c7) (15, 0, 0, 0, 0)) (4000 * (1 - hf) + c3) (14, 4000 * (1 - hf) + (c7 + 1), 0, 0, nI (tk ch n p).2.1), c7 + 1, B ++ List.map toB ([] ++ dC3 ++ dC7)), (2, 4000 * (1 - hf) + c7, 0) :: bk :: Bl, Fn) by
          intro Q hQ s' hs'
          refine T_clI hst hs' h125 (by omega) (by rw [List.length_cons]; omega) (by omega) ⟨by omega, by omega⟩ Oz rfl rfl (fun z => absurd el z) (fun _ z => absurd h123 z) (fun _ _ _ s'' h'' => hQ s'' ?_)
          rw [Oa, Nat.add_sub_cancel] at h''
          exact h''
        refine hIH (tk ch n (tk ch n p7).2.2.2).2.2.2 (by omega) o ca7 cap7 (c7 + 1) vs7 (oup (oup O7 (4000 * (1 - hf) + c7) (15, 0, 0, 0, 0)) (4000 * (1 - hf) + c3) (14, 4000 * (1 - hf) + (c7 + 1), 0, 0, nI (tk ch n p).2.1)) (A ++ ([] ++ dA3 ++ dA7)) (B ++ List.map toB ([] ++ dC3 ++ dC7)) s9 f6 (d + 7) _ T9 (by omega) (fun v3 s10 f7 k => ⟨v3, rfl, ?_⟩) (fun kk pl s' f' kF kb kk' kx => ?_)
        · obtain ⟨⟨u1, u2, u3⟩, pa, vsa, Oa', ca', dCa, dAa, caa, capa, h125a, Da, n2, ⟨n3, n4, n5, n6⟩, ⟨n7, n8, n9, n10⟩⟩ := D9.blk (D := [f.1]) (fun x hx => by rw [List.mem_singleton.mp hx]; omega) k
          have hl7 := n3.1
          have hNc3 : f.1 ∉ [x0, nw, na, ca7] := by
            intro z
            simp only [List.mem_cons, List.not_mem_nil, or_false] at z
            rcases z with z | z | z | z
            · omega
            · omega
            · omega
            · have := o6.1; rw [z, n10] at this; cases this
          have cN7 : f7.2.2.1 f.1 = f6.2.2.1 f.1 := n3.ce (by omega) hNc3
          have o7 := ocE cN7 o6
          refine ⟨o7, cbN Da.2.1.1, fun f8 e8 => ?_⟩
          have g8 : gE [f.1] f7 f8 := by rw [e8]; exact gE.set _ _ _
          have o8 : oc f8 f.1 14 := by rw [e8]; exact set_oc o7
          have z8 : f8.1 = f7.1 ∧ f8.2.1 = f7.2.1 := by rw [e8]; exact ⟨rfl, rfl⟩
          have v8 : vl f8 f.1 164 = .ref v3 ∧ vl f8 f.1 163 = .ref v2 ∧ vl f8 f.1 162 = .ref v := by
            rw [e8]
            refine ⟨set_vl o7.1, (set_vn o7.1 (by decide)).trans ?_, (set_vn o7.1 (by decide)).trans ?_⟩
            · rw [(cellE cN7).2.2]; exact v6.1
            · rw [(cellE cN7).2.2]; exact v6.2.1
          have Oj : Oa' (4000 * (1 - hf) + c7) = (15, 0, 0, 0, 0) := (n4 _ (by omega)).trans ((oup_ne _ _ (by omega)).trans (oup_at _ _ _))
          have Ojz : ¬ (Oa' (4000 * (1 - hf) + c7)).1 = 2 ∧ ¬ (Oa' (4000 * (1 - hf) + c7)).1 = 5 := by rw [Oj]; exact ⟨Nat.ne_of_beq_eq_false rfl, Nat.ne_of_beq_eq_false rfl⟩
          have Ib := (Da.inn h (by omega) (by omega)).nums
          have hla := Da.2.1.1.1
          have Db := (Da.heap (z' := 5) h g8 (fun a ha => Or.inr (by rw [List.mem_singleton.mp ha, o7.1]; exact ⟨Nat.le_refl _, fun y => (by cases y), fun y => (by cases y)⟩)) (by omega)).ord (O2 := oup Oa' (4000 * (1 - hf) + c7) (15, 4000 * (1 - hf) + ca', 0, 0, 0)) (c2 := ca') (r' := 3) (fun i hi => oup_ne _ _ (by omega)) (by omega) (by omega)
          refine hok f.1 14 s10 f8 o8 (by decide) (cbN Db.2.1.1) (fun f9 e9 => Db.fin h o8 (by decide) ⟨Nat.le_refl _, by omega⟩ e9 (by omega) (by omega) (by omega) (by omega) (fun s00 bk Bl Fn hb => ?_) ?_ (fun f' P F M nv' t1' t2' t3' t4' t5' e161 oN ltN vlN => ?_))
          · refine (base s00 bk Bl Fn hb).trans ((hel ⟨u1, u2⟩ s00 bk Bl Fn hb).trans ((n2 s00 _ (bk :: Bl) Fn (by rw [List.length_cons]; omega)).trans ?_))
            intro Q hQ s' hs'
            refine T_clE hst hs' h125a (by omega) (by rw [List.length_cons]; omega) (Or.inl rfl) (by omega) ⟨by omega, by omega⟩ Ojz (fun s'' h'' => hQ s'' ?_)
            rw [Oj, Nat.add_sub_cancel] at h''
            exact h''
          · rw [oup_ne _ _ (by omega), n4 _ (by omega), oup_ne _ _ (by omega), oup_ne _ _ (by omega), m4 _ (by omega), oup_ne _ _ (by omega), k4 _ (by omega)]; exact oup_at _ _ _
          · have g9 : gE [f.1] f8 f9 := by rw [e9]; exact gE.set _ _ _
            have chg : ∀ {a b : Nat} {T : RH → Pg → (Nat → Nat) → Nat → Nat → Prop}, Kg f6 O7 ([] ++ dC3 ++ dC7) f.1 [f.1] vs7.length a b T → (4000 * (1 - hf) + c3 < a ∨ b ≤ 4000 * (1 - hf) + c3) → b ≤ 4000 * (1 - hf) + c7 → Kg f9 Oa' ([] ++ dC3 ++ dC7 ++ dCa) f.1 [f.1] vsa.length a b T := fun K ha hb => ((K.keep (D2 := [f.1]) (O' := Oa') (C' := [] ++ dC3 ++ dC7 ++ dCa) n3 (fun x hx => by
              simp only [List.mem_cons, List.not_mem_nil, or_false] at hx
              rcases hx with rfl | rfl | rfl | rfl
              · exact Or.inl lx
              · exact Or.inl lw
              · exact Or.inl la
              · exact Or.inr (Or.inr (Or.inr n10))) (fun x hx => Or.inl hx) (fun i i1 i2 => (n4 i (by omega)).trans ((oup_ne _ _ (by omega)).trans (oup_ne _ _ (by omega)))) (fun e he => List.mem_append_left _ he) n5).keep (D2 := [f.1]) g8 (fun x hx => Or.inr (Or.inl hx)) (fun x hx => Or.inl hx) (fun _ _ _ => rfl) (fun _ he => he) (Nat.le_refl _)).keep (D2 := [f.1]) g9 (fun x hx => Or.inr (Or.inl hx)) (fun x hx => Or.inl hx) (fun _ _ _ => rfl) (fun _ he => he) (Nat.le_refl _)
            have L1 := chg (K1 f6 (gE.rf _ _)) (Or.inr (Nat.le_refl _)) (by omega)
            have L2 := chg (K2 f6 (gE.rf _ _)) (Or.inl (by omega)) (Nat.le_refl _)
            have L3 := (n6.keep (D2 := [f.1]) g8 (fun x hx => Or.inr (Or.inl hx)) (fun x hx => Or.inl hx) (fun _ _ _ => rfl) (fun _ he => he) (Nat.le_refl _)).keep (D2 := [f.1]) g9 (fun x hx => Or.inr (Or.inl hx)) (fun x hx => Or.inl hx) (fun _ _ _ => rfl) (fun _ he => he) (Nat.le_refl _)
            have old : ∀ i, 4000 * (1 - hf) + c ≤ i → i < 4000 * (1 - hf) + ca' → ¬ i = 4000 * (1 - hf) + c7 → oAg (Oa' i) (P.1 i) := fun i i1 i2 i3 => by
              have := t3' i i1 (by omega)
              rw [oup_ne _ _ i3] at this
              exact this
            have rn := L1.rep (Nat.le_refl f9.1) t1' t2' (fun i i1 i2 => old i (by omega) (by omega) (by omega)) t4' t5'
            have rb := L2.rep (Nat.le_refl f9.1) t1' t2' (fun i i1 i2 => old i (by omega) (by omega) (by omega)) t4' t5'
            have re := L3.rep (Nat.le_refl f9.1) t1' t2' (fun i i1 i2 => old i (by omega) (by omega) (by omega)) t4' t5'
            have pt := old (4000 * (1 - hf) + c3) (by omega) (by omega) (by omega)
            rw [n4 _ (by omega), oup_at] at pt
            have pt := pt.eq (by exact Nat.ne_of_beq_eq_false rfl) (by exact Nat.ne_of_beq_eq_false rfl)
            have pj := t3' (4000 * (1 - hf) + c7) (by omega) (by omega)
            rw [oup_at] at pj
            have pj := pj.eq (by exact Nat.ne_of_beq_eq_false rfl) (by exact Nat.ne_of_beq_eq_false rfl)
            refine ⟨f.1, nI (tk ch n p).2.1, rfl, ltN, e161, hN_1 _ _, Or.inr (Or.inl ⟨oN, 4000 * (1 - hf) + c3, 4000 * (1 - hf) + (c7 + 1), 0, 0, ?_, pt, Or.inr ⟨4000 * (1 - hf) + c7, 0, 0, 0, v3, by rw [vlN 164 (by decide)]; exact v8.1, ?_, pj, rfl, ?_⟩⟩)⟩
            · rw [vlN 162 (by decide), v8.2.2]
              exact rn.mono (by omega) (hN_le (by omega) (by omega))
            · rw [vlN 163 (by decide), v8.2.1]
              exact rb.mono (by omega) (by omega) (hN_le (by omega) (by omega))
            · rw [vlN 164 (by decide), v8.1]
              exact re.mono (by omega) (by omega) (hN_le (by omega) (by omega))
        · refine hbad s' f' (tBad.mk D9 kF kb kk' (fun s00 bk Bl Fn hb => (base s00 bk Bl Fn hb).bad ?_))
          rcases kx with ⟨x1, rfl, rfl⟩ | ⟨x1, x2, -⟩ | ⟨x1, x2, x3⟩
          · intro Q hQ s' hs'
            refine T_clI hst hs' h125 (by omega) (by rw [List.length_cons]; omega) (by omega) ⟨by omega, by omega⟩ Oz rfl rfl (fun z => absurd el z) (fun _ _ => ?_) (fun _ z1 z2 => absurd ⟨z1, z2⟩ x1)
            rw [hwk _ hs9.2.1.2.2]; exact hQ
          · omega
          · refine (hel x1 s00 bk Bl Fn hb).bad ?_
            rcases x3 with x3 | ⟨pb, vsb, Ob, cb, Bb, x3, h125b, x4, rfl, rfl, x5, x6, x7⟩
            · exact x3 s00 _ (bk :: Bl) Fn (by rw [List.length_cons]; omega)
            · refine (x3 s00 _ (bk :: Bl) Fn (by rw [List.length_cons]; omega)).bad ?_
              have Oj : Ob (4000 * (1 - hf) + c7) = (15, 0, 0, 0, 0) := (x7 _ (by omega)).trans ((oup_ne _ _ (by omega)).trans (oup_at _ _ _))
              intro Q hQ s'' hs''
              exact T_clE hst hs'' h125b (by omega) (by rw [List.length_cons]; omega) (Or.inl rfl) (by omega) ⟨by omega, by omega⟩ (by rw [Oj]; exact ⟨Nat.ne_of_beq_eq_false rfl, Nat.ne_of_beq_eq_false rfl⟩) (fun s3 h3 => TB_bad4 hst x4 (by omega) (by omega) Q hQ s3 h3)
    · refine hbad s' f' (tBad.mk D6 kF kb kk' (fun s00 bk Bl Fn hb => ?_))
      rcases kx with ⟨x1, rfl, rfl⟩ | ⟨x1, x2, -⟩ | ⟨x1, x2, x3⟩
      · exact ask_b2 hst h1 hkw (by omega) hb ho ⟨y1, y2⟩ k2 k1 (by omega) (Or.inr ⟨⟨q1, q2⟩, x1, (hwk _ hs6.2.1.2.2).symm, rfl⟩)
      · omega
      · refine (hd1 x1 s00 bk Bl Fn hb).bad ?_
        rcases x3 with x3 | ⟨p7, vs7, O7, c7, B7, x3, h125, x4, rfl, rfl, x5, x6, x7⟩
        · exact x3 s00 _ (bk :: Bl) Fn (by rw [List.length_cons]; omega)
        · refine (x3 s00 _ (bk :: Bl) Fn (by rw [List.length_cons]; omega)).bad ?_
          have Oa : O7 (4000 * (1 - hf) + c3) = (14, 0, 0, 0, nI (tk ch n p).2.1) := (x7 _ (by omega)).trans (oup_at _ _ _)
          intro Q hQ s'' hs''
          have nk : ¬ kw (tk ch n (tk ch n p7).2.2.2) = 2 := by unfold kw; rw [if_neg (by omega)]; omega
          exact T_clI hst hs'' h125 (by omega) (by rw [List.length_cons]; omega) (by omega) ⟨by omega, by omega⟩ (by rw [Oa]; exact ⟨Nat.ne_of_beq_eq_false rfl, Nat.ne_of_beq_eq_false rfl⟩) rfl rfl (fun _ s3 h3 => TB_bad4 hst x4 (by omega) (by omega) Q hQ s3 h3) (fun z => absurd z nk) (fun z => absurd z nk)
  · obtain ⟨k, pl, kF, kb, kk, kx⟩ := k
    rw [kB] at kx
    exact hbad s' f' (tBad.mk D3 kF kb kk (fun s00 bk Bl Fn hb => ask_b1 hst h1 hkw (by omega) hb (by omega) (Or.inr (Or.inr ⟨⟨y1, y2⟩, ho, kx⟩))))
end IFD
