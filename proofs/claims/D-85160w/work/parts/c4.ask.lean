/-! IF, WHILE: their heads -/
section AK
variable {l : Launch} {E : EN} {w : CO} {wm : MO} {dt d : Nat} {ch : Nat → Nat} {n hf : Nat} {x0 nw na K0 p o ca cap c u z r p1 o1 ca1 cap1 c1 p2 c2 N k m : Nat} {vs vs1 : List Nat} {O O1 O2 : Nat → Od} {A dA : List (Nat × Nat × Nat)} {B B1 : List Tok} {dC : List CE} {s s1 s2 : CS} {f f1 f2 : RH} {Q : KO → CS → RH → Prop}
/-- a block within -/
theorem dM.blk {v : Nat} {D : List Nat} (h : dM w ch n hf x0 nw na p o ca cap c vs O A s f u z r p1 o1 ca1 cap1 c1 vs1 O1 dC dA s1 f1) (hD : ∀ x ∈ D, x < f1.1) (k : bkOk l E w wm dt ch n hf x0 nw na p1 o1 ca1 cap1 c1 vs1 O1 (A ++ dA) (B ++ dC.map toB) s1 f1 v s2 f2) :
    ((tk ch n p1).1 = 3 ∧ (tk ch n p1).2.2.1 = 123 ∧ o1 < 10) ∧ ∃ (p2 : Nat) (vs2 : List Nat) (O2 : Nat → Od) (c2 : Nat) (dC2 : List CE) (dA2 : List (Nat × Nat × Nat)) (ca2 cap2 : Nat), ((tk ch n p2).1 = 3 ∧ (tk ch n p2).2.2.1 = 125) ∧ dM w ch n hf x0 nw na p o ca cap c vs O A s f (u + 1) z r (tk ch n p2).2.2.2 o1 ca2 cap2 c2 vs2 O2 (dC ++ dC2) (dA ++ dA2) s2 f2 ∧ sTF l E wm dt ch n hf (o1 + 1) (tk ch n p1).2.2.2 vs1 O1 c1 (B ++ dC.map toB) p2 vs2 O2 c2 (B ++ (dC ++ dC2).map toB) ∧ (gE [x0, nw, na, ca1] f1 f2 ∧ (∀ i, i < 4000 * (1 - hf) + c1 → O2 i = O1 i) ∧ vs1.length ≤ vs2.length ∧ Kg f2 O2 (dC ++ dC2) f.1 D vs2.length (4000 * (1 - hf) + c1) (4000 * (1 - hf) + c2) (fun f P F M nv => RepX f P F M nv (7 * (10 - o1) + 2) false (.ref v) (4000 * (1 - hf) + c1) (4000 * (1 - hf) + c2) (10 - o1) (hN p1 p2))) ∧ (p1 + 1 ≤ p2 ∧ p2 < (tk ch n p2).2.2.2 ∧ c1 ≤ c2 ∧ tg f1 ca1 = some (.inr 8)) := by
  obtain ⟨k0, p2, vs2, O2, c2, dC2, dA2, ca2, cap2, kc, ⟨k1, k2⟩, ⟨k3, k4, k5⟩, k7, ⟨k8, k9, k10⟩, k11, ⟨k12, k12', k13, k14, k15, k16, k17, k18⟩⟩ := k
  obtain ⟨⟨h1, h2⟩, ⟨h3, h4, h5⟩, h7, h8, ⟨h9, h10, h11, h12⟩, h13, h14, h15⟩ := h
  have l1 := h3.1
  have l2 := k3.1
  refine ⟨k0, p2, vs2, O2, c2, dC2, dA2, ca2, cap2, kc, ⟨⟨h1.trans k1, k2⟩, ⟨h3.trans k3 (fun a ha => ?_), by rw [← List.append_assoc]; exact k4, ?_⟩, fun i hi => (k8 i (by omega)).trans (h7 i hi), ?_, ⟨by omega, by omega, by omega, by omega⟩, ⟨by omega, by omega, by rw [List.length_append]; omega⟩⟩, by rw [List.map_append, ← List.append_assoc]; exact k7, ⟨k3, k8, k18, ⟨f1.1, f2.1, l1, Nat.le_refl _, fun x hx => Or.inl (hD x hx), ?_⟩⟩, ⟨k12, k12', k13, h4.2.2.2.2.1⟩⟩
  · simp only [List.mem_cons, List.not_mem_nil, or_false] at ha ⊢
    rcases h5 with e | e
    · subst e; exact Or.inl ha
    · rcases ha with rfl | rfl | rfl | rfl
      · exact Or.inl (Or.inl rfl)
      · exact Or.inl (Or.inr (Or.inl rfl))
      · exact Or.inl (Or.inr (Or.inr (Or.inl rfl)))
      · exact Or.inr e
  · rcases k5 with e | e
    · subst e; exact h5
    · exact Or.inr (by omega)
  · have hne : ∀ a ∈ [x0, nw, na, ca1], ¬ tg f1 a = some (.inl 19) := by
      intro a ha z
      simp only [List.mem_cons, List.not_mem_nil, or_false] at ha
      rcases ha with rfl | rfl | rfl | rfl
      · rw [h4.1.1.1] at z; cases z
      · rw [h4.2.1.2.1.1] at z; cases z
      · rw [h4.2.2.1.1] at z; cases z
      · rw [h4.2.2.2.2.1] at z; cases z
    exact h8.app k11 k3 (fun a ha => Or.inr (Or.inr (hne a ha))) l1 (Nat.le_refl _) (by omega) (by omega)
  · exact fun f' P F M nv' q1 q2 q3 q4 q5 => k10 f' P F M nv' q1 q2 q3 (fun e he => q4 e (List.mem_append_right _ he)) q5
/-- the head as a step of the model -/
theorem ask_hd (hst : l.stackTraces = false) {wh : Bool} {q' : Nat × Nat} {s00 : MS} {bk : BE} {Bl : List BE} {Fn : List FE} (h1 : (tk ch n p).1 = 1) (hk : kw (tk ch n p) = if wh then 3 else 1) (hc : c < 3850) (hbl : Bl.length + 1 ≤ o) (ho : o < 10) (h40 : (tk ch n (tk ch n p).2.2.2).1 = 3 ∧ (tk ch n (tk ch n p).2.2.2).2.2.1 = 40) (hx : XF l E wm (dt + 1) 0 ch n hf ms0 (0, 0) (((tk ch n (tk ch n p).2.2.2).2.2.2, o + 1), vs, askO (oup O (4000 * (1 - hf) + c) (1, 0, 0, 0, nI (tk ch n p).2.1)) (4000 * (1 - hf) + (c + 1)) wh (nI (tk ch n p).2.1), askC (c + 1) wh, B, []) q' ((p1, o + 1), vs1, O1, c1, B1, [])) (hq : okE q' (tk ch n p1)) (hc1 : c1 < 3900) (h41 : (tk ch n p1).1 = 3 ∧ (tk ch n p1).2.2.1 = 41) (h123 : (tk ch n (tk ch n p1).2.2.2).1 = 3 ∧ (tk ch n (tk ch n p1).2.2.2).2.2.1 = 123) : TF l E wm dt ch n hf s00 (((p, o), vs, O, c, B), bk :: Bl, Fn) ((((tk ch n (tk ch n p1).2.2.2).2.2.2, o + 1), vs1, oup O1 (4000 * (1 - hf) + c1) (14, 0, 0, 0, nI (tk ch n p).2.1), c1 + 1, B1), ((if wh then 3 else 1), 4000 * (1 - hf) + c1, 4000 * (1 - hf) + (c + 1)) :: bk :: Bl, Fn) := by
  intro Q hQ s hs
  exact T_ask (wh := wh) (sd := ms0) hst hs h1 hk hc (by omega) (fun z => absurd h40 z) (fun _ _ z => by omega) (fun _ _ _ => Or.inr ⟨q', p1, vs1, O1, c1, B1, hx, hq, hc1, fun z => absurd h41 z, fun _ _ => ⟨fun z => absurd h123 z, fun _ _ s' h' => hQ s' h'⟩⟩)
/-- the head's faults -/
theorem ask_b1 (hst : l.stackTraces = false) {wh : Bool} {s00 : MS} {bk : BE} {Bl : List BE} {Fn : List FE} (h1 : (tk ch n p).1 = 1) (hk : kw (tk ch n p) = if wh then 3 else 1) (hc : c < 3850) (hbl : Bl.length + 1 ≤ o) (ho : o ≤ 10) {kk pl : Nat} (hb : (¬ ((tk ch n (tk ch n p).2.2.2).1 = 3 ∧ (tk ch n (tk ch n p).2.2.2).2.2.1 = 40) ∧ kk = wk (tk ch n (tk ch n p).2.2.2) ∧ pl = (tk ch n (tk ch n p).2.2.2).2.1) ∨ (((tk ch n (tk ch n p).2.2.2).1 = 3 ∧ (tk ch n (tk ch n p).2.2.2).2.2.1 = 40) ∧ o = 10 ∧ kk = 3 ∧ pl = (tk ch n (tk ch n p).2.2.2).2.1) ∨ (((tk ch n (tk ch n p).2.2.2).1 = 3 ∧ (tk ch n (tk ch n p).2.2.2).2.2.1 = 40) ∧ o < 10 ∧ XB l E wm (dt + 1) 0 ch n hf ms0 (0, 0) (((tk ch n (tk ch n p).2.2.2).2.2.2, o + 1), vs, askO (oup O (4000 * (1 - hf) + c) (1, 0, 0, 0, nI (tk ch n p).2.1)) (4000 * (1 - hf) + (c + 1)) wh (nI (tk ch n p).2.1), askC (c + 1) wh, B, []) kk pl)) : TBt l E wm dt ch n hf s00 (((p, o), vs, O, c, B), bk :: Bl, Fn) kk pl := by
  intro Q hQ s hs
  rcases hb with ⟨b1, rfl, rfl⟩ | ⟨b1, b2, rfl, rfl⟩ | ⟨b1, b2, b3⟩
  · exact T_ask (wh := wh) (sd := ms0) hst hs h1 hk hc (by omega) (fun _ => hQ) (fun z1 z2 => absurd ⟨z1, z2⟩ b1) (fun z1 z2 => absurd ⟨z1, z2⟩ b1)
  · exact T_ask (wh := wh) (sd := ms0) hst hs h1 hk hc (by omega) (fun z => absurd b1 z) (fun _ _ _ => hQ) (fun _ _ z => by omega)
  · exact T_ask (wh := wh) (sd := ms0) hst hs h1 hk hc (by omega) (fun z => absurd b1 z) (fun _ _ z => by omega) (fun _ _ _ => Or.inl ⟨kk, pl, b3, hQ⟩)
theorem ask_b2 (hst : l.stackTraces = false) {wh : Bool} {q' : Nat × Nat} {s00 : MS} {bk : BE} {Bl : List BE} {Fn : List FE} (h1 : (tk ch n p).1 = 1) (hk : kw (tk ch n p) = if wh then 3 else 1) (hc : c < 3850) (hbl : Bl.length + 1 ≤ o) (ho : o < 10) (h40 : (tk ch n (tk ch n p).2.2.2).1 = 3 ∧ (tk ch n (tk ch n p).2.2.2).2.2.1 = 40) (hx : XF l E wm (dt + 1) 0 ch n hf ms0 (0, 0) (((tk ch n (tk ch n p).2.2.2).2.2.2, o + 1), vs, askO (oup O (4000 * (1 - hf) + c) (1, 0, 0, 0, nI (tk ch n p).2.1)) (4000 * (1 - hf) + (c + 1)) wh (nI (tk ch n p).2.1), askC (c + 1) wh, B, []) q' ((p1, o + 1), vs1, O1, c1, B1, [])) (hq : okE q' (tk ch n p1)) (hc1 : c1 < 3900) {kk pl : Nat} (hb : (¬ ((tk ch n p1).1 = 3 ∧ (tk ch n p1).2.2.1 = 41) ∧ kk = wk (tk ch n p1) ∧ pl = (tk ch n p1).2.1) ∨ (((tk ch n p1).1 = 3 ∧ (tk ch n p1).2.2.1 = 41) ∧ ¬ ((tk ch n (tk ch n p1).2.2.2).1 = 3 ∧ (tk ch n (tk ch n p1).2.2.2).2.2.1 = 123) ∧ kk = wk (tk ch n (tk ch n p1).2.2.2) ∧ pl = (tk ch n (tk ch n p1).2.2.2).2.1)) : TBt l E wm dt ch n hf s00 (((p, o), vs, O, c, B), bk :: Bl, Fn) kk pl := by
  intro Q hQ s hs
  rcases hb with ⟨b1, rfl, rfl⟩ | ⟨b1, b2, rfl, rfl⟩
  · exact T_ask (wh := wh) (sd := ms0) hst hs h1 hk hc (by omega) (fun z => absurd h40 z) (fun _ _ z => by omega) (fun _ _ _ => Or.inr ⟨q', p1, vs1, O1, c1, B1, hx, hq, hc1, fun _ => hQ, fun z1 z2 => absurd ⟨z1, z2⟩ b1⟩)
  · exact T_ask (wh := wh) (sd := ms0) hst hs h1 hk hc (by omega) (fun z => absurd h40 z) (fun _ _ z => by omega) (fun _ _ _ => Or.inr ⟨q', p1, vs1, O1, c1, B1, hx, hq, hc1, fun z => absurd b1 z, fun _ _ => ⟨fun _ => hQ, fun z1 z2 => absurd ⟨z1, z2⟩ b2⟩⟩)
set_option maxHeartbeats 8000000 in
/-- while -/
theorem D_loop (hst : l.stackTraces = false) (hIH : ∀ p', p < p' → bkS l E w wm dt ch n hf x0 nw na K0 p') (h : tIn w ch n x0 nw na E K0 p o ca cap c vs A B s f) (h1 : (tk ch n p).1 = 1) (hk : kw (tk ch n p) = 3) (ho1 : 1 ≤ o) (hd : 20 * (10 - o) + 59 ≤ d) (hok : dOk l E w wm dt ch n hf x0 nw na p o ca cap c vs O A B s f Q) (hbad : ∀ s' f', tBad l E wm dt ch n hf K0 p o c vs O B s s' f' → Q (.inr 1) s' f') : EvC l E w d MX11_loop [.ref x0] s f Q := by
  have hm := h.num
  have hsc := h.1.1
  have ht := hsc.tk
  have hr := h.1.2.2.1
  have hfb := h.1.2.2.2.1
  have hp1 := ht.1.2.1
  have hp2 := ht.2.2.2.2 (by omega)
  have hwk : ∀ p', ¬ (tk ch n p').1 = 4 → wk (tk ch n p') = 2 := fun p' z => if_neg z
  have hwk1 : ∀ p', (tk ch n p').1 = 4 → wk (tk ch n p') = 1 := fun p' z => if_pos z
  have kB : B ++ ([] : List CE).map toB = B := by rw [List.map_nil, List.append_nil]
  have hkw : kw (tk ch n p) = if true = true then 3 else 1 := by rw [if_pos rfl]; exact hk
  obtain ⟨d, rfl⟩ : ∃ d', d = d' + 7 + 1 := ⟨d - 8, by omega⟩
  refine eR11_loop hst ⟨by unfold rmF; omega, fun N f1 eN e1 => ?_⟩
  subst eN
  have g1 : gE [] f f1 := by rw [e1]; exact gE.new _ _
  have o1 : oc f1 f.1 24 := by rw [e1]; exact oc_new _ _
  have z1 : f1.1 = f.1 + 1 ∧ f1.2.1 = f.2.1 + 4 := by rw [e1]; exact ⟨rfl, rfl⟩
  refine eX26_init hst (eX14_init hst ⟨rfl, rfl, ?_⟩)
  have D1 := (dM.init (hf := hf) (O := O) h).heap (z' := 4) h g1 (fun a ha => absurd ha List.not_mem_nil) (by omega)
  have hr1 := D1.2.1.2.1
  have hk1 := D1.kc h
  have lx := hr.1.2.2.1
  have lw := hr.2.1.2.2.1
  have la := hr.2.2.1.2.2.1
  have lc := hr.2.2.2.2.2.1
  have cbN : ∀ {D : List Nat} {g : RH}, gE D f g → g.2.2.2 ≤ f.1 := fun q => by rw [q.2.1]; exact hfb
  refine ⟨hr1.1.1, hr1.1.2.1, C_nextS hst hsc hk1.1.1 (fun s' y4 hF => hbad s' f1 (tBad.mk D1 hF (by omega) (by decide) (fun s00 bk Bl Fn hb => ask_b1 hst h1 hkw (by omega) hb (by omega) (Or.inl ⟨fun y => by omega, (hwk1 _ y4).symm, rfl⟩)))) (fun s1 hcf1 hs1 => ⟨rfl, hr1.1.1, hr1.1.2.1, ?_⟩)⟩
  have D2 := D1.tok (u' := 1) hcf1 hs1 (by omega)
  have ht1 := hs1.tk
  have hp3 := ht1.1.2.1
  refine C_takeS hst (c := 40) hs1 hk1.1.1 (by decide) (fun z => absurd z (by decide)) (fun y s' hF => hbad s' f1 (tBad.mk D2 hF (by omega) (by decide) (fun s00 bk Bl Fn hb => ask_b1 hst h1 hkw (by omega) hb (by omega) (Or.inl ⟨y, (hwk _ hs1.2.1.2.2).symm, rfl⟩)))) (fun y1 y2 _ y3 s' hF => hbad s' f1 (tBad.mk D2 hF (by omega) (by decide) (fun s00 bk Bl Fn hb => ask_b1 hst h1 hkw (by omega) hb (by omega) (Or.inr (Or.inl ⟨⟨y1, y2⟩, y3, rfl, rfl⟩))))) (fun y1 y2 y3 s' y4 hF => hbad s' f1 (tBad.mk D2 hF (by omega) (by decide) (fun s00 bk Bl Fn hb => ask_b1 hst h1 hkw (by omega) hb (by omega) (Or.inr (Or.inr ⟨⟨y1, y2⟩, by have := fun q => y3 ⟨Or.inl rfl, q⟩; omega, XB_bad0 hst y4 (by decide) (by have := askC_le (c + 1) true; omega)⟩))))) (fun y1 y2 y3 s2 hcf2 hs2 => ⟨rfl, hr1.1.1, ?_⟩)
  have ho : o < 10 := by have := fun q => y3 ⟨Or.inl rfl, q⟩; omega
  rw [if_pos (by decide)] at hs2
  have hp4 := ht1.2.2.2.2 (by omega)
  have aC : askC (c + 1) true = c + 2 := rfl
  have aO : askO (oup O (4000 * (1 - hf) + c) (1, 0, 0, 0, nI (tk ch n p).2.1)) (4000 * (1 - hf) + (c + 1)) true (nI (tk ch n p).2.1) = oup (oup O (4000 * (1 - hf) + c) (1, 0, 0, 0, nI (tk ch n p).2.1)) (4000 * (1 - hf) + (c + 1)) (16, 0, 0, 0, nI (tk ch n p).2.1) := rfl
  have D3 := (D2.tok (u' := 1) hcf2 hs2 (by omega)).ord (O2 := oup (oup O (4000 * (1 - hf) + c) (1, 0, 0, 0, nI (tk ch n p).2.1)) (4000 * (1 - hf) + (c + 1)) (16, 0, 0, 0, nI (tk ch n p).2.1)) (c2 := c + 2) (r' := 2) (fun i hi => (oup_ne _ _ (by omega)).trans (oup_ne _ _ (by omega))) (by omega) (by omega)
  have I3 := D3.inn h (by omega) (by omega)
  refine R_expr (al := 0) (wm := wm) (dm := dt + 1) (hf := hf) (s0 := ms0) hst (tk ch n (tk ch n p).2.2.2).2.2.2 (o + 1) ca cap (c + 2) vs (oup (oup O (4000 * (1 - hf) + c) (1, 0, 0, 0, nI (tk ch n p).2.1)) (4000 * (1 - hf) + (c + 1)) (16, 0, 0, 0, nI (tk ch n p).2.1)) (A ++ []) (B ++ ([] : List CE).map toB) [] s2 f1 (d + 7) _ I3 (Nat.zero_le _) (by decide) (fun x X' e => by cases e) (Or.inl rfl) (by omega) (fun v s3 f3 k => ⟨v, rfl, ?_⟩) (fun s' f' k => ?_)
  · obtain ⟨p3, vs3, O3, c3, dC3, dA3, ca3, cap3, q3, D4, ⟨k1, k2⟩, ⟨k3, k4, k5, k6⟩, ⟨k7, k8, k9⟩⟩ := D3.sub (D := [f.1]) (fun x hx => by rw [List.mem_singleton.mp hx]; omega) k
    rw [kB] at k2
    have hNc : f.1 ∉ [x0, nw, na, ca] := by
      intro z
      simp only [List.mem_cons, List.not_mem_nil, or_false] at z
      omega
    have cN3 : f3.2.2.1 f.1 = f1.2.2.1 f.1 := k3.ce (by omega) hNc
    have o3 := ocE cN3 o1
    have hl3 := k3.1
    refine ⟨o3, cbN D4.2.1.1, fun f4 e4 => ?_⟩
    have g4 : gE [f.1] f3 f4 := by rw [e4]; exact gE.set _ _ _
    have o4 : oc f4 f.1 24 := by rw [e4]; exact set_oc o3
    have z4 : f4.1 = f3.1 ∧ f4.2.1 = f3.2.1 := by rw [e4]; exact ⟨rfl, rfl⟩
    have v4 : vl f4 f.1 185 = .ref v := by rw [e4]; exact set_vl o3.1
    have D5 := D4.heap (z' := 4) h g4 (fun a ha => Or.inr (by rw [List.mem_singleton.mp ha, o3.1]; exact ⟨Nat.le_refl _, fun y => (by cases y), fun y => (by cases y)⟩)) (by omega)
    have k6 := k6.keep (D2 := [f.1]) g4 (fun x hx => Or.inr (Or.inl hx)) (fun x hx => Or.inl hx) (fun _ _ _ => rfl) (fun _ he => he) (Nat.le_refl _)
    have hr5 := D5.2.1.2.1
    have hk5 := D5.kc h
    have hs5 := D5.1.2
    have ht5 := hs5.tk
    have hp5 := ht5.1.2.1
    have I5 := (D5.inn h (by omega) (by omega)).nums
    refine ⟨hr5.1.1, hr5.1.2.1, C_takeS hst (c := 41) hs5 hk5.1.1 (by decide) (fun _ => by omega) (fun y s' hF => hbad s' f4 (tBad.mk D5 hF (by omega) (by decide) (fun s00 bk Bl Fn hb => ask_b2 hst h1 hkw (by omega) hb ho ⟨y1, y2⟩ k2 k1 (by omega) (Or.inl ⟨y, (hwk _ hs5.2.1.2.2).symm, rfl⟩)))) (fun _ _ y => absurd y (by decide)) (fun q1 q2 _ s' y4 hF => hbad s' f4 (tBad.mk D5 hF (by omega) (by decide) (fun s00 bk Bl Fn hb => ask_b2 hst h1 hkw (by omega) hb ho ⟨y1, y2⟩ k2 k1 (by omega) (Or.inr ⟨⟨q1, q2⟩, fun y => by omega, (hwk1 _ y4).symm, rfl⟩)))) (fun q1 q2 _ s6 hcf6 hs6 => ⟨rfl, hr5.1.1, ?_⟩)⟩
    rw [if_neg (by decide), if_pos (by decide), Nat.add_sub_cancel] at hs6
    have hp6 := ht5.2.2.2.2 (by omega)
    have D6 := (D5.tok (u' := 1) hcf6 hs6 (by omega)).ord (O2 := oup O3 (4000 * (1 - hf) + c3) (14, 0, 0, 0, nI (tk ch n p).2.1)) (c2 := c3 + 1) (r' := 3) (fun i hi => oup_ne _ _ (by omega)) (by omega) (by omega)
    have T6 := D6.tin h (by omega) (by omega)
    have hd1 := fun (h123 : (tk ch n (tk ch n p3).2.2.2).1 = 3 ∧ (tk ch n (tk ch n p3).2.2.2).2.2.1 = 123) s00 bk Bl Fn (hb : List.length Bl + 1 ≤ o) => ask_hd (s00 := s00) (bk := bk) (Bl := Bl) (Fn := Fn) hst h1 hkw (by omega) hb ho ⟨y1, y2⟩ k2 k1 (by omega) ⟨q1, q2⟩ h123
    refine hIH (tk ch n p3).2.2.2 (by omega) o ca3 cap3 (c3 + 1) vs3 (oup O3 (4000 * (1 - hf) + c3) (14, 0, 0, 0, nI (tk ch n p).2.1)) (A ++ ([] ++ dA3)) (B ++ List.map toB ([] ++ dC3)) s6 f4 (d + 7) _ T6 (by omega) (fun v2 s7 f5 k => ⟨v2, rfl, ?_⟩) (fun kk pl s' f' kF kb kk' kx => ?_)
    · obtain ⟨⟨t1, t2, t3⟩, p7, vs7, O7, c7, dC7, dA7, ca7, cap7, h125, D7, m2, ⟨m3, m4, m5, m6⟩, ⟨m7, m8, m9, m10⟩⟩ := D6.blk (D := [f.1]) (fun x hx => by rw [List.mem_singleton.mp hx]; omega) k
      have hl5 := m3.1
      have hNc2 : f.1 ∉ [x0, nw, na, ca3] := by
        intro z
        simp only [List.mem_cons, List.not_mem_nil, or_false] at z
        rcases z with z | z | z | z
        · omega
        · omega
        · omega
        · have := o4.1; rw [z, m10] at this; cases this
      have cN5 : f5.2.2.1 f.1 = f4.2.2.1 f.1 := m3.ce (by omega) hNc2
      have o5 := ocE cN5 o4
      refine ⟨o5, cbN D7.2.1.1, fun f6 e6 => ?_⟩
      have g6 : gE [f.1] f5 f6 := by rw [e6]; exact gE.set _ _ _
      have o6 : oc f6 f.1 24 := by rw [e6]; exact set_oc o5
      have z6 : f6.1 = f5.1 ∧ f6.2.1 = f5.2.1 := by rw [e6]; exact ⟨rfl, rfl⟩
      have v6 : vl f6 f.1 186 = .ref v2 ∧ vl f6 f.1 185 = .ref v := by
        rw [e6]
        refine ⟨set_vl o5.1, (set_vn o5.1 (by decide)).trans ?_⟩
        rw [(cellE cN5).2.2]; exact v4
      have Oa : O7 (4000 * (1 - hf) + c3) = (14, 0, 0, 0, nI (tk ch n p).2.1) := (m4 _ (by omega)).trans (oup_at _ _ _)
      have D8 := (D7.heap (z' := 4) h g6 (fun a ha => Or.inr (by rw [List.mem_singleton.mp ha, o5.1]; exact ⟨Nat.le_refl _, fun y => (by cases y), fun y => (by cases y)⟩)) (by omega)).ord (O2 := oup (oup O7 (4000 * (1 - hf) + c7) (15, 4000 * (1 - hf) + (c + 1), 0, 0, 0)) (4000 * (1 - hf) + c3) (14, 4000 * (1 - hf) + (c7 + 1), 0, 0, nI (tk ch n p).2.1)) (c2 := c7 + 1) (r' := 4) (fun i hi => (oup_ne _ _ (by omega)).trans (oup_ne _ _ (by omega))) (by omega) (by omega)
      have I7 := (D7.inn h (by omega) (by omega)).nums
      have hll := D7.2.1.1.1
      refine hok f.1 24 s7 f6 o6 (by decide) (cbN D8.2.1.1) (fun f7 e7 => D8.fin h o6 (by decide) ⟨Nat.le_refl _, by omega⟩ e7 (by omega) (by omega) (by omega) (by omega) (fun s00 bk Bl Fn hb => ?_) ?_ (fun f' P F M nv' t1' t2' t3' t4' t5' e161 oN ltN vlN => ?_))
      · refine (hd1 ⟨t1, t2⟩ s00 bk Bl Fn hb).trans ((m2 s00 _ (bk :: Bl) Fn (by rw [List.length_cons]; omega)).trans ?_)
        intro Q hQ s' hs'
        refine T_clW hst hs' h125 (by omega) (by rw [List.length_cons]; omega) (Or.inl rfl) (by omega) ⟨by omega, by omega⟩ (by rw [Oa]; exact ⟨Nat.ne_of_beq_eq_false rfl, Nat.ne_of_beq_eq_false rfl⟩) (fun s'' h'' => hQ s'' ?_)
        rw [Oa, Nat.add_sub_cancel] at h''
        exact h''
      · rw [oup_ne _ _ (by omega), oup_ne _ _ (by omega), m4 _ (by omega), oup_ne _ _ (by omega), k4 _ (by omega), oup_ne _ _ (by omega)]; exact oup_at _ _ _
      · have g7 : gE [f.1] f6 f7 := by rw [e7]; exact gE.set _ _ _
        have K1 : Kg f7 O7 ([] ++ dC3 ++ dC7) f.1 [f.1] vs7.length _ _ _ := ((k6.keep (D2 := [f.1]) (O' := O7) (C' := [] ++ dC3 ++ dC7) m3 (fun x hx => by
          simp only [List.mem_cons, List.not_mem_nil, or_false] at hx
          rcases hx with rfl | rfl | rfl | rfl
          · exact Or.inl lx
          · exact Or.inl lw
          · exact Or.inl la
          · exact Or.inr (Or.inr (Or.inr m10))) (fun x hx => Or.inl hx) (fun i i1 i2 => (m4 i (by omega)).trans (oup_ne _ _ (by omega))) (fun e he => List.mem_append_left _ he) m5).keep (D2 := [f.1]) g6 (fun x hx => Or.inr (Or.inl hx)) (fun x hx => Or.inl hx) (fun _ _ _ => rfl) (fun _ he => he) (Nat.le_refl _)).keep (D2 := [f.1]) g7 (fun x hx => Or.inr (Or.inl hx)) (fun x hx => Or.inl hx) (fun _ _ _ => rfl) (fun _ he => he) (Nat.le_refl _)
        have K2 := (m6.keep (D2 := [f.1]) g6 (fun x hx => Or.inr (Or.inl hx)) (fun x hx => Or.inl hx) (fun _ _ _ => rfl) (fun _ he => he) (Nat.le_refl _)).keep (D2 := [f.1]) g7 (fun x hx => Or.inr (Or.inl hx)) (fun x hx => Or.inl hx) (fun _ _ _ => rfl) (fun _ he => he) (Nat.le_refl _)
        have old : ∀ i, 4000 * (1 - hf) + c ≤ i → i < 4000 * (1 - hf) + c7 → ¬ i = 4000 * (1 - hf) + c3 → oAg (O7 i) (P.1 i) := fun i i1 i2 i3 => by
          have := t3' i i1 (by omega)
          rw [oup_ne _ _ i3, oup_ne _ _ (by omega)] at this
          exact this
        have rn := K1.rep (Nat.le_refl f7.1) t1' t2' (fun i i1 i2 => old i (by omega) (by omega) (by omega)) t4' t5'
        have rb := K2.rep (Nat.le_refl f7.1) t1' t2' (fun i i1 i2 => old i (by omega) (by omega) (by omega)) t4' t5'
        have pa := old (4000 * (1 - hf) + (c + 1)) (by omega) (by omega) (by omega)
        rw [m4 _ (by omega), oup_ne _ _ (by omega), k4 _ (by omega), oup_at] at pa
        have pa := pa.eq (by exact Nat.ne_of_beq_eq_false rfl) (by exact Nat.ne_of_beq_eq_false rfl)
        have pt := t3' (4000 * (1 - hf) + c3) (by omega) (by omega)
        rw [oup_at] at pt
        have pt := pt.eq (by exact Nat.ne_of_beq_eq_false rfl) (by exact Nat.ne_of_beq_eq_false rfl)
        have pj := t3' (4000 * (1 - hf) + c7) (by omega) (by omega)
        rw [oup_ne _ _ (by omega), oup_at] at pj
        have pj := pj.eq (by exact Nat.ne_of_beq_eq_false rfl) (by exact Nat.ne_of_beq_eq_false rfl)
        refine ⟨f.1, nI (tk ch n p).2.1, rfl, ltN, e161, hN_1 _ _, Or.inr (Or.inr (Or.inl ⟨oN, 4000 * (1 - hf) + c3, 4000 * (1 - hf) + c7, 0, 0, 0, 0, 0, 0, 0, 0, pa, ?_, pt, ?_, pj, rfl⟩))⟩
        · rw [vlN 185 (by decide), v6.2]
          exact rn.mono (by omega) (hN_le (by omega) (by omega))
        · rw [vlN 186 (by decide), v6.1]
          exact rb.mono (by omega) (by omega) (hN_le (by omega) (by omega))
    · refine hbad s' f' (tBad.mk D6 kF kb kk' (fun s00 bk Bl Fn hb => ?_))
      rcases kx with ⟨x1, rfl, rfl⟩ | ⟨x1, x2, -⟩ | ⟨x1, x2, x3⟩
      · exact ask_b2 hst h1 hkw (by omega) hb ho ⟨y1, y2⟩ k2 k1 (by omega) (Or.inr ⟨⟨q1, q2⟩, x1, (hwk _ hs6.2.1.2.2).symm, rfl⟩)
      · omega
      · refine (hd1 x1 s00 bk Bl Fn hb).bad ?_
        rcases x3 with x3 | ⟨p7, vs7, O7, c7, B7, x3, h125, x4, rfl, rfl, x5, x6, x7⟩
        · exact x3 s00 _ (bk :: Bl) Fn (by rw [List.length_cons]; omega)
        · refine (x3 s00 _ (bk :: Bl) Fn (by rw [List.length_cons]; omega)).bad ?_
          have Oa : O7 (4000 * (1 - hf) + c3) = (14, 0, 0, 0, nI (tk ch n p).2.1) := (x7 _ (by omega)).trans (oup_at _ _ _)
          intro Q hQ s'' hs''
          exact T_clW hst hs'' h125 (by omega) (by rw [List.length_cons]; omega) (Or.inl rfl) (by omega) ⟨by omega, by omega⟩ (by rw [Oa]; exact ⟨Nat.ne_of_beq_eq_false rfl, Nat.ne_of_beq_eq_false rfl⟩) (fun s3 h3 => TB_bad4 hst x4 (by omega) (by omega) Q hQ s3 h3)
  · obtain ⟨k, pl, kF, kb, kk, kx⟩ := k
    rw [kB] at kx
    exact hbad s' f' (tBad.mk D3 kF kb kk (fun s00 bk Bl Fn hb => ask_b1 hst h1 hkw (by omega) hb (by omega) (Or.inr (Or.inr ⟨⟨y1, y2⟩, ho, kx⟩))))
end AK
