/-! FOR -/
section FOR
variable {l : Launch} {E : EN} {w : CO} {wm : MO} {dt d : Nat} {ch : Nat → Nat} {n hf : Nat} {x0 nw na K0 p o ca cap c u z r p1 o1 ca1 cap1 c1 p2 c2 N k m : Nat} {vs vs1 : List Nat} {O O1 O2 : Nat → Od} {A dA : List (Nat × Nat × Nat)} {B B1 : List Tok} {dC : List CE} {s s1 s2 : CS} {f f1 f2 : RH} {Q : KO → CS → RH → Prop}
/-- a name within -/
theorem dM.nm {u' : Nat} {vs2 : List Nat} (h : dM w ch n hf x0 nw na p o ca cap c vs O A s f u z r p1 o1 ca1 cap1 c1 vs1 O1 dC dA s1 f1) (hi : tIn w ch n x0 nw na E K0 p o ca cap c vs A B s f) (hc : cfP s1 s2) (hs : cSc ch n p2 o1 s2) (hr : rdR w f2 x0 nw na ca1 cap1 vs2 (A ++ dA)) (hg : gE [nw, na] f1 f2) (hz : f2.2.1 = f1.2.1) (hv : vs1.length ≤ vs2.length) (hp : p1 + u' ≤ p2) : dM w ch n hf x0 nw na p o ca cap c vs O A s f (u + u') z r p2 o1 ca1 cap1 c1 vs2 O1 dC dA s2 f2 := by
  obtain ⟨⟨h1, h2⟩, ⟨h3, h4, h5⟩, h7, h8, ⟨h9, h10, h11, h12⟩, h13, h14, h15⟩ := h
  have hr0 := hi.1.2.2.1
  have lw := hr0.2.1.2.2.1
  have la := hr0.2.2.1.2.2.1
  have hl := hg.1
  refine ⟨⟨h1.trans hc, hs⟩, ⟨h3.trans hg (fun a ha => Or.inl ?_), hr, h5⟩, h7, h8.wide hg (fun a ha => Or.inl ?_) (Nat.le_refl _) (Nat.le_refl _) (by omega), ⟨by omega, h10, h11, by omega⟩, ⟨by omega, by omega, by omega⟩⟩
  · simp only [List.mem_cons, List.not_mem_nil, or_false] at ha ⊢
    omega
  · simp only [List.mem_cons, List.not_mem_nil, or_false] at ha
    rcases ha with rfl | rfl <;> assumption
theorem nm_len (vs : List Nat) (v : Nat) : vs.length ≤ (nmV vs v).length ∧ nmN vs v < 8 + (nmV vs v).length := by
  unfold nmV nmN
  split
  · omega
  · have := nup_len vs v; omega
/-- a word is taken -/
theorem R_takeW (hst : l.stackTraces = false) {a kk : Nat} (h : cSc ch n p o s) (hkc : cKc E f) (hr : oc f x0 11) (hr2 : vl f x0 147 = .ref (w.1 2)) (hk : kk < 41) (hs : strR E f a (wbL.getD kk [])) (hno : ¬ kw (tk ch n p) = kk → ∀ s', cFl s s' 2 (tk ch n p).2.1 → Q (.inr 1) s' f) (hbad : kw (tk ch n p) = kk → (tk ch n (tk ch n p).2.2.2).1 = 4 → ∀ s', cFl s s' 1 (tk ch n (tk ch n p).2.2.2).2.1 → Q (.inr 1) s' f) (hok : kw (tk ch n p) = kk → ∀ s', cfP s s' → cSc ch n (tk ch n p).2.2.2 o s' → Q (.inl none) s' f) : EvC l E w (d + 7) MX11_take [.ref x0, .ref a] s f Q := by
  refine eR11_take hst ⟨hr, hr2, C_isW (k := kk) hst h hk hs hkc.2.1 ⟨_, rfl, bn_b (fun z => ⟨hr, hr2, hr, hr2, ?_⟩) (fun z => ⟨hr, hr2, C_nextS hst h hkc.1 (fun s' y4 hF => hbad z y4 s' hF) (fun s' hc hs => ⟨rfl, hok z s' hc hs⟩)⟩)⟩⟩
  exact eX2_wrong hst ⟨rfl, hno z _ ⟨(cfP.uI _ 14 _).trans (cfP.uI _ 15 _), rfl, h.2.1.1.2.1⟩⟩
theorem for_hd (hst : l.stackTraces = false) {q' : Nat × Nat} {s00 : MS} {bk : BE} {Bl : List BE} {Fn : List FE} {t1 t2 : Tok} (et1 : tk ch n (tk ch n p).2.2.2 = t1) (et2 : tk ch n t1.2.2.2 = t2) (h1 : (tk ch n p).1 = 1) (hk : kw (tk ch n p) = 4) (hc : c < 3850) (hbl : Bl.length + 1 ≤ o) (ho : o < 10) (hn1 : t1.1 = 1) (hn2 : kw t1 = 41) (hn3 : ¬ (¬ (1 ≤ t1.2.2.1 ∧ t1.2.2.1 ≤ 8) ∧ nix vs t1.2.2.1 = 14)) (h5 : kw t2 = 5) (hx : XF l E wm (dt + 1) 0 ch n hf ms0 (0, 0) ((t2.2.2.2, o), nmV vs t1.2.2.1, oup O (4000 * (1 - hf) + c) (1, 0, 0, 0, nI (tk ch n p).2.1), c + 1, B, []) q' ((p1, o), vs1, O1, c1, B1, [])) (hq : okE q' (tk ch n p1)) (hc1 : c1 < 3900) (h123 : (tk ch n p1).1 = 3 ∧ (tk ch n p1).2.2.1 = 123) : TF l E wm dt ch n hf s00 (((p, o), vs, O, c, B), bk :: Bl, Fn) ((((tk ch n p1).2.2.2, o + 1), vs1, oup (oup O1 (4000 * (1 - hf) + c1) (17, 0, 0, 0, nI (tk ch n p).2.1)) (4000 * (1 - hf) + (c1 + 1)) (18, 0, nmN vs t1.2.2.1, 0, nI (tk ch n p).2.1), c1 + 1 + 1, B1), (4, 4000 * (1 - hf) + (c1 + 1), 4000 * (1 - hf) + (c1 + 1)) :: bk :: Bl, Fn) := by
  intro Q hQ s hs
  exact T_for (sd := ms0) hst hs h1 hk hc (by omega) et1 et2 (fun z => absurd ⟨hn1, hn2⟩ z) (fun _ _ z => absurd z hn3) (fun _ _ _ z => absurd h5 z) (fun _ _ _ _ => Or.inr ⟨q', p1, vs1, O1, c1, B1, hx, hq, hc1, fun z => absurd h123 z, fun _ _ z => by omega, fun _ _ _ s' h' => hQ s' h'⟩)
theorem for_b (hst : l.stackTraces = false) {s00 : MS} {bk : BE} {Bl : List BE} {Fn : List FE} {t1 t2 : Tok} (et1 : tk ch n (tk ch n p).2.2.2 = t1) (et2 : tk ch n t1.2.2.2 = t2) (h1 : (tk ch n p).1 = 1) (hk : kw (tk ch n p) = 4) (hc : c < 3850) (hbl : Bl.length + 1 ≤ o) (ho : o ≤ 10) {kk pl : Nat} (hb : (¬ (t1.1 = 1 ∧ kw t1 = 41) ∧ kk = wk t1 ∧ pl = t1.2.1) ∨ ((t1.1 = 1 ∧ kw t1 = 41) ∧ (¬ (1 ≤ t1.2.2.1 ∧ t1.2.2.1 ≤ 8) ∧ nix vs t1.2.2.1 = 14) ∧ kk = 3 ∧ pl = t1.2.1) ∨ ((t1.1 = 1 ∧ kw t1 = 41) ∧ ¬ (¬ (1 ≤ t1.2.2.1 ∧ t1.2.2.1 ≤ 8) ∧ nix vs t1.2.2.1 = 14) ∧ ¬ kw t2 = 5 ∧ kk = wk t2 ∧ pl = t2.2.1) ∨ ((t1.1 = 1 ∧ kw t1 = 41) ∧ ¬ (¬ (1 ≤ t1.2.2.1 ∧ t1.2.2.1 ≤ 8) ∧ nix vs t1.2.2.1 = 14) ∧ kw t2 = 5 ∧ (XB l E wm (dt + 1) 0 ch n hf ms0 (0, 0) ((t2.2.2.2, o), nmV vs t1.2.2.1, oup O (4000 * (1 - hf) + c) (1, 0, 0, 0, nI (tk ch n p).2.1), c + 1, B, []) kk pl ∨ ∃ q' p1 vs1 O1 c1 B1, XF l E wm (dt + 1) 0 ch n hf ms0 (0, 0) ((t2.2.2.2, o), nmV vs t1.2.2.1, oup O (4000 * (1 - hf) + c) (1, 0, 0, 0, nI (tk ch n p).2.1), c + 1, B, []) q' ((p1, o), vs1, O1, c1, B1, []) ∧ okE q' (tk ch n p1) ∧ c1 < 3900 ∧ ((¬ ((tk ch n p1).1 = 3 ∧ (tk ch n p1).2.2.1 = 123) ∧ kk = wk (tk ch n p1) ∧ pl = (tk ch n p1).2.1) ∨ (((tk ch n p1).1 = 3 ∧ (tk ch n p1).2.2.1 = 123) ∧ o = 10 ∧ kk = 3 ∧ pl = (tk ch n p1).2.1))))) : TBt l E wm dt ch n hf s00 (((p, o), vs, O, c, B), bk :: Bl, Fn) kk pl := by
  intro Q hQ s hs
  rcases hb with ⟨b1, rfl, rfl⟩ | ⟨b1, b2, rfl, rfl⟩ | ⟨b1, b2, b3, rfl, rfl⟩ | ⟨b1, b2, b3, b4⟩
  · exact T_for (sd := ms0) hst hs h1 hk hc (by omega) et1 et2 (fun _ => hQ) (fun z1 z2 => absurd ⟨z1, z2⟩ b1) (fun z1 z2 => absurd ⟨z1, z2⟩ b1) (fun z1 z2 => absurd ⟨z1, z2⟩ b1)
  · exact T_for (sd := ms0) hst hs h1 hk hc (by omega) et1 et2 (fun z => absurd b1 z) (fun _ _ _ => hQ) (fun _ _ z => absurd b2 z) (fun _ _ z => absurd b2 z)
  · exact T_for (sd := ms0) hst hs h1 hk hc (by omega) et1 et2 (fun z => absurd b1 z) (fun _ _ z => absurd z b2) (fun _ _ _ _ => hQ) (fun _ _ _ z => absurd z b3)
  · refine T_for (sd := ms0) hst hs h1 hk hc (by omega) et1 et2 (fun z => absurd b1 z) (fun _ _ z => absurd z b2) (fun _ _ _ z => absurd b3 z) (fun _ _ _ _ => ?_)
    rcases b4 with b4 | ⟨q', p1, vs1, O1, c1, B1, hx, hq, hc1, b5⟩
    · exact Or.inl ⟨kk, pl, b4, hQ⟩
    · refine Or.inr ⟨q', p1, vs1, O1, c1, B1, hx, hq, hc1, ?_⟩
      rcases b5 with ⟨b5, rfl, rfl⟩ | ⟨b5, b6, rfl, rfl⟩
      · exact ⟨fun _ => hQ, fun z1 z2 => absurd ⟨z1, z2⟩ b5, fun z1 z2 => absurd ⟨z1, z2⟩ b5⟩
      · exact ⟨fun z => absurd b5 z, fun _ _ _ => hQ, fun _ _ z => by omega⟩
set_option maxHeartbeats 8000000 in
/-- for -/
theorem D_walk (hst : l.stackTraces = false) (hIH : ∀ p', p < p' → bkS l E w wm dt ch n hf x0 nw na K0 p') (h : tIn w ch n x0 nw na E K0 p o ca cap c vs A B s f) (h1 : (tk ch n p).1 = 1) (hk : kw (tk ch n p) = 4) (ho1 : 1 ≤ o) (hd : 20 * (10 - o) + 59 ≤ d) (hok : dOk l E w wm dt ch n hf x0 nw na p o ca cap c vs O A B s f Q) (hbad : ∀ s' f', tBad l E wm dt ch n hf K0 p o c vs O B s s' f' → Q (.inr 1) s' f') : EvC l E w d MX11_walk [.ref x0] s f Q := by
  have hm := h.num
  have hsc := h.1.1
  have ht := hsc.tk
  have hr := h.1.2.2.1
  have hfb := h.1.2.2.2.1
  have hp1 := ht.1.2.1
  have hp2 := ht.2.2.2.2 (by omega)
  have hwk : ∀ p', ¬ (tk ch n p').1 = 4 → wk (tk ch n p') = 2 := fun p' z => if_neg z
  have hwk1 : ∀ p', (tk ch n p').1 = 4 → wk (tk ch n p') = 1 := fun p' z => if_pos z
  have kw41 : ∀ p', ¬ (tk ch n p').1 = 1 → kw (tk ch n p') = 41 := fun p' z => if_neg z
  have kB : B ++ ([] : List CE).map toB = B := by rw [List.map_nil, List.append_nil]
  obtain ⟨d, rfl⟩ : ∃ d', d = d' + 9 + 1 := ⟨d - 10, by omega⟩
  refine eR11_walk hst ⟨by unfold rmF; omega, fun N f1 eN e1 => ?_⟩
  subst eN
  have g1 : gE [] f f1 := by rw [e1]; exact gE.new _ _
  have o1 : oc f1 f.1 25 := by rw [e1]; exact oc_new _ _
  have z1 : f1.1 = f.1 + 1 ∧ f1.2.1 = f.2.1 + 5 := by rw [e1]; exact ⟨rfl, rfl⟩
  refine eX27_init hst (eX14_init hst ⟨rfl, rfl, ?_⟩)
  have D1 := (dM.init (hf := hf) (O := O) h).heap (z' := 5) h g1 (fun a ha => absurd ha List.not_mem_nil) (by omega)
  have hr1 := D1.2.1.2.1
  have hk1 := D1.kc h
  have lx := hr.1.2.2.1
  have lw := hr.2.1.2.2.1
  have la := hr.2.2.1.2.2.1
  have lc := hr.2.2.2.2.2.1
  have cbN : ∀ {D : List Nat} {g : RH}, gE D f g → g.2.2.2 ≤ f.1 := fun q => by rw [q.2.1]; exact hfb
  refine ⟨hr1.1.1, hr1.1.2.1, C_nextS hst hsc hk1.1.1 (fun s' y4 hF => hbad s' f1 (tBad.mk D1 hF (by omega) (by decide) (fun s00 bk Bl Fn hb => for_b hst rfl rfl h1 hk (by omega) hb (by omega) (Or.inl ⟨fun y => by omega, (hwk1 _ y4).symm, rfl⟩)))) (fun s1 hcf1 hs1 => ⟨rfl, hr1.1.1, ?_⟩)⟩
  have D2 := D1.tok (u' := 1) hcf1 hs1 (by omega)
  have ht1 := hs1.tk
  have hp3 := ht1.1.2.1
  refine R_name hst hs1 hk1.1 hr1 hk1.2 (fun y s' hF => hbad s' f1 (tBad.mk D2 hF (by omega) (by decide) (fun s00 bk Bl Fn hb => for_b hst rfl rfl h1 hk (by omega) hb (by omega) (Or.inl ⟨y, (hwk _ hs1.2.1.2.2).symm, rfl⟩)))) (fun y1 y2 y3 y4 s' hF => hbad s' f1 (tBad.mk D2 hF (by omega) (by decide) (fun s00 bk Bl Fn hb => for_b hst rfl rfl h1 hk (by omega) hb (by omega) (Or.inr (Or.inl ⟨⟨y1, y2⟩, ⟨y3, y4⟩, rfl, rfl⟩))))) (fun y1 y2 y3 y4 s' f' hF hb' => hbad s' f' (tBad.mk D2 hF (by omega) (by decide) (fun s00 bk Bl Fn hb => for_b hst rfl rfl h1 hk (by omega) hb (by omega) (Or.inr (Or.inr (Or.inl ⟨⟨y1, y2⟩, y3, by rw [kw41 _ (by omega)]; omega, (hwk1 _ y4).symm, rfl⟩)))))) (fun y1 y2 y3 s2 f2 hcf2 hs2 hr2 g2 e2a e2b => ⟨_, rfl, ?_⟩)
  have hp4 := ht1.2.2.2.2 (by omega)
  have nl := nm_len vs (tk ch n (tk ch n p).2.2.2).2.2.1
  have D3 := D2.nm (u' := 1) h hcf2 hs2 hr2 g2 e2b nl.1 (by omega)
  have hNn : f.1 ∉ [nw, na] := by
    simp only [List.mem_cons, List.not_mem_nil, or_false]; omega
  have cN2 : f2.2.2.1 f.1 = f1.2.2.1 f.1 := g2.ce (by omega) hNn
  have o2 := ocE cN2 o1
  refine ⟨o2, cbN D3.2.1.1, fun f3 e3 => ?_⟩
  have g3 : gE [f.1] f2 f3 := by rw [e3]; exact gE.set _ _ _
  have o3 : oc f3 f.1 25 := by rw [e3]; exact set_oc o2
  have z3 : f3.1 = f2.1 ∧ f3.2.1 = f2.2.1 := by rw [e3]; exact ⟨rfl, rfl⟩
  have v3 : vl f3 f.1 187 = .int (nI (nmN vs (tk ch n (tk ch n p).2.2.2).2.2.1)) := by rw [e3]; exact set_vl o2.1
  have D4 := D3.heap (z' := 5) h g3 (fun a ha => Or.inr (by rw [List.mem_singleton.mp ha, o2.1]; exact ⟨Nat.le_refl _, fun y => (by cases y), fun y => (by cases y)⟩)) (by omega)
  have hr4 := D4.2.1.2.1
  have hk4 := D4.kc h
  have ht2 := hs2.tk
  have hp5 := ht2.1.2.1
  refine ⟨hr4.1.1, R_takeW hst hs2 hk4.1 hr4.1.1 hr4.1.2.1 (by omega) (hk4.1.2.2.2.2.2 (50, 5) (by decide)) (fun y s' hF => hbad s' f3 (tBad.mk D4 hF (by omega) (by decide) (fun s00 bk Bl Fn hb => for_b hst rfl rfl h1 hk (by omega) hb (by omega) (Or.inr (Or.inr (Or.inl ⟨⟨y1, y2⟩, y3, y, (hwk _ hs2.2.1.2.2).symm, rfl⟩)))))) (fun y y4 s' hF => hbad s' f3 (tBad.mk D4 hF (by omega) (by decide) (fun s00 bk Bl Fn hb => for_b hst rfl rfl h1 hk (by omega) hb (by omega) (Or.inr (Or.inr (Or.inr ⟨⟨y1, y2⟩, y3, y, Or.inl (XB_bad0 hst y4 (by decide) (by omega))⟩)))))) (fun y5 s3 hcf3 hs3 => ⟨rfl, hr4.1.1, ?_⟩)⟩
  have h1i : (tk ch n (tk ch n (tk ch n p).2.2.2).2.2.2).1 = 1 := by
    by_cases q : (tk ch n (tk ch n (tk ch n p).2.2.2).2.2.2).1 = 1
    · exact q
    · rw [kw41 _ q] at y5; omega
  have hp6 := ht2.2.2.2.2 (by omega)
  have D5 := (D4.tok (u' := 1) hcf3 hs3 (by omega)).ord (O2 := oup O (4000 * (1 - hf) + c) (1, 0, 0, 0, nI (tk ch n p).2.1)) (c2 := c + 1) (r' := 1) (fun i hi => oup_ne _ _ (by omega)) (by omega) (by omega)
  have I5 := D5.inn h (by omega) (by omega)
  refine R_expr (al := 0) (wm := wm) (dm := dt + 1) (hf := hf) (s0 := ms0) hst (tk ch n (tk ch n (tk ch n p).2.2.2).2.2.2).2.2.2 o ca cap (c + 1) (nmV vs (tk ch n (tk ch n p).2.2.2).2.2.1) (oup O (4000 * (1 - hf) + c) (1, 0, 0, 0, nI (tk ch n p).2.1)) (A ++ []) (B ++ ([] : List CE).map toB) [] s3 f3 (d + 9) _ I5 (Nat.zero_le _) (by decide) (fun x X' e => by cases e) (Or.inl rfl) (by omega) (fun v s4 f4 k => ⟨v, rfl, ?_⟩) (fun s' f' k => ?_)
  · obtain ⟨p3, vs3, O3, c3, dC3, dA3, ca3, cap3, q3, D6, ⟨k1, k2⟩, ⟨k3, k4, k5, k6⟩, ⟨k7, k8, k9⟩⟩ := D5.sub (D := [f.1]) (fun x hx => by rw [List.mem_singleton.mp hx]; omega) k
    rw [kB] at k2
    have hNc : f.1 ∉ [x0, nw, na, ca] := by
      intro z
      simp only [List.mem_cons, List.not_mem_nil, or_false] at z
      omega
    have cN4 : f4.2.2.1 f.1 = f3.2.2.1 f.1 := k3.ce (by omega) hNc
    have o4 := ocE cN4 o3
    have hl4 := k3.1
    refine ⟨o4, cbN D6.2.1.1, fun f5 e5 => ?_⟩
    have g5 : gE [f.1] f4 f5 := by rw [e5]; exact gE.set _ _ _
    have o5 : oc f5 f.1 25 := by rw [e5]; exact set_oc o4
    have z5 : f5.1 = f4.1 ∧ f5.2.1 = f4.2.1 := by rw [e5]; exact ⟨rfl, rfl⟩
    have v5 : vl f5 f.1 188 = .ref v ∧ vl f5 f.1 187 = .int (nI (nmN vs (tk ch n (tk ch n p).2.2.2).2.2.1)) := by
      rw [e5]
      refine ⟨set_vl o4.1, (set_vn o4.1 (by decide)).trans ?_⟩
      rw [(cellE cN4).2.2]; exact v3
    have D7 := (D6.heap (z' := 5) h g5 (fun a ha => Or.inr (by rw [List.mem_singleton.mp ha, o4.1]; exact ⟨Nat.le_refl _, fun y => (by cases y), fun y => (by cases y)⟩)) (by omega)).ord (O2 := oup (oup O3 (4000 * (1 - hf) + c3) (17, 0, 0, 0, nI (tk ch n p).2.1)) (4000 * (1 - hf) + (c3 + 1)) (18, 0, nmN vs (tk ch n (tk ch n p).2.2.2).2.2.1, 0, nI (tk ch n p).2.1)) (c2 := c3 + 2) (r' := 3) (fun i hi => (oup_ne _ _ (by omega)).trans (oup_ne _ _ (by omega))) (by omega) (by omega)
    have k6 := k6.keep (D2 := [f.1]) g5 (fun x hx => Or.inr (Or.inl hx)) (fun x hx => Or.inl hx) (fun _ _ _ => rfl) (fun _ he => he) (Nat.le_refl _)
    have hr7 := D7.2.1.2.1
    have hs7 := D7.1.2
    have I7 := (D6.inn h (by omega) (by omega)).nums
    have T7 := D7.tin h (by omega) (by omega)
    have hd1 := fun (ho : o < 10) (h123 : (tk ch n p3).1 = 3 ∧ (tk ch n p3).2.2.1 = 123) s00 bk Bl Fn (hb : List.length Bl + 1 ≤ o) => for_hd (s00 := s00) (bk := bk) (Bl := Bl) (Fn := Fn) hst rfl rfl h1 hk (by omega) hb ho y1 y2 y3 y5 k2 k1 (by omega) h123
    refine ⟨hr7.1.1, hIH p3 (by omega) o ca3 cap3 (c3 + 2) vs3 (oup (oup O3 (4000 * (1 - hf) + c3) (17, 0, 0, 0, nI (tk ch n p).2.1)) (4000 * (1 - hf) + (c3 + 1)) (18, 0, nmN vs (tk ch n (tk ch n p).2.2.2).2.2.1, 0, nI (tk ch n p).2.1)) (A ++ ([] ++ dA3)) (B ++ List.map toB ([] ++ dC3)) s4 f5 (d + 9) _ T7 (by omega) (fun v2 s8 f6 k => ⟨v2, rfl, ?_⟩) (fun kk pl s' f' kF kb kk' kx => ?_)⟩
    · obtain ⟨⟨t1, t2, t3⟩, p7, vs7, O7, c7, dC7, dA7, ca7, cap7, h125, D8, m2, ⟨m3, m4, m5, m6⟩, ⟨m7, m8, m9, m10⟩⟩ := D7.blk (D := [f.1]) (fun x hx => by rw [List.mem_singleton.mp hx]; omega) k
      have hl6 := m3.1
      have hNc2 : f.1 ∉ [x0, nw, na, ca3] := by
        intro z
        simp only [List.mem_cons, List.not_mem_nil, or_false] at z
        rcases z with z | z | z | z
        · omega
        · omega
        · omega
        · have := o5.1; rw [z, m10] at this; cases this
      have cN6 : f6.2.2.1 f.1 = f5.2.2.1 f.1 := m3.ce (by omega) hNc2
      have o6 := ocE cN6 o5
      refine ⟨o6, cbN D8.2.1.1, fun f7 e7 => ?_⟩
      have g7 : gE [f.1] f6 f7 := by rw [e7]; exact gE.set _ _ _
      have o7 : oc f7 f.1 25 := by rw [e7]; exact set_oc o6
      have z7 : f7.1 = f6.1 ∧ f7.2.1 = f6.2.1 := by rw [e7]; exact ⟨rfl, rfl⟩
      have v7 : vl f7 f.1 189 = .ref v2 ∧ vl f7 f.1 188 = .ref v ∧ vl f7 f.1 187 = .int (nI (nmN vs (tk ch n (tk ch n p).2.2.2).2.2.1)) := by
        rw [e7]
        refine ⟨set_vl o6.1, (set_vn o6.1 (by decide)).trans ?_, (set_vn o6.1 (by decide)).trans ?_⟩
        · rw [(cellE cN6).2.2]; exact v5.1
        · rw [(cellE cN6).2.2]; exact v5.2
      have Oa : O7 (4000 * (1 - hf) + (c3 + 1)) = (18, 0, nmN vs (tk ch n (tk ch n p).2.2.2).2.2.1, 0, nI (tk ch n p).2.1) := (m4 _ (by omega)).trans (oup_at _ _ _)
      have Oz : ¬ (O7 (4000 * (1 - hf) + (c3 + 1))).1 = 2 ∧ ¬ (O7 (4000 * (1 - hf) + (c3 + 1))).1 = 5 := by rw [Oa]; exact ⟨Nat.ne_of_beq_eq_false rfl, Nat.ne_of_beq_eq_false rfl⟩
      have I8 := (D8.inn h (by omega) (by omega)).nums
      have hll := D8.2.1.1.1
      have D9 := (D8.heap (z' := 5) h g7 (fun a ha => Or.inr (by rw [List.mem_singleton.mp ha, o6.1]; exact ⟨Nat.le_refl _, fun y => (by cases y), fun y => (by cases y)⟩)) (by omega)).ord (O2 := oup (oup O7 (4000 * (1 - hf) + c7) (15, 4000 * (1 - hf) + (c3 + 1), 0, 0, 0)) (4000 * (1 - hf) + (c3 + 1)) (18, 4000 * (1 - hf) + (c7 + 1), nmN vs (tk ch n (tk ch n p).2.2.2).2.2.1, 0, nI (tk ch n p).2.1)) (c2 := c7 + 1) (r' := 4) (fun i hi => (oup_ne _ _ (by omega)).trans (oup_ne _ _ (by omega))) (by omega) (by omega)
      refine hok f.1 25 s8 f7 o7 (by decide) (cbN D9.2.1.1) (fun f8 e8 => D9.fin h o7 (by decide) ⟨Nat.le_refl _, by omega⟩ e8 (by omega) (by omega) (by omega) (by omega) (fun s00 bk Bl Fn hb => ?_) ?_ (fun f' P F M nv' t1' t2' t3' t4' t5' e161 oN ltN vlN => ?_))
      · refine (hd1 t3 ⟨t1, t2⟩ s00 bk Bl Fn hb).trans ((m2 s00 _ (bk :: Bl) Fn (by rw [List.length_cons]; omega)).trans ?_)
        intro Q hQ s' hs'
        refine T_clW hst hs' h125 (by omega) (by rw [List.length_cons]; omega) (Or.inr rfl) (by omega) ⟨by omega, by omega⟩ Oz (fun s'' h'' => hQ s'' ?_)
        rw [Oa, Nat.add_sub_cancel] at h''
        exact h''
      · rw [oup_ne _ _ (by omega), oup_ne _ _ (by omega), m4 _ (by omega), oup_ne _ _ (by omega), oup_ne _ _ (by omega), k4 _ (by omega)]; exact oup_at _ _ _
      · have g8 : gE [f.1] f7 f8 := by rw [e8]; exact gE.set _ _ _
        have K1 : Kg f8 O7 ([] ++ dC3 ++ dC7) f.1 [f.1] vs7.length _ _ _ := ((k6.keep (D2 := [f.1]) (O' := O7) (C' := [] ++ dC3 ++ dC7) m3 (fun x hx => by
          simp only [List.mem_cons, List.not_mem_nil, or_false] at hx
          rcases hx with rfl | rfl | rfl | rfl
          · exact Or.inl lx
          · exact Or.inl lw
          · exact Or.inl la
          · exact Or.inr (Or.inr (Or.inr m10))) (fun x hx => Or.inl hx) (fun i i1 i2 => (m4 i (by omega)).trans ((oup_ne _ _ (by omega)).trans (oup_ne _ _ (by omega)))) (fun e he => List.mem_append_left _ he) m5).keep (D2 := [f.1]) g7 (fun x hx => Or.inr (Or.inl hx)) (fun x hx => Or.inl hx) (fun _ _ _ => rfl) (fun _ he => he) (Nat.le_refl _)).keep (D2 := [f.1]) g8 (fun x hx => Or.inr (Or.inl hx)) (fun x hx => Or.inl hx) (fun _ _ _ => rfl) (fun _ he => he) (Nat.le_refl _)
        have K2 := (m6.keep (D2 := [f.1]) g7 (fun x hx => Or.inr (Or.inl hx)) (fun x hx => Or.inl hx) (fun _ _ _ => rfl) (fun _ he => he) (Nat.le_refl _)).keep (D2 := [f.1]) g8 (fun x hx => Or.inr (Or.inl hx)) (fun x hx => Or.inl hx) (fun _ _ _ => rfl) (fun _ he => he) (Nat.le_refl _)
        have old : ∀ i, 4000 * (1 - hf) + c ≤ i → i < 4000 * (1 - hf) + c7 → ¬ i = 4000 * (1 - hf) + (c3 + 1) → oAg (O7 i) (P.1 i) := fun i i1 i2 i3 => by
          have := t3' i i1 (by omega)
          rw [oup_ne _ _ i3, oup_ne _ _ (by omega)] at this
          exact this
        have rn := K1.rep (Nat.le_refl f8.1) t1' t2' (fun i i1 i2 => old i (by omega) (by omega) (by omega)) t4' t5'
        have rb := K2.rep (Nat.le_refl f8.1) t1' t2' (fun i i1 i2 => old i (by omega) (by omega) (by omega)) t4' t5'
        have pa := old (4000 * (1 - hf) + c3) (by omega) (by omega) (by omega)
        rw [m4 _ (by omega), oup_ne _ _ (by omega), oup_at] at pa
        have pa := pa.eq (by exact Nat.ne_of_beq_eq_false rfl) (by exact Nat.ne_of_beq_eq_false rfl)
        have pt := t3' (4000 * (1 - hf) + (c3 + 1)) (by omega) (by omega)
        rw [oup_at] at pt
        have pt := pt.eq (by exact Nat.ne_of_beq_eq_false rfl) (by exact Nat.ne_of_beq_eq_false rfl)
        have pj := t3' (4000 * (1 - hf) + c7) (by omega) (by omega)
        rw [oup_ne _ _ (by omega), oup_at] at pj
        have pj := pj.eq (by exact Nat.ne_of_beq_eq_false rfl) (by exact Nat.ne_of_beq_eq_false rfl)
        have hw2 := hN_w (p := p) (p1 := p3) (p2 := (tk ch n p7).2.2.2) (w := 2) (by omega) (by omega)
        refine ⟨f.1, nI (tk ch n p).2.1, rfl, ltN, e161, hN_1 _ _, Or.inr (Or.inr (Or.inr (Or.inl ⟨oN, 4000 * (1 - hf) + c3, 4000 * (1 - hf) + c7, nmN vs (tk ch n (tk ch n p).2.2.2).2.2.1, 0, 0, 0, 10 - o, hN p3 p7, 0, 0, 0, 0, by rw [vlN 187 (by decide)]; exact v7.2.2, by omega, ?_, pa, pt, by omega, ?_, ?_, pj, rfl⟩)))⟩
        · rw [vlN 188 (by decide), v7.2.1]
          exact rn.mono (by omega) (hN_le (by omega) (by omega))
        · have := hN_le (p := p3) (p1 := p3) (p2 := p7) (p3 := (tk ch n p7).2.2.2) (Nat.le_refl _) (by omega)
          omega
        · rw [vlN 189 (by decide), v7.1]
          exact rb.mono (by omega) (Nat.le_refl _) (Nat.le_refl _)
    · refine hbad s' f' (tBad.mk D7 kF kb kk' (fun s00 bk Bl Fn hb => ?_))
      rcases kx with ⟨x1, rfl, rfl⟩ | ⟨x1, x2, rfl, rfl⟩ | ⟨x1, x2, x3⟩
      · exact for_b hst rfl rfl h1 hk (by omega) hb (by omega) (Or.inr (Or.inr (Or.inr ⟨⟨y1, y2⟩, y3, y5, Or.inr ⟨q3, p3, vs3, O3, c3, _, k2, k1, by omega, Or.inl ⟨x1, (hwk _ hs7.2.1.2.2).symm, rfl⟩⟩⟩)))
      · exact for_b hst rfl rfl h1 hk (by omega) hb (by omega) (Or.inr (Or.inr (Or.inr ⟨⟨y1, y2⟩, y3, y5, Or.inr ⟨q3, p3, vs3, O3, c3, _, k2, k1, by omega, Or.inr ⟨x1, x2, rfl, rfl⟩⟩⟩)))
      · refine (hd1 x2 x1 s00 bk Bl Fn hb).bad ?_
        rcases x3 with x3 | ⟨p7, vs7, O7, c7, B7, x3, h125, x4, rfl, rfl, x5, x6, x7⟩
        · exact x3 s00 _ (bk :: Bl) Fn (by rw [List.length_cons]; omega)
        · refine (x3 s00 _ (bk :: Bl) Fn (by rw [List.length_cons]; omega)).bad ?_
          have Oa : O7 (4000 * (1 - hf) + (c3 + 1)) = (18, 0, nmN vs (tk ch n (tk ch n p).2.2.2).2.2.1, 0, nI (tk ch n p).2.1) := (x7 _ (by omega)).trans (oup_at _ _ _)
          intro Q hQ s'' hs''
          exact T_clW hst hs'' h125 (by omega) (by rw [List.length_cons]; omega) (Or.inr rfl) (by omega) ⟨by omega, by omega⟩ (by rw [Oa]; exact ⟨Nat.ne_of_beq_eq_false rfl, Nat.ne_of_beq_eq_false rfl⟩) (fun s3 h3 => TB_bad4 hst x4 (by omega) (by omega) Q hQ s3 h3)
  · obtain ⟨k, pl, kF, kb, kk, kx⟩ := k
    rw [kB] at kx
    exact hbad s' f' (tBad.mk D5 kF kb kk (fun s00 bk Bl Fn hb => for_b hst rfl rfl h1 hk (by omega) hb (by omega) (Or.inr (Or.inr (Or.inr ⟨⟨y1, y2⟩, y3, y5, Or.inl kx⟩)))))
end FOR
