/-! TRY -/
section TRY
variable {l : Launch} {E : EN} {w : CO} {wm : MO} {dt d : Nat} {ch : Nat → Nat} {n hf : Nat} {x0 nw na K0 p o ca cap c u z r p1 o1 ca1 cap1 c1 p2 c2 N k m : Nat} {vs vs1 : List Nat} {O O1 O2 : Nat → Od} {A dA : List (Nat × Nat × Nat)} {B B1 : List Tok} {dC : List CE} {s s1 s2 : CS} {f f1 f2 : RH} {Q : KO → CS → RH → Prop}
theorem try_b (hst : l.stackTraces = false) {s00 : MS} {bk : BE} {Bl : List BE} {Fn : List FE} {t1 : Tok} (et1 : tk ch n (tk ch n p).2.2.2 = t1) (h1 : (tk ch n p).1 = 1) (hk : kw (tk ch n p) = 9) (hc : c < 3850) (hbl : Bl.length + 1 ≤ o) (ho : o ≤ 10) {kk pl : Nat} (hb : (¬ (t1.1 = 3 ∧ t1.2.2.1 = 123) ∧ kk = wk t1 ∧ pl = t1.2.1) ∨ ((t1.1 = 3 ∧ t1.2.2.1 = 123) ∧ o = 10 ∧ kk = 3 ∧ pl = t1.2.1)) : TBt l E wm dt ch n hf s00 (((p, o), vs, O, c, B), bk :: Bl, Fn) kk pl := by
  intro Q hQ s hs
  rcases hb with ⟨b1, rfl, rfl⟩ | ⟨b1, b2, rfl, rfl⟩
  · exact T_try hst hs h1 hk hc (by omega) et1 (fun _ => hQ) (fun z1 z2 => absurd ⟨z1, z2⟩ b1) (fun z1 z2 => absurd ⟨z1, z2⟩ b1)
  · exact T_try hst hs h1 hk hc (by omega) et1 (fun z => absurd b1 z) (fun _ _ _ => hQ) (fun _ _ z => by omega)
theorem try_hd (hst : l.stackTraces = false) {s00 : MS} {bk : BE} {Bl : List BE} {Fn : List FE} {t1 : Tok} (et1 : tk ch n (tk ch n p).2.2.2 = t1) (h1 : (tk ch n p).1 = 1) (hk : kw (tk ch n p) = 9) (hc : c < 3850) (hbl : Bl.length + 1 ≤ o) (ho : o < 10) (h123 : t1.1 = 3 ∧ t1.2.2.1 = 123) : TF l E wm dt ch n hf s00 (((p, o), vs, O, c, B), bk :: Bl, Fn) (((t1.2.2.2, o + 1), vs, oup (oup O (4000 * (1 - hf) + c) (1, 0, 0, 0, nI (tk ch n p).2.1)) (4000 * (1 - hf) + (c + 1)) (23, 0, 0, 0, 0), c + 1 + 1, B), (5, 4000 * (1 - hf) + (c + 1), 0) :: bk :: Bl, Fn) := by
  intro Q hQ s hs
  exact T_try hst hs h1 hk hc (by omega) et1 (fun z => absurd h123 z) (fun _ _ z => by omega) (fun _ _ _ s' h' => hQ s' h')
/-- the end of what is tried: faults -/
theorem clT_b (hst : l.stackTraces = false) {a tt : Nat} {s00 : MS} {bk : BE} {Bl : List BE} {Fn : List FE} {t1 t2 t3 : Tok} (et1 : tk ch n (tk ch n p).2.2.2 = t1) (et2 : tk ch n t1.2.2.2 = t2) (et3 : tk ch n t2.2.2.2 = t3) (h125 : (tk ch n p).1 = 3 ∧ (tk ch n p).2.2.1 = 125) (ho : 1 ≤ o) (hbl : Bl.length ≤ 9) (hc : c < 3950) (ha : 4000 * (1 - hf) ≤ a ∧ a < 4000 * (1 - hf) + c) (hO : (O a).1 = 23) {kk pl : Nat} (hb : (¬ kw t1 = 10 ∧ kk = wk t1 ∧ pl = t1.2.1) ∨ (kw t1 = 10 ∧ ¬ (t2.1 = 1 ∧ kw t2 = 41) ∧ kk = wk t2 ∧ pl = t2.2.1) ∨ (kw t1 = 10 ∧ (t2.1 = 1 ∧ kw t2 = 41) ∧ (¬ (1 ≤ t2.2.2.1 ∧ t2.2.2.1 ≤ 8) ∧ nix vs t2.2.2.1 = 14) ∧ kk = 3 ∧ pl = t2.2.1) ∨ (kw t1 = 10 ∧ (t2.1 = 1 ∧ kw t2 = 41) ∧ ¬ (¬ (1 ≤ t2.2.2.1 ∧ t2.2.2.1 ≤ 8) ∧ nix vs t2.2.2.1 = 14) ∧ ¬ (t3.1 = 3 ∧ t3.2.2.1 = 123) ∧ kk = wk t3 ∧ pl = t3.2.1)) : TBt l E wm dt ch n hf s00 (((p, o), vs, O, c, B), (5, a, tt) :: bk :: Bl, Fn) kk pl := by
  intro Q hQ s hs
  have hl : (bk :: Bl).length = Bl.length + 1 := rfl
  rcases hb with ⟨b1, rfl, rfl⟩ | ⟨b1, b2, rfl, rfl⟩ | ⟨b1, b2, b3, rfl, rfl⟩ | ⟨b1, b2, b3, b4, rfl, rfl⟩
  · exact T_clT hst hs h125 ho (by omega) hc ha hO et1 et2 et3 (fun _ => hQ) (fun z => absurd z b1) (fun z => absurd z b1) (fun z => absurd z b1) (fun z => absurd z b1)
  · exact T_clT hst hs h125 ho (by omega) hc ha hO et1 et2 et3 (fun z => absurd b1 z) (fun _ _ => hQ) (fun _ z1 z2 => absurd ⟨z1, z2⟩ b2) (fun _ z1 z2 => absurd ⟨z1, z2⟩ b2) (fun _ z1 z2 => absurd ⟨z1, z2⟩ b2)
  · exact T_clT hst hs h125 ho (by omega) hc ha hO et1 et2 et3 (fun z => absurd b1 z) (fun _ z => absurd b2 z) (fun _ _ _ _ => hQ) (fun _ _ _ z => absurd b3 z) (fun _ _ _ z => absurd b3 z)
  · exact T_clT hst hs h125 ho (by omega) hc ha hO et1 et2 et3 (fun z => absurd b1 z) (fun _ z => absurd b2 z) (fun _ _ _ z => absurd z b3) (fun _ _ _ _ _ => hQ) (fun _ _ _ _ z1 z2 => absurd ⟨z1, z2⟩ b4)
set_option maxHeartbeats 8000000 in
/-- try -/
theorem D_try (hst : l.stackTraces = false) (hIH : ∀ p', p < p' → bkS l E w wm dt ch n hf x0 nw na K0 p') (h : tIn w ch n x0 nw na E K0 p o ca cap c vs A B s f) (h1 : (tk ch n p).1 = 1) (hk : kw (tk ch n p) = 9) (ho1 : 1 ≤ o) (hd : 20 * (10 - o) + 59 ≤ d) (hok : dOk l E w wm dt ch n hf x0 nw na p o ca cap c vs O A B s f Q) (hbad : ∀ s' f', tBad l E wm dt ch n hf K0 p o c vs O B s s' f' → Q (.inr 1) s' f') : EvC l E w d MX11_attempt [.ref x0] s f Q := by
  have hm := h.num
  have hsc := h.1.1
  have ht := hsc.tk
  have hr := h.1.2.2.1
  have hfb := h.1.2.2.2.1
  have hp1 := ht.1.2.1
  have hp2 := ht.2.2.2.2 (by omega)
  have hwk : ∀ p', ¬ (tk ch n p').1 = 4 → wk (tk ch n p') = 2 := fun p' z => if_neg z
  have hwk1 : ∀ p', (tk ch n p').1 = 4 → wk (tk ch n p') = 1 := fun p' z => if_pos z
  have kw41 : ∀ p', ¬ (tk ch n p').1 = 1 → kw (tk ch n p') = 41 := fun p' z => if_neg z
  have kB : B ++ ([] : List CE).map toB = B := by rw [List.map_nil, List.append_nil]
  obtain ⟨d, rfl⟩ : ∃ d', d = d' + 9 + 1 := ⟨d - 10, by omega⟩
  refine eR11_attempt hst ⟨by unfold rmF; omega, fun N f1 eN e1 => ?_⟩
  subst eN
  have g1 : gE [] f f1 := by rw [e1]; exact gE.new _ _
  have o1 : oc f1 f.1 27 := by rw [e1]; exact oc_new _ _
  have z1 : f1.1 = f.1 + 1 ∧ f1.2.1 = f.2.1 + 6 := by rw [e1]; exact ⟨rfl, rfl⟩
  refine eX29_init hst (eX14_init hst ⟨rfl, rfl, ?_⟩)
  have D1 := (dM.init (hf := hf) (O := O) h).heap (z' := 6) h g1 (fun a ha => absurd ha List.not_mem_nil) (by omega)
  have hr1 := D1.2.1.2.1
  have hk1 := D1.kc h
  have lx := hr.1.2.2.1
  have lw := hr.2.1.2.2.1
  have la := hr.2.2.1.2.2.1
  have lc := hr.2.2.2.2.2.1
  have cbN : ∀ {D : List Nat} {g : RH}, gE D f g → g.2.2.2 ≤ f.1 := fun q => by rw [q.2.1]; exact hfb
  have t27 : ∀ {g : RH}, oc g f.1 27 → ∀ a ∈ [f.1], g.1 ≤ a ∨ (f.1 ≤ a ∧ ¬ tg g a = some (.inr 8) ∧ ¬ tg g a = some (.inl 19)) := fun q a ha => Or.inr (by rw [List.mem_singleton.mp ha, q.1]; exact ⟨Nat.le_refl _, fun y => (by cases y), fun y => (by cases y)⟩)
  refine ⟨hr1.1.1, hr1.1.2.1, C_nextS hst hsc hk1.1.1 (fun s' y4 hF => hbad s' f1 (tBad.mk D1 hF (by omega) (by decide) (fun s00 bk Bl Fn hb => try_b hst rfl h1 hk (by omega) hb (by omega) (Or.inl ⟨fun y => by omega, (hwk1 _ y4).symm, rfl⟩)))) (fun s1 hcf1 hs1 => ⟨rfl, hr1.1.1, ?_⟩)⟩
  have D2 := (D1.tok (u' := 1) hcf1 hs1 (by omega)).ord (O2 := oup (oup O (4000 * (1 - hf) + c) (1, 0, 0, 0, nI (tk ch n p).2.1)) (4000 * (1 - hf) + (c + 1)) (23, 0, 0, 0, 0)) (c2 := c + 2) (r' := 2) (fun i hi => (oup_ne _ _ (by omega)).trans (oup_ne _ _ (by omega))) (by omega) (by omega)
  have T2 := D2.tin h (by omega) (by omega)
  have hd1 := fun (ho : o < 10) (h123 : (tk ch n (tk ch n p).2.2.2).1 = 3 ∧ (tk ch n (tk ch n p).2.2.2).2.2.1 = 123) s00 bk Bl Fn (hb : List.length Bl + 1 ≤ o) => try_hd (l := l) (E := E) (wm := wm) (dt := dt) (vs := vs) (O := O) (B := B) (s00 := s00) (bk := bk) (Bl := Bl) (Fn := Fn) (hf := hf) hst rfl h1 hk (show c < 3850 by omega) hb ho h123
  refine hIH (tk ch n p).2.2.2 (by omega) o ca cap (c + 2) vs (oup (oup O (4000 * (1 - hf) + c) (1, 0, 0, 0, nI (tk ch n p).2.1)) (4000 * (1 - hf) + (c + 1)) (23, 0, 0, 0, 0)) (A ++ []) (B ++ List.map toB []) s1 f1 (d + 9) _ T2 (by omega) (fun v s2 f2 k => ⟨v, rfl, ?_⟩) (fun kk pl s' f' kF kb kk' kx => ?_)
  · obtain ⟨⟨u1, u2, ho⟩, p3, vs3, O3, c3, dC3, dA3, ca3, cap3, h125, D3, m2, ⟨m3, m4, m5, m6⟩, ⟨m7, m8, m9, m10⟩⟩ := D2.blk (D := [f.1]) (fun x hx => by rw [List.mem_singleton.mp hx]; omega) k
    rw [kB] at m2
    have hNc : f.1 ∉ [x0, nw, na, ca] := by
      intro z
      simp only [List.mem_cons, List.not_mem_nil, or_false] at z
      omega
    have hl2 := m3.1
    have cN2 : f2.2.2.1 f.1 = f1.2.2.1 f.1 := m3.ce (by omega) hNc
    have o2 := ocE cN2 o1
    refine ⟨o2, cbN D3.2.1.1, fun f3 e3 => ?_⟩
    have g3 : gE [f.1] f2 f3 := by rw [e3]; exact gE.set _ _ _
    have o3 : oc f3 f.1 27 := by rw [e3]; exact set_oc o2
    have z3 : f3.1 = f2.1 ∧ f3.2.1 = f2.2.1 := by rw [e3]; exact ⟨rfl, rfl⟩
    have v3 : vl f3 f.1 194 = .ref v := by rw [e3]; exact set_vl o2.1
    have D4 := D3.heap (z' := 6) h g3 (t27 o2) (by omega)
    have hr4 := D4.2.1.2.1
    have hs4 := D4.1.2
    refine ⟨hr4.1.1, hr4.1.2.1, o3, cbN D4.2.1.1, fun f4 e4 => ?_⟩
    rw [hs4.2.1.1.2.1] at e4
    have g4 : gE [f.1] f3 f4 := by rw [e4]; exact gE.set _ _ _
    have o4 : oc f4 f.1 27 := by rw [e4]; exact set_oc o3
    have z4 : f4.1 = f3.1 ∧ f4.2.1 = f3.2.1 := by rw [e4]; exact ⟨rfl, rfl⟩
    have v4 : vl f4 f.1 193 = .int (nI (tk ch n (tk ch n p3).2.2.2).2.1) ∧ vl f4 f.1 194 = .ref v := by
      rw [e4]; exact ⟨set_vl o3.1, (set_vn o3.1 (by decide)).trans v3⟩
    have D5 := D4.heap (z' := 6) h g4 (t27 o3) (by omega)
    have hr5 := D5.2.1.2.1
    have hk5 := D5.kc h
    have ht4 := hs4.tk
    have hp4 := ht4.1.2.1
    have I5 := (D5.inn h (by omega) (by omega)).nums
    have base := fun s00 bk Bl Fn (hb : List.length Bl + 1 ≤ o) => (hd1 ho ⟨u1, u2⟩ s00 bk Bl Fn hb).trans (m2 s00 _ (bk :: Bl) Fn (by rw [List.length_cons]; omega))
    have Oa : O3 (4000 * (1 - hf) + (c + 1)) = (23, 0, 0, 0, 0) := (m4 _ (by omega)).trans (oup_at _ _ _)
    have Oz : (O3 (4000 * (1 - hf) + (c + 1))).1 = 23 := by rw [Oa]
    refine ⟨hr5.1.1, R_takeW hst hs4 hk5.1 hr5.1.1 hr5.1.2.1 (by omega) (hk5.1.2.2.2.2.2 (51, 10) (by decide)) (fun y s' hF => hbad s' f4 (tBad.mk D5 hF (by omega) (by decide) (fun s00 bk Bl Fn hb => (base s00 bk Bl Fn hb).bad (clT_b hst rfl rfl rfl h125 (by omega) (by omega) (by omega) ⟨by omega, by omega⟩ Oz (Or.inl ⟨y, (hwk _ hs4.2.1.2.2).symm, rfl⟩))))) (fun y y4 s' hF => hbad s' f4 (tBad.mk D5 hF (by omega) (by decide) (fun s00 bk Bl Fn hb => (base s00 bk Bl Fn hb).bad (clT_b hst rfl rfl rfl h125 (by omega) (by omega) (by omega) ⟨by omega, by omega⟩ Oz (Or.inr (Or.inl ⟨y, fun q => by omega, (hwk1 _ y4).symm, rfl⟩)))))) (fun y5 s5 hcf5 hs5 => ⟨rfl, hr5.1.1, ?_⟩)⟩
    have h1o : (tk ch n (tk ch n p3).2.2.2).1 = 1 := by
      by_cases q : (tk ch n (tk ch n p3).2.2.2).1 = 1
      · exact q
      · rw [kw41 _ q] at y5; omega
    have hp5 := ht4.2.2.2.2 (by omega)
    have D6 := D5.tok (u' := 1) hcf5 hs5 (by omega)
    have ht5 := hs5.tk
    have hp6 := ht5.1.2.1
    refine R_name hst hs5 hk5.1 hr5 hk5.2 (fun y s' hF => hbad s' f4 (tBad.mk D6 hF (by omega) (by decide) (fun s00 bk Bl Fn hb => (base s00 bk Bl Fn hb).bad (clT_b hst rfl rfl rfl h125 (by omega) (by omega) (by omega) ⟨by omega, by omega⟩ Oz (Or.inr (Or.inl ⟨y5, y, (hwk _ hs5.2.1.2.2).symm, rfl⟩)))))) (fun y1 y2 y3 y4 s' hF => hbad s' f4 (tBad.mk D6 hF (by omega) (by decide) (fun s00 bk Bl Fn hb => (base s00 bk Bl Fn hb).bad (clT_b hst rfl rfl rfl h125 (by omega) (by omega) (by omega) ⟨by omega, by omega⟩ Oz (Or.inr (Or.inr (Or.inl ⟨y5, ⟨y1, y2⟩, ⟨y3, y4⟩, rfl, rfl⟩))))))) (fun y1 y2 y3 y4 s' f' hF hb' => hbad s' f' (tBad.mk D6 hF (by omega) (by decide) (fun s00 bk Bl Fn hb => (base s00 bk Bl Fn hb).bad (clT_b hst rfl rfl rfl h125 (by omega) (by omega) (by omega) ⟨by omega, by omega⟩ Oz (Or.inr (Or.inr (Or.inr ⟨y5, ⟨y1, y2⟩, y3, fun q => by omega, (hwk1 _ y4).symm, rfl⟩))))))) (fun y1 y2 y3 s6 f5 hcf6 hs6 hr6 g5 e5a e5b => ⟨_, rfl, ?_⟩)
    have hp7 := ht5.2.2.2.2 (by omega)
    have nl := nm_len vs3 (tk ch n (tk ch n (tk ch n p3).2.2.2).2.2.2).2.2.1
    have D7 := D6.nm (u' := 1) h hcf6 hs6 hr6 g5 e5b nl.1 (by omega)
    have hNn : f.1 ∉ [nw, na] := by
      simp only [List.mem_cons, List.not_mem_nil, or_false]; omega
    have cN5 : f5.2.2.1 f.1 = f4.2.2.1 f.1 := g5.ce (by omega) hNn
    have o5 := ocE cN5 o4
    refine ⟨o5, cbN D7.2.1.1, fun f6 e6 => ?_⟩
    have g6 : gE [f.1] f5 f6 := by rw [e6]; exact gE.set _ _ _
    have o6 : oc f6 f.1 27 := by rw [e6]; exact set_oc o5
    have z6 : f6.1 = f5.1 ∧ f6.2.1 = f5.2.1 := by rw [e6]; exact ⟨rfl, rfl⟩
    have v6 : vl f6 f.1 192 = .int (nI (nmN vs3 (tk ch n (tk ch n (tk ch n p3).2.2.2).2.2.2).2.2.1)) ∧ vl f6 f.1 193 = .int (nI (tk ch n (tk ch n p3).2.2.2).2.1) ∧ vl f6 f.1 194 = .ref v := by
      rw [e6]
      refine ⟨set_vl o5.1, (set_vn o5.1 (by decide)).trans ?_, (set_vn o5.1 (by decide)).trans ?_⟩
      · rw [(cellE cN5).2.2]; exact v4.1
      · rw [(cellE cN5).2.2]; exact v4.2
    have D8 := (D7.heap (z' := 6) h g6 (t27 o5) (by omega)).ord (O2 := oup (oup O3 (4000 * (1 - hf) + c3) (24, 0, 0, 0, 0)) (4000 * (1 - hf) + (c + 1)) (23, 4000 * (1 - hf) + (c3 + 1), nmN vs3 (tk ch n (tk ch n (tk ch n p3).2.2.2).2.2.2).2.2.1, 0, nI (tk ch n (tk ch n p3).2.2.2).2.1)) (c2 := c3 + 1) (r' := 3) (fun i hi => (oup_ne _ _ (by omega)).trans (oup_ne _ _ (by omega))) (by omega) (by omega)
    have T8 := D8.tin h (by omega) (by omega)
    have hr8 := D8.2.1.2.1
    have hon := fun (h123 : (tk ch n (tk ch n (tk ch n (tk ch n p3).2.2.2).2.2.2).2.2.2).1 = 3 ∧ (tk ch n (tk ch n (tk ch n (tk ch n p3).2.2.2).2.2.2).2.2.2).2.2.1 = 123) s00 bk Bl Fn (hb : List.length Bl + 1 ≤ o) => show TF l E wm dt ch n hf s00 (((p3, o + 1), vs3, O3, c3, B ++ List.map toB ([] ++ dC3)), (5, 4000 * (1 - hf) + (c + 1), 0) :: bk :: Bl, Fn) ((((tk ch n (tk ch n (tk ch n (tk ch n p3).2.2.2).2.2.2).2.2.2).2.2.2, o + 1), nmV vs3 (tk ch n (tk ch n (tk ch n p3).2.2.2).2.2.2).2.2.1, oup (oup O3 (4000 * (1 - hf) + c3) (24, 0, 0, 0, 0)) (4000 * (1 - hf) + (c + 1)) (23, 4000 * (1 - hf) + (c3 + 1), nmN vs3 (tk ch n (tk ch n (tk ch n p3).2.2.2).2.2.2).2.2.1, 0, nI (tk ch n (tk ch n p3).2.2.2).2.1), c3 + 1, B ++ List.map toB ([] ++ dC3)), (6, 4000 * (1 - hf) + c3, 0) :: bk :: Bl, Fn) by
      intro Q hQ s' hs'
      refine T_clT hst hs' h125 (by omega) (by rw [List.length_cons]; omega) (by omega) ⟨by omega, by omega⟩ Oz rfl rfl rfl (fun z => absurd y5 z) (fun _ z => absurd ⟨y1, y2⟩ z) (fun _ _ _ z => absurd z y3) (fun _ _ _ _ z => absurd h123 z) (fun _ _ _ _ _ _ s'' h'' => hQ s'' ?_)
      rw [Oa, Nat.add_sub_cancel] at h''
      exact h''
    refine ⟨hr8.1.1, hIH (tk ch n (tk ch n (tk ch n p3).2.2.2).2.2.2).2.2.2 (by omega) o ca3 cap3 (c3 + 1) (nmV vs3 (tk ch n (tk ch n (tk ch n p3).2.2.2).2.2.2).2.2.1) (oup (oup O3 (4000 * (1 - hf) + c3) (24, 0, 0, 0, 0)) (4000 * (1 - hf) + (c + 1)) (23, 4000 * (1 - hf) + (c3 + 1), nmN vs3 (tk ch n (tk ch n (tk ch n p3).2.2.2).2.2.2).2.2.1, 0, nI (tk ch n (tk ch n p3).2.2.2).2.1)) (A ++ ([] ++ dA3)) (B ++ List.map toB ([] ++ dC3)) s6 f6 (d + 9) _ T8 (by omega) (fun v3 s7 f7 k => ⟨v3, rfl, ?_⟩) (fun kk pl s' f' kF kb kk' kx => ?_)⟩
    · obtain ⟨⟨w1, w2, w3⟩, pa, vsa, Oa', ca', dCa, dAa, caa, capa, h125a, Da, n2, ⟨n3, n4, n5, n6⟩, ⟨n7, n8, n9, n10⟩⟩ := D8.blk (D := [f.1]) (fun x hx => by rw [List.mem_singleton.mp hx]; omega) k
      have hl7 := n3.1
      have hNc3 : f.1 ∉ [x0, nw, na, ca3] := by
        intro z
        simp only [List.mem_cons, List.not_mem_nil, or_false] at z
        rcases z with z | z | z | z
        · omega
        · omega
        · omega
        · have := o6.1; rw [z, n10] at this; cases this
      have cN7 : f7.2.2.1 f.1 = f6.2.2.1 f.1 := n3.ce (by omega) hNc3
      have o7 := ocE cN7 o6
      refine ⟨o7, cbN Da.2.1.1, fun f8 e8 => ?_⟩
      have g8 : gE [f.1] f7 f8 := by rw [e8]; exact gE.set _ _ _
      have o8 : oc f8 f.1 27 := by rw [e8]; exact set_oc o7
      have z8 : f8.1 = f7.1 ∧ f8.2.1 = f7.2.1 := by rw [e8]; exact ⟨rfl, rfl⟩
      have v8 : vl f8 f.1 195 = .ref v3 ∧ vl f8 f.1 194 = .ref v ∧ vl f8 f.1 193 = .int (nI (tk ch n (tk ch n p3).2.2.2).2.1) ∧ vl f8 f.1 192 = .int (nI (nmN vs3 (tk ch n (tk ch n (tk ch n p3).2.2.2).2.2.2).2.2.1)) := by
        rw [e8]
        refine ⟨set_vl o7.1, (set_vn o7.1 (by decide)).trans ?_, (set_vn o7.1 (by decide)).trans ?_, (set_vn o7.1 (by decide)).trans ?_⟩
        · rw [(cellE cN7).2.2]; exact v6.2.2
        · rw [(cellE cN7).2.2]; exact v6.2.1
        · rw [(cellE cN7).2.2]; exact v6.1
      have Oj : Oa' (4000 * (1 - hf) + c3) = (24, 0, 0, 0, 0) := (n4 _ (by omega)).trans ((oup_ne _ _ (by omega)).trans (oup_at _ _ _))
      have Ojz : ¬ (Oa' (4000 * (1 - hf) + c3)).1 = 2 ∧ ¬ (Oa' (4000 * (1 - hf) + c3)).1 = 5 := by rw [Oj]; exact ⟨Nat.ne_of_beq_eq_false rfl, Nat.ne_of_beq_eq_false rfl⟩
      have Ib := (Da.inn h (by omega) (by omega)).nums
      have hla := Da.2.1.1.1
      have Db := (Da.heap (z' := 6) h g8 (t27 o7) (by omega)).ord (O2 := oup Oa' (4000 * (1 - hf) + c3) (24, 4000 * (1 - hf) + ca', 0, 0, 0)) (c2 := ca') (r' := 3) (fun i hi => oup_ne _ _ (by omega)) (by omega) (by omega)
      refine hok f.1 27 s7 f8 o8 (by decide) (cbN Db.2.1.1) (fun f9 e9 => Db.fin h o8 (by decide) ⟨Nat.le_refl _, by omega⟩ e9 (by omega) (by omega) (by omega) (by omega) (fun s00 bk Bl Fn hb => ?_) ?_ (fun f' P F M nv' t1' t2' t3' t4' t5' e161 oN ltN vlN => ?_))
      · refine (base s00 bk Bl Fn hb).trans ((hon ⟨w1, w2⟩ s00 bk Bl Fn hb).trans ((n2 s00 _ (bk :: Bl) Fn (by rw [List.length_cons]; omega)).trans ?_))
        intro Q hQ s' hs'
        refine T_clE hst hs' h125a (by omega) (by rw [List.length_cons]; omega) (Or.inr rfl) (by omega) ⟨by omega, by omega⟩ Ojz (fun s'' h'' => hQ s'' ?_)
        rw [Oj, Nat.add_sub_cancel] at h''
        exact h''
      · rw [oup_ne _ _ (by omega), n4 _ (by omega), oup_ne _ _ (by omega), oup_ne _ _ (by omega), m4 _ (by omega), oup_ne _ _ (by omega)]; exact oup_at _ _ _
      · have g9 : gE [f.1] f8 f9 := by rw [e9]; exact gE.set _ _ _
        have L0 := (m6.keep (D2 := [f.1]) g3 (fun x hx => Or.inr (Or.inl hx)) (fun x hx => Or.inl hx) (fun _ _ _ => rfl) (fun _ he => he) (Nat.le_refl _)).keep (D2 := [f.1]) g4 (fun x hx => Or.inr (Or.inl hx)) (fun x hx => Or.inl hx) (fun _ _ _ => rfl) (fun _ he => he) (Nat.le_refl _)
        have L1 := (L0.keep (D2 := [f.1]) g5 (fun x hx => by
          simp only [List.mem_cons, List.not_mem_nil, or_false] at hx
          rcases hx with rfl | rfl
          · exact Or.inl lw
          · exact Or.inl la) (fun x hx => Or.inl hx) (fun _ _ _ => rfl) (fun _ he => he) nl.1).keep (D2 := [f.1]) g6 (fun x hx => Or.inr (Or.inl hx)) (fun x hx => Or.inl hx) (fun _ _ _ => rfl) (fun _ he => he) (Nat.le_refl _)
        have L2 := ((L1.keep (D2 := [f.1]) (O' := Oa') (C' := [] ++ dC3 ++ dCa) n3 (fun x hx => by
          simp only [List.mem_cons, List.not_mem_nil, or_false] at hx
          rcases hx with rfl | rfl | rfl | rfl
          · exact Or.inl lx
          · exact Or.inl lw
          · exact Or.inl la
          · exact Or.inr (Or.inr (Or.inr n10))) (fun x hx => Or.inl hx) (fun i i1 i2 => (n4 i (by omega)).trans ((oup_ne _ _ (by omega)).trans (oup_ne _ _ (by omega)))) (fun e he => List.mem_append_left _ he) n5).keep (D2 := [f.1]) g8 (fun x hx => Or.inr (Or.inl hx)) (fun x hx => Or.inl hx) (fun _ _ _ => rfl) (fun _ he => he) (Nat.le_refl _)).keep (D2 := [f.1]) g9 (fun x hx => Or.inr (Or.inl hx)) (fun x hx => Or.inl hx) (fun _ _ _ => rfl) (fun _ he => he) (Nat.le_refl _)
        have L3 := (n6.keep (D2 := [f.1]) g8 (fun x hx => Or.inr (Or.inl hx)) (fun x hx => Or.inl hx) (fun _ _ _ => rfl) (fun _ he => he) (Nat.le_refl _)).keep (D2 := [f.1]) g9 (fun x hx => Or.inr (Or.inl hx)) (fun x hx => Or.inl hx) (fun _ _ _ => rfl) (fun _ he => he) (Nat.le_refl _)
        have old : ∀ i, 4000 * (1 - hf) + c ≤ i → i < 4000 * (1 - hf) + ca' → ¬ i = 4000 * (1 - hf) + c3 → oAg (Oa' i) (P.1 i) := fun i i1 i2 i3 => by
          have := t3' i i1 (by omega)
          rw [oup_ne _ _ i3] at this
          exact this
        have rb := L2.rep (Nat.le_refl f9.1) t1' t2' (fun i i1 i2 => old i (by omega) (by omega) (by omega)) t4' t5'
        have re := L3.rep (Nat.le_refl f9.1) t1' t2' (fun i i1 i2 => old i (by omega) (by omega) (by omega)) t4' t5'
        have pt := old (4000 * (1 - hf) + (c + 1)) (by omega) (by omega) (by omega)
        rw [n4 _ (by omega), oup_at] at pt
        have pt := pt.eq (by exact Nat.ne_of_beq_eq_false rfl) (by exact Nat.ne_of_beq_eq_false rfl)
        have pj := t3' (4000 * (1 - hf) + c3) (by omega) (by omega)
        rw [oup_at] at pj
        have pj := pj.eq (by exact Nat.ne_of_beq_eq_false rfl) (by exact Nat.ne_of_beq_eq_false rfl)
        refine ⟨f.1, nI (tk ch n p).2.1, rfl, ltN, e161, hN_1 _ _, Or.inr (Or.inr (Or.inr (Or.inr (Or.inl ⟨oN, 4000 * (1 - hf) + c3, 4000 * (1 - hf) + (c3 + 1), nmN vs3 (tk ch n (tk ch n (tk ch n p3).2.2.2).2.2.2).2.2.1, 0, 10 - o, 0, 0, 0, nI (tk ch n (tk ch n p3).2.2.2).2.1, by rw [vlN 192 (by decide)]; exact v8.2.2.2, by omega, by rw [vlN 193 (by decide)]; exact v8.2.2.1, pt, by omega, ?_, pj, rfl, ?_⟩))))⟩
        · rw [vlN 194 (by decide), v8.2.1]
          exact rb.mono (by omega) (Nat.le_refl _) (hN_le (by omega) (by omega))
        · rw [vlN 195 (by decide), v8.1]
          exact re.mono (by omega) (by omega) (hN_le (by omega) (by omega))
    · refine hbad s' f' (tBad.mk D8 kF kb kk' (fun s00 bk Bl Fn hb => (base s00 bk Bl Fn hb).bad ?_))
      rcases kx with ⟨x1, rfl, rfl⟩ | ⟨x1, x2, -⟩ | ⟨x1, x2, x3⟩
      · exact clT_b hst rfl rfl rfl h125 (by omega) (by omega) (by omega) ⟨by omega, by omega⟩ Oz (Or.inr (Or.inr (Or.inr ⟨y5, ⟨y1, y2⟩, y3, x1, (hwk _ hs6.2.1.2.2).symm, rfl⟩)))
      · omega
      · refine (hon x1 s00 bk Bl Fn hb).bad ?_
        rcases x3 with x3 | ⟨pb, vsb, Ob, cb, Bb, x3, h125b, x4, rfl, rfl, x5, x6, x7⟩
        · exact x3 s00 _ (bk :: Bl) Fn (by rw [List.length_cons]; omega)
        · refine (x3 s00 _ (bk :: Bl) Fn (by rw [List.length_cons]; omega)).bad ?_
          have Oj : Ob (4000 * (1 - hf) + c3) = (24, 0, 0, 0, 0) := (x7 _ (by omega)).trans ((oup_ne _ _ (by omega)).trans (oup_at _ _ _))
          intro Q hQ s'' hs''
          exact T_clE hst hs'' h125b (by omega) (by rw [List.length_cons]; omega) (Or.inr rfl) (by omega) ⟨by omega, by omega⟩ (by rw [Oj]; exact ⟨Nat.ne_of_beq_eq_false rfl, Nat.ne_of_beq_eq_false rfl⟩) (fun s3 h3 => TB_bad4 hst x4 (by omega) (by omega) Q hQ s3 h3)
  · rw [kB] at kx
    refine hbad s' f' (tBad.mk D2 kF kb kk' (fun s00 bk Bl Fn hb => ?_))
    rcases kx with ⟨x1, rfl, rfl⟩ | ⟨x1, x2, rfl, rfl⟩ | ⟨x1, x2, x3⟩
    · exact try_b hst rfl h1 hk (by omega) hb (by omega) (Or.inl ⟨x1, (hwk _ hs1.2.1.2.2).symm, rfl⟩)
    · exact try_b hst rfl h1 hk (by omega) hb (by omega) (Or.inr ⟨x1, x2, rfl, rfl⟩)
    · refine (hd1 x2 x1 s00 bk Bl Fn hb).bad ?_
      rcases x3 with x3 | ⟨p7, vs7, O7, c7, B7, x3, h125, x4, rfl, rfl, x5, x6, x7⟩
      · exact x3 s00 _ (bk :: Bl) Fn (by rw [List.length_cons]; omega)
      · refine (x3 s00 _ (bk :: Bl) Fn (by rw [List.length_cons]; omega)).bad ?_
        have Oa : O7 (4000 * (1 - hf) + (c + 1)) = (23, 0, 0, 0, 0) := (x7 _ (by omega)).trans (oup_at _ _ _)
        exact clT_b hst rfl rfl rfl h125 (by omega) (by omega) (by omega) ⟨by omega, by omega⟩ (by rw [Oa]) (Or.inl ⟨by rw [kw41 _ (by omega)]; omega, (hwk1 _ x4).symm, rfl⟩)
end TRY
