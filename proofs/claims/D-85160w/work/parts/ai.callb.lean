/-! ATOMS: calls by name, each, fold; call -/
section CB2
variable {l : Launch} {E : EN} {w : CO} {wm : MO} {dm d : Nat} {al : Int32} {ch : Nat → Nat} {n hf : Nat} {s0 : MS} {x0 nw na K0 lo pc p o ca cap c gm p1 o1 ca1 cap1 c1 p2 p3 o2 c2 K fl N q u u' r m k pl nm npl : Nat} {vs vs1 : List Nat} {O O1 O2 O3 : Nat → Od} {A A0 dA : List (Nat × Nat × Nat)} {B : List Tok} {dC : List CE} {X X1 X2 : List XE} {s s1 s2 s3 : CS} {f f1 f2 f3 : RH} {q1 q2 : Nat × Nat} {wg V cc e : Nat → Nat} {S L : Nat → Int32} {Q : KO → CS → RH → Prop}
theorem NsB.off {a1 a2 a3 capN a kk : Nat} (h : NsB f lo q a1 a2 a3 capN m V S L) (ht : tg f a = some (.inl kk)) (hk : ¬ kk = 17) : ¬ a = q ∧ ¬ a = a1 ∧ ¬ a = a2 ∧ ¬ a = a3 := by
  obtain ⟨⟨c1, -⟩, ⟨-, -, -, -, c15, -⟩, ⟨-, -, -, -, c25, -⟩, ⟨-, -, -, -, c35, -⟩, -⟩ := h
  refine ⟨fun z => ?_, fun z => ?_, fun z => ?_, fun z => ?_⟩
  · rw [z, c1.1] at ht; injection ht with ht; injection ht with ht; exact hk ht.symm
  · rw [z, c15] at ht; cases ht
  · rw [z, c25] at ht; cases ht
  · rw [z, c35] at ht; cases ht
/-- a call is remembered: on from there -/
theorem pM.rem {s1 : CS} {X1 : List XE} {x1 : Nat × Nat × Nat} (h : pM l E w wm dm al ch n hf s0 x0 nw na f.1 p p o ca cap c vs O A B X s f (0, 0) p o ca cap c vs O [] [] X s f1) (hg : gE [x0, N, ca] f1 f2) (hN : f.1 ≤ N) (hr : rdR w f2 x0 nw na ca1 cap1 vs (A ++ [x1])) (hca : ca1 = ca ∨ f1.1 ≤ ca1) (hcap : cap ≤ cap1) (hc : cfP s s1) (hs : cSc ch n p1 o1 s1) (hx : XF l E wm dm al ch n hf s0 (0, 0) ((p, o), vs, O, c, B, X) (0, 0) ((p1, o1), vs, O, c, B, X1)) (hpc : p ≤ pc ∧ pc ≤ p1) : pM l E w wm dm al ch n hf s0 x0 nw na f2.1 pc p o ca cap c vs O (A ++ [x1]) B X s f (0, 0) p1 o1 ca1 cap1 c vs O [] [] X1 s1 f2 := by
  obtain ⟨-, ⟨h2, h3, h3'⟩, h4, h5, h6, h7⟩ := h
  have l1 := h2.1
  have l2 := hg.1
  refine ⟨⟨hc, hs⟩, ⟨h2.trans hg (fun a ha => ?_), by rw [List.append_nil]; exact hr, ?_⟩, by rw [List.map_nil, List.append_nil]; exact hx, fun _ _ => rfl, cLk.nil _ _ _ _, ⟨by omega, Nat.le_refl _, hcap, Nat.le_refl _, ⟨by omega, Nat.le_refl _⟩, hpc⟩⟩
  · simp only [List.mem_cons, List.not_mem_nil, or_false] at ha ⊢
    omega
  · omega
theorem A_cname (hst : l.stackTraces = false) (hIH : ∀ p', p < p' → xSp l E w wm dm al ch n hf s0 x0 nw na K0 p') (h : pIn E w ch n x0 nw na K0 p o ca cap c vs A B X s f) (hX : X.length ≤ 6 * o + 5) (h1 : (tk ch n p).1 = 1) (hw : kw (tk ch n p) = 41) (hbr : (tk ch n (tk ch n p).2.2.2).1 = 3 ∧ (tk ch n (tk ch n p).2.2.2).2.2.1 = 40) (hd : 20 * (10 - o) + 30 ≤ d) {vI : Int32} (hvI : vI < 0)
    (hok : ∀ v s' f', pOk l E w wm dm al ch n hf s0 x0 nw na p o ca cap c vs O A B X s f (fun q _ => q = (1, 0)) (7 * (10 - o) + 1) v s' f' → Q (.inl (some (.ref v))) s' f') (hbad : ∀ s' f', pBad l E wm dm al ch n hf s0 K0 p o c vs O B X s s' f' → Q (.inr 1) s' f') :
    rmF E f 1 7 ∧ ∀ (a5 : Nat) (f6 : RH), a5 = f.1 → f6 = fnew f 19 → (EvC l E w d MX21_init [.ref a5, .int 0] s f6 (fun o s14 f15 => KP o (fun r => r = none ∧ (∃ k17 : Nat, oc f15 a5 k17 ∧ 165 ∈ CF k17 ∧ ¬ k17 = 30 ∧ f15.2.2.2 ≤ a5 ∧ ∀ f16 : RH, f16 = fset f15 a5 165 (.int (nI (tk ch n p).2.1)) → (oc f16 x0 11 ∧ EvC l E w d MX11_remember [.ref x0, .ref a5] s14 f16 (fun o s18 f19 => KP o (fun r => r = none ∧ ExC l E w (d + 1) MX11_call 61 [some (.ref x0), none, some (.int vI), some (.ref a5), none] [] s18 f19 Q) (fun k => Q (.inr k) s18 f19))))) (fun k => Q (.inr k) s14 f15))) := by
  have hm := h.nums
  have hsc := h.1
  have ht := hsc.tk
  have hr := h.2.2.1
  have hX2 := h.2.2.2.2.2.1
  have hX1 := h.2.2.2.2.1
  have hfb := h.2.2.2.1
  have hK' := h.2.2.2.2.2.2.1
  have hp1 := ht.1.2.1
  have hp2 := ht.2.2.2.2 (by omega)
  obtain ⟨w1, w2, w3, w4⟩ := tk_word h1
  obtain ⟨d, rfl⟩ : ∃ d', d = d' + 7 := ⟨d - 7, by omega⟩
  have M0 := pM.init (l := l) (wm := wm) (dm := dm) (al := al) (hf := hf) (s0 := s0) (O := O) h
  refine ⟨by unfold rmF; omega, fun N f1 eN e1 => ?_⟩
  subst eN
  have g1 : gE [] f f1 := by rw [e1]; exact gE.new _ _
  have o1 : oc f1 f.1 19 := by rw [e1]; exact oc_new _ _
  have z1 : f1.1 = f.1 + 1 ∧ f1.2.1 = f.2.1 + 8 := by rw [e1]; exact ⟨rfl, rfl⟩
  have n1 : vl f1 f.1 178 = .null := by rw [e1]; exact vl_new _ _ _
  refine I_call (lo := f.1) hst o1 (by omega) (by rw [g1.2.1]; exact hfb) (by omega) (by omega) (fun f2 q a1 a2 a3 hn2 g2 o2 v2 w2 y2 z2 => ⟨rfl, 19, o2, by decide, by decide, by rw [g2.2.1, g1.2.1]; exact hfb, fun f3 e3 => ?_⟩)
  have hl2 := g2.1
  have g3 : gE [f.1] f2 f3 := by rw [e3]; exact gE.set _ _ _
  have o3 : oc f3 f.1 19 := by rw [e3]; exact set_oc o2
  have v3 : vl f3 f.1 165 = .int (nI (tk ch n p).2.1) := by rw [e3]; exact set_vl o2.1
  have w3 : vl f3 f.1 179 = .ref q ∧ vl f3 f.1 174 = .int 0 ∧ vl f3 f.1 178 = .null := by rw [e3]; exact ⟨(set_vn o2.1 (by decide)).trans v2, (set_vn o2.1 (by decide)).trans w2, (set_vn o2.1 (by decide)).trans ((y2 178 (by decide) (by decide)).trans n1)⟩
  have z3 : f3.1 = f2.1 ∧ f3.2.1 = f2.2.1 := by rw [e3]; exact ⟨rfl, rfl⟩
  have hn3 : NsB f3 f.1 q a1 a2 a3 2 0 (fun _ => 0) (fun _ => 0) (fun _ => 0) := hn2.keep g3 (fun a ha _ => by rw [List.mem_singleton.mp ha]; exact hn2.off o2.1 (by decide))
  have g03 : gE [] f f3 := (g1.own g2 (Nat.le_refl _)).own g3 (Nat.le_refl _)
  have M3 := M0.heap h g03 (fun a ha => absurd ha List.not_mem_nil)
  have hr3 : rdR w f3 x0 nw na ca cap vs A := by have := M3.2.1.2.1; rw [List.append_nil] at this; exact this
  refine ⟨hr3.1.1, R_remember hst hsc hr3 h1 o3 (by omega) (by rw [g03.2.1]; exact hfb) (by omega) (by omega) (fun f4 ca4 cap4 hr4 g4 c4 d4 z4 u4 u4' u5 => ⟨rfl, ?_⟩)⟩
  have lx := hr.1.2.2.1
  have lc := hr.2.2.2.2.2.1
  have hl4 := g4.1
  have o4 : oc f4 f.1 19 := g4.oc o3 (by omega)
  have hn4 : NsB f4 f.1 q a1 a2 a3 2 0 (fun _ => 0) (fun _ => 0) (fun _ => 0) := hn3.keep g4 (fun a ha _ => by
    have b4 := hn3.1.2.2.2.1
    have b14 := hn3.2.1.2.2.2.1
    have b24 := hn3.2.2.1.2.2.2.1
    have b34 := hn3.2.2.2.1.2.2.2.1
    simp only [List.mem_cons, List.not_mem_nil, or_false] at ha
    rcases ha with rfl | rfl | rfl
    · omega
    · exact hn3.off o3.1 (by decide)
    · omega)
  have cb4 : f4.2.2.2 ≤ f.1 := by rw [g4.2.1, g03.2.1]; exact hfb
  have kc4 : cKc E f4 := (M3.kc h).1.ge g4 (fun a ha => by
    have q1 := hr3.1.2.2.2
    have q2 := hr3.2.2.2.2.2.2.1
    simp only [List.mem_cons, List.not_mem_nil, or_false] at ha
    rcases ha with rfl | rfl | rfl
    · exact q1
    · rw [g03.2.1]; exact hfb
    · exact q2) (M3.kc h).2
  have hc16 := hr4.2.2.2.2.2.2.2.2.2.1
  rw [List.length_append] at hc16
  have hlA : [(f.1, (tk ch n p).2.2.1, (tk ch n p).2.1)].length = 1 := rfl
  refine vR11_call_61 ⟨hr4.1.1, hr4.1.2.1, C_nextS hst hsc kc4.1 (fun s' y4 hF => by omega) (fun s1 hcf1 hs1 => ⟨rfl, hr4.1.1, hr4.1.2.1, ?_⟩)⟩
  have ht1 := hs1.tk
  refine C_takeS hst (c := 40) hs1 kc4.1 (by decide) (fun z => absurd z (by decide)) (fun z => absurd hbr z) (fun _ _ _ z s' hF => hbad s' f4 (M0.flt ⟨hcf1.trans hF.1, hF.2⟩ (by omega) (by decide) ?_)) (fun _ _ z s' y4 hF => hbad s' f4 (M0.flt ⟨hcf1.trans hF.1, hF.2⟩ (by omega) (by decide) ?_)) (fun _ _ z s2 hcf2 hs2 => ⟨rfl, fun _ => ?_, fun z => absurd hvI z⟩)
  · exact XB_wdeep hst rfl rfl h1 (by omega) hbr z (by omega) (by omega) (by rw [List.map_nil, List.append_nil]; omega)
  · have ho : ¬ o = 10 := fun y => z ⟨Or.inl rfl, y⟩
    exact (XF_cname hst rfl rfl rfl h1 hw hbr (by omega) (fun y => by omega) (by omega) (by omega) (by rw [List.map_nil, List.append_nil]; omega)).bad (XB_bad0 hst y4 (by rw [List.length_cons]; omega) (by omega))
  have ho : ¬ o = 10 := fun y => z ⟨Or.inl rfl, y⟩
  rw [if_pos (by decide)] at hs2
  have ht2 := hs2.tk
  have hp3 := ht1.1.2.1
  have hp4 := ht1.2.2.2.2 (by omega)
  have hp5 := ht2.1.2.1
  have k1 : vl f4 f.1 165 = .int (nI (tk ch n p).2.1) := (u5 165 (by decide) (by decide)).trans v3
  have k2 : vl f4 f.1 174 = .int (nI 0) := (u5 174 (by decide) (by decide)).trans w3.2.1
  have k3 : vl f4 f.1 178 = .null := (u5 178 (by decide) (by decide)).trans w3.2.2
  have k4 : vl f4 f.1 179 = .ref q := (u5 179 (by decide) (by decide)).trans w3.1
  refine ⟨hr4.1.1, hr4.1.2.1, C_is hst (c := 41) hs2.2.1.1 ht2.1.1 ht2.2.2.2.1 (by decide) ⟨_, rfl, bn_b (fun y => ?_) (fun y => ?_)⟩⟩
  · have M4 := M3.rem (pc := (tk ch n p).2.2.2) g4 (Nat.le_refl _) hr4 (by omega) d4 (hcf1.trans hcf2) hs2 (XF_cname hst rfl rfl rfl h1 hw hbr (by omega) y (by omega) (by omega) (by omega)) (by omega)
    refine L_call (d := d + 7) (N := f.1) (q := q) (lo := f4.1) (pc := (tk ch n p).2.2.2) hst hIH h hX (by omega) (by omega) (by omega) (by omega) w4 ?_ ?_ (n - (tk ch n (tk ch n p).2.2.2).2.2.2) _ _ _ _ _ _ _ _ _ _ 0 _ _ _ _ _ (Nat.le_refl _) (pC.start (u := 2) M4 ⟨o4, by omega, Nat.le_refl _, k4, by decide⟩ hn4 ⟨by omega, by omega, by rw [List.length_nil]; omega, hX1.1⟩) (by omega) (fun k hk => absurd hk (Nat.not_lt_zero _)) k1 k2 u4 u4' k3
    · exact fun s3 f1 k => hok _ _ _ k
    · exact hbad
  · have hp7 := ht2.2.2.2.2 (by omega)
    have xc := XF_cname0 (l := l) (E := E) (w := wm) (d := dm) (al := al) (ch := ch) (n := n) (hf := hf) (s0 := s0) (p := p) (o := o) (vs := vs) (O := O) (c := c) (B := B) (X := X) hst rfl rfl rfl h1 hw hbr (by omega) y (by omega) (by omega) (by omega)
    refine vR11_call_182 ⟨fun _ => ?_, fun z => absurd rfl z⟩
    refine ⟨hr4.1.1, hr4.1.2.1, C_takeS hst (c := 41) hs2 kc4.1 (by decide) (fun _ => by omega) (fun z => absurd y z) (fun _ _ z => absurd z (by decide)) (fun _ _ _ s' y4 hF => hbad s' f4 (M0.flt ⟨(hcf1.trans hcf2).trans hF.1, hF.2⟩ (by omega) (by decide) ?_)) (fun _ _ _ s3 hcf3 hs3 => ⟨rfl, o4, q, k4, hn4.1.1, _, hn4.1.2.2.2.2.1, o4, cb4, fun f5 e5 => hok f.1 s3 f5 ?_⟩)⟩
    · rw [List.map_nil, List.append_nil]
      exact xc.bad (XB_bad hst y4 (by omega) (by omega) (fun x hx => hm.2.2.2.2.2.2.1 x hx))
    · rw [if_neg (by decide), if_pos (by decide)] at hs3
      have M4 := M3.rem (pc := p) (s1 := s) (p1 := p) (o1 := o) g4 (Nat.le_refl _) hr4 (by omega) d4 (cfP.rf _) hsc XF.rf (by omega)
      have C1 := pC.start (u := 0) (gm := 7 * (10 - o)) (wg := fun k => k) M4 ⟨o4, by omega, Nat.le_refl _, k4, by decide⟩ hn4 ⟨by omega, by omega, by rw [List.length_nil]; omega, hX1.1⟩
      exact fin_call (z := 0) (j := 1) C1 h (by omega) (by omega) (fun k hk => absurd hk (Nat.not_lt_zero _)) (by omega) (by omega) (by omega) (by omega) (fun a ha => absurd ha List.not_mem_nil) w4 k1 k2 u4 u4' k3 (by rw [e5]; exact gE.set _ _ _) (by rw [e5]; exact ⟨rfl, rfl⟩) (fun i hi => by rw [e5]; exact set_vn o4.1 hi) (by rw [e5]; exact set_vl o4.1) ((hcf1.trans hcf2).trans hcf3) hs3 (by omega) (fun i hi => oup_ne _ _ (by omega)) (by rw [List.map_nil, List.append_nil]; exact xc) (Or.inl ⟨rfl, rfl, oup_at _ _ _⟩)
end CB2
