/-! ATOMS: each, fold; call; the whole atom -/
section CC2
variable {l : Launch} {E : EN} {w : CO} {wm : MO} {dm d : Nat} {al : Int32} {ch : Nat → Nat} {n hf : Nat} {s0 : MS} {x0 nw na K0 lo pc p o ca cap c gm p1 o1 ca1 cap1 c1 p2 p3 o2 c2 K fl N q u u' r m k pl nm npl : Nat} {vs vs1 : List Nat} {O O1 O2 O3 : Nat → Od} {A A0 dA : List (Nat × Nat × Nat)} {B : List Tok} {dC : List CE} {X X1 X2 : List XE} {s s1 s2 s3 : CS} {f f1 f2 f3 : RH} {q1 q2 : Nat × Nat} {wg V cc e : Nat → Nat} {S L : Nat → Int32} {Q : KO → CS → RH → Prop}
theorem E_over (hst : l.stackTraces = false) {z t plc : Nat} (h : pC l E w wm dm al ch n hf s0 x0 nw na lo pc p o ca cap c vs O (A ++ [(N, nm, npl)]) B X s f 19 179 N q u 0 (7 * (10 - o)) (fun k => k) q1 p1 (o + 1) ca1 cap1 c1 vs1 O1 dC dA ((8, z, t, plc, nm, npl) :: X) s1 f1 (t + 1) V S L cc e) (hq : okE q1 (tk ch n p1)) (hi : pIn E w ch n x0 nw na K0 p o ca cap c vs A B X s f) (hX : X.length ≤ 6 * o + 5) (ho : o < 10) (hlo : N < lo) (hnp : p ≤ npl ∧ npl < pc) (hnm : nm < 27 ^ 8) (hz : (z = 28 ∧ t = 0) ∨ (z = 29 ∧ t = 1)) (hu : 4 ≤ u) (hp : p + 2 * (t + 1) ≤ p1) (he : ∀ k, k < t + 1 → e k = cc (k + 1)) (v1 : vl f1 N 165 = .int (nI plc)) (v2 : vl f1 N 174 = .int (nI z)) (v3 : vl f1 N 175 = .long (lN (cv nm))) (v4 : vl f1 N 176 = .int (nI npl)) (v5 : vl f1 N 178 = .null) (v6 : vl f1 N 177 = .int (nI (t + 1)))
    (hok : ∀ v s' f', pOk l E w wm dm al ch n hf s0 x0 nw na p o ca cap c vs O A B X s f (fun q _ => q = (1, 0)) (7 * (10 - o) + 1) v s' f' → Q (.inl (some (.ref v))) s' f') (hbad : ∀ s' f', pBad l E wm dm al ch n hf s0 K0 p o c vs O B X s s' f' → Q (.inr 1) s' f') : ExC l E w (d + 7 + 1) MX11_call 115 [some (.ref x0), none, none, some (.ref N), some (.int (nI (t + 1)))] [] s1 f1 Q := by
  have hA2 := hi.2.2.2.2.1.2.2.2
  have hAl : (A ++ [(N, nm, npl)]).length = A.length + 1 := by rw [List.length_append]; rfl
  have I2 := h.inn hi (by omega) (by omega) (by omega) (by omega) (by show t ≤ p1; omega)
  have hm2 := I2.nums
  have hs2 := I2.1
  have hr2 := I2.2.2.1
  have ht2 := hs2.tk
  have hXl : ((8, z, t, plc, nm, npl) :: X).length = X.length + 1 := rfl
  have hn9 : t < 9999 := by omega
  have hwk : wk (tk ch n p1) = 2 := if_neg hs2.2.1.2.2
  have hp3 := ht2.1.2.1
  have hz2 : z = 28 ∨ z = 29 := by omega
  have hz3 : z = 29 → ¬ t = 0 := by omega
  refine vR11_call_115 ⟨h.2.1.1, nI (t + 1), v6, pk_le (t + 1) (t + 1) (fun _ => ⟨hr2.1.1, hr2.1.2.1, ?_⟩) (fun y => absurd y (by omega)) rfl rfl (by omega) (by omega)⟩
  refine C_takeS hst (c := 41) hs2 I2.2.1.1 (by decide) (fun _ => by omega) (fun y s' hF => hbad s' f1 (h.1.flt hF (by omega) (by decide) ?_)) (fun _ _ y => absurd y (by decide)) (fun e3 e4 _ s' z4 hF => hbad s' f1 (h.1.flt hF (by omega) (by decide) ?_)) (fun e3 e4 _ s3 hcf3 hs3 => ⟨rfl, hok N s3 f1 ?_⟩)
  · rw [← hwk]
    exact XB_call hst hq (by omega) (by omega) (by omega) (by show 6 ≤ 8; omega) (fun _ => by show z < 30; omega) (fun _ => ⟨hz2, fun y => hz3 y.1 y.2⟩) hn9 (by omega) y (Or.inl rfl)
  · exact (XF_over hst hq (by omega) (by omega) (by omega) rfl hz2 hn9 hz3 (by omega) e3 e4).bad (XB_bad hst z4 (by omega) (by rw [hXl] at hm2; omega) (fun x hx => hi.nums.2.2.2.2.2.2.1 x hx))
  · rw [if_neg (by decide), if_pos (by decide)] at hs3
    have hp4 := ht2.2.2.2.2 (by omega)
    have xo := XF_over (l := l) (E := E) (w := wm) (d := dm) (al := al) (hf := hf) (s0 := s0) (o := o + 1) (vs := vs1) (O := O1) (c := c1) (B := B ++ dC.map toB) (X := X) (x := (8, z, t, plc, nm, npl)) hst hq (by omega) (by omega) (by omega) rfl hz2 hn9 hz3 (by omega) e3 e4
    have hw : (if z = 28 then 1 else 2) = t + 1 := by split <;> omega
    have xo2 : XF l E wm dm al ch n hf s0 q1 ((p1, o + 1), vs1, O1, c1, B ++ dC.map toB, (8, z, t, plc, nm, npl) :: X) (1, 0) (((tk ch n p1).2.2.2, o), vs1, oup (oup O1 (4000 * (1 - hf) + c1) (10, z, 0, 0, nI plc)) (4000 * (1 - hf) + (c1 + 1)) (11, z, 0, 0, nI plc), c1 + 2, (B ++ dC.map toB) ++ [(4000 * (1 - hf) + (c1 + 2 - 1), nm, t + 1, npl)], X) := by
      rw [← hw]; exact xo
    exact fin_call (z := z) (j := 2) h hi (by omega) (by omega) he (by omega) (by omega) hlo ⟨hnp.1, by have := h.1.2.2.2.2.2.2.2.2.2.2.2; omega⟩ (fun a ha => by have := h.1.2.2.2.2.1.2.2.2 a ha; omega) hnm v1 v2 v3 v4 v5 (gE.rf _ _) ⟨rfl, rfl⟩ (fun _ _ => rfl) v6 hcf3 hs3 (by omega) (fun i hi => (oup_ne _ _ (by omega)).trans (oup_ne _ _ (by omega))) xo2 (Or.inr ⟨rfl, by omega, (oup_ne _ _ (by omega)).trans (oup_at _ _ _), oup_at _ _ _⟩)
theorem A_over (hst : l.stackTraces = false) (hIH : ∀ p', p < p' → xSp l E w wm dm al ch n hf s0 x0 nw na K0 p') (h : pIn E w ch n x0 nw na K0 p o ca cap c vs A B X s f) (hX : X.length ≤ 6 * o + 5) (h1 : (tk ch n p).1 = 1) (hw : 39 ≤ kw (tk ch n p)) (hw2 : kw (tk ch n p) < 41) (hd : 20 * (10 - o) + 30 ≤ d)
    (hok : ∀ v s' f', pOk l E w wm dm al ch n hf s0 x0 nw na p o ca cap c vs O A B X s f (fun q _ => q = (1, 0)) (7 * (10 - o) + 1) v s' f' → Q (.inl (some (.ref v))) s' f') (hbad : ∀ s' f', pBad l E wm dm al ch n hf s0 K0 p o c vs O B X s s' f' → Q (.inr 1) s' f') :
    rmF E f 1 7 ∧ ∀ (a5 : Nat) (f6 : RH), a5 = f.1 → f6 = fnew f 19 → (EvC l E w d MX21_init [.ref a5, .int (nI (kw (tk ch n p) - 11))] s f6 (fun o s14 f15 => KP o (fun r => r = none ∧ (∃ k17 : Nat, oc f15 a5 k17 ∧ 165 ∈ CF k17 ∧ ¬ k17 = 30 ∧ f15.2.2.2 ≤ a5 ∧ ∀ f16 : RH, f16 = fset f15 a5 165 (.int (nI (tk ch n p).2.1)) → ExC l E w (d + 1) MX11_call 61 [some (.ref x0), none, some (.int (nI (kw (tk ch n p) - 11))), some (.ref a5), none] [] s14 f16 Q)) (fun k => Q (.inr k) s14 f15))) := by
  have hm := h.nums
  have hsc := h.1
  have ht := hsc.tk
  have hr := h.2.2.1
  have hX2 := h.2.2.2.2.2.1
  have hX1 := h.2.2.2.2.1
  have hfb := h.2.2.2.1
  have hK' := h.2.2.2.2.2.2.1
  have hp1 := ht.1.2.1
  have hp2 := ht.2.2.2.2 (by omega)
  obtain ⟨d, rfl⟩ : ∃ d', d = d' + 1 + 7 := ⟨d - 8, by omega⟩
  have M0 := pM.init (l := l) (wm := wm) (dm := dm) (al := al) (hf := hf) (s0 := s0) (O := O) h
  have hB0 : (B ++ ([] : List CE).map toB).length < 800 := by rw [List.map_nil, List.append_nil]; omega
  have hwk : ∀ p', ¬ (tk ch n p').1 = 4 → wk (tk ch n p') = 2 := fun p' z => if_neg z
  have hwk1 : ∀ p', (tk ch n p').1 = 4 → wk (tk ch n p') = 1 := fun p' z => if_pos z
  refine ⟨by unfold rmF; omega, fun N f1 eN e1 => ?_⟩
  subst eN
  have g1 : gE [] f f1 := by rw [e1]; exact gE.new _ _
  have o1 : oc f1 f.1 19 := by rw [e1]; exact oc_new _ _
  have z1 : f1.1 = f.1 + 1 ∧ f1.2.1 = f.2.1 + 8 := by rw [e1]; exact ⟨rfl, rfl⟩
  have n1 : vl f1 f.1 178 = .null := by rw [e1]; exact vl_new _ _ _
  refine I_call (lo := f.1) hst o1 (by omega) (by rw [g1.2.1]; exact hfb) (by omega) (by omega) (fun f2 q a1 a2 a3 hn2 g2 o2 v2 w2 y2 z2 => ⟨rfl, 19, o2, by decide, by decide, by rw [g2.2.1, g1.2.1]; exact hfb, fun f3 e3 => ?_⟩)
  have hl2 := g2.1
  have g3 : gE [f.1] f2 f3 := by rw [e3]; exact gE.set _ _ _
  have o3 : oc f3 f.1 19 := by rw [e3]; exact set_oc o2
  have v3 : vl f3 f.1 165 = .int (nI (tk ch n p).2.1) := by rw [e3]; exact set_vl o2.1
  have w3 : vl f3 f.1 179 = .ref q ∧ vl f3 f.1 174 = .int (nI (kw (tk ch n p) - 11)) ∧ vl f3 f.1 178 = .null := by rw [e3]; exact ⟨(set_vn o2.1 (by decide)).trans v2, (set_vn o2.1 (by decide)).trans w2, (set_vn o2.1 (by decide)).trans ((y2 178 (by decide) (by decide)).trans n1)⟩
  have z3 : f3.1 = f2.1 ∧ f3.2.1 = f2.2.1 := by rw [e3]; exact ⟨rfl, rfl⟩
  have hn3 : NsB f3 f.1 q a1 a2 a3 2 0 (fun _ => 0) (fun _ => 0) (fun _ => 0) := hn2.keep g3 (fun a ha _ => by rw [List.mem_singleton.mp ha]; exact hn2.off o2.1 (by decide))
  have g03 : gE [] f f3 := (g1.own g2 (Nat.le_refl _)).own g3 (Nat.le_refl _)
  have M3 := M0.heap h g03 (fun a ha => absurd ha List.not_mem_nil)
  have hr3 : rdR w f3 x0 nw na ca cap vs A := by have := M3.2.1.2.1; rw [List.append_nil] at this; exact this
  have hk3 := M3.kc h
  refine vR11_call_61 ⟨hr3.1.1, hr3.1.2.1, C_nextS hst hsc hk3.1.1 (fun s' z4 hF => hbad s' f3 (M3.flt hF (by omega) (by decide) ?_)) (fun s1 hcf1 hs1 => ⟨rfl, hr3.1.1, hr3.1.2.1, ?_⟩)⟩
  · rw [← hwk1 _ z4]
    exact XB_word hst rfl rfl h1 (by omega) (fun z => by omega) (fun z => by omega) (by omega) (by omega) hB0
  have ht1 := hs1.tk
  refine C_takeS hst (c := 40) hs1 hk3.1.1 (by decide) (fun z => absurd z (by decide)) (fun z s' hF => hbad s' f3 (M3.flt ⟨hcf1.trans hF.1, hF.2⟩ (by omega) (by decide) ?_)) (fun e3 e4 _ z s' hF => hbad s' f3 (M3.flt ⟨hcf1.trans hF.1, hF.2⟩ (by omega) (by decide) ?_)) (fun e3 e4 z s' z4 hF => hbad s' f3 (M3.flt ⟨hcf1.trans hF.1, hF.2⟩ (by omega) (by decide) ?_)) (fun e3 e4 z s2 hcf2 hs2 => ⟨rfl, fun y => absurd y (nI_pos (by omega)), fun _ => ⟨hr3.1.1, ?_⟩⟩)
  · rw [← hwk _ hs1.2.1.2.2]
    exact XB_word hst rfl rfl h1 (by omega) (fun z => by omega) z (by omega) (by omega) hB0
  · exact XB_wdeep hst rfl rfl h1 (by omega) ⟨e3, e4⟩ z (by omega) (by omega) hB0
  · have ho : ¬ o = 10 := fun y => z ⟨Or.inl rfl, y⟩
    rw [← hwk1 _ z4]
    exact XB_oname hst rfl rfl rfl h1 hw hw2 ⟨e3, e4⟩ (by omega) (fun y => by omega) (by omega) (by omega) hB0
  have ho : ¬ o = 10 := fun y => z ⟨Or.inl rfl, y⟩
  rw [if_pos (by decide)] at hs2
  have hb : (tk ch n (tk ch n p).2.2.2).1 = 3 ∧ (tk ch n (tk ch n p).2.2.2).2.2.1 = 40 := ⟨e3, e4⟩
  have ht2 := hs2.tk
  have hp3 := ht1.1.2.1
  have hp4 := ht1.2.2.2.2 (by omega)
  have hp5 := ht2.1.2.1
  refine R_wantName hst hs2 hk3.1 hr3.1.1 hr3.1.2.1 (fun y s' hF => hbad s' f3 (M3.flt ⟨(hcf1.trans hcf2).trans hF.1, hF.2⟩ (by omega) (by decide) ?_)) (fun y1 y2' => ⟨rfl, hr3.1.1, ?_⟩)
  · rw [← hwk _ hs2.2.1.2.2]
    exact XB_oname hst rfl rfl rfl h1 hw hw2 hb (by omega) y (by omega) (by omega) hB0
  have hp6 := ht2.2.2.2.2 (by omega)
  obtain ⟨-, -, -, wd4⟩ := tk_word y1
  refine R_remember hst hs2 hr3 y1 o3 (by omega) (by rw [g03.2.1]; exact hfb) (by omega) (by omega) (fun f4 ca4 cap4 hr4 g4 c4 d4 z4 u4 u4' u5 => ⟨rfl, ?_⟩)
  have lx := hr.1.2.2.1
  have lc := hr.2.2.2.2.2.1
  have hl4 := g4.1
  have o4 : oc f4 f.1 19 := g4.oc o3 (by omega)
  have hn4 : NsB f4 f.1 q a1 a2 a3 2 0 (fun _ => 0) (fun _ => 0) (fun _ => 0) := hn3.keep g4 (fun a ha _ => by
    have b4 := hn3.1.2.2.2.1
    have b14 := hn3.2.1.2.2.2.1
    have b24 := hn3.2.2.1.2.2.2.1
    have b34 := hn3.2.2.2.1.2.2.2.1
    simp only [List.mem_cons, List.not_mem_nil, or_false] at ha
    rcases ha with rfl | rfl | rfl
    · omega
    · exact hn3.off o3.1 (by decide)
    · omega)
  have cb4 : f4.2.2.2 ≤ f.1 := by rw [g4.2.1, g03.2.1]; exact hfb
  have kc4 : cKc E f4 := hk3.1.ge g4 (fun a ha => by
    have q1 := hr3.1.2.2.2
    have q2 := hr3.2.2.2.2.2.2.1
    simp only [List.mem_cons, List.not_mem_nil, or_false] at ha
    rcases ha with rfl | rfl | rfl
    · exact q1
    · rw [g03.2.1]; exact hfb
    · exact q2) hk3.2
  have hc16 := hr4.2.2.2.2.2.2.2.2.2.1
  rw [List.length_append] at hc16
  have hlA : [(f.1, (tk ch n (tk ch n (tk ch n p).2.2.2).2.2.2).2.2.1, (tk ch n (tk ch n (tk ch n p).2.2.2).2.2.2).2.1)].length = 1 := rfl
  -- how many are wanted
  have rest : ∀ t, ((kw (tk ch n p) = 39 ∧ t = 0) ∨ (kw (tk ch n p) = 40 ∧ t = 1)) → ∀ f5, f5 = fset f4 f.1 177 (.int (nI (t + 1))) → (oc f5 x0 11 ∧ vl f5 x0 147 = .ref (w.1 2) ∧ (EvC l E w (d + 1 + 7) MX2_next [.ref (w.1 2)] s2 f5 (fun o s54 f55 => KP o (fun r => r = none ∧ ExC l E w (d + 1 + 7 + 1) MX11_call 115 [some (.ref x0), none, none, some (.ref f.1), some (.int 0)] [] s54 f55 Q) (fun k => Q (.inr k) s54 f55)))) := by
    intro t htt f5 e5
    have g5 : gE [f.1] f4 f5 := by rw [e5]; exact gE.set _ _ _
    have o5 : oc f5 f.1 19 := by rw [e5]; exact set_oc o4
    have z5 : f5.1 = f4.1 ∧ f5.2.1 = f4.2.1 := by rw [e5]; exact ⟨rfl, rfl⟩
    have w5 : vl f5 f.1 177 = .int (nI (t + 1)) := by rw [e5]; exact set_vl o4.1
    have x5 : ∀ j, ¬ j = 177 → ¬ j = 175 → ¬ j = 176 → vl f5 f.1 j = vl f3 f.1 j := fun j j1 j2 j3 => by rw [e5]; exact (set_vn o4.1 j1).trans (u5 j j2 j3)
    have u6 : vl f5 f.1 175 = .long (lN (cv (tk ch n (tk ch n (tk ch n p).2.2.2).2.2.2).2.2.1)) := by rw [e5]; exact (set_vn o4.1 (by decide)).trans u4
    have u7 : vl f5 f.1 176 = .int (nI (tk ch n (tk ch n (tk ch n p).2.2.2).2.2.2).2.1) := by rw [e5]; exact (set_vn o4.1 (by decide)).trans u4'
    have hn5 : NsB f5 f.1 q a1 a2 a3 2 0 (fun _ => 0) (fun _ => 0) (fun _ => 0) := hn4.keep g5 (fun a ha _ => by rw [List.mem_singleton.mp ha]; exact hn4.off o4.1 (by decide))
    have kc5 : cKc E f5 := kc4.ge g5 (fun a ha => by rw [List.mem_singleton.mp ha]; exact cb4) (by omega)
    have lw := hr.2.1.2.2.1
    have la := hr.2.2.1.2.2.1
    have hr5 : rdR w f5 x0 nw na ca4 cap4 vs (A ++ [(f.1, (tk ch n (tk ch n (tk ch n p).2.2.2).2.2.2).2.2.1, (tk ch n (tk ch n (tk ch n p).2.2.2).2.2.2).2.1)]) := hr4.keep g5 (by simp only [List.mem_singleton]; omega)
    refine ⟨hr5.1.1, hr5.1.2.1, C_nextS hst hs2 kc5.1 (fun s' y4 hF => hbad s' f5 (M0.flt ⟨(hcf1.trans hcf2).trans hF.1, hF.2⟩ (by omega) (by decide) ?_)) (fun s3 hcf3 hs3 => ⟨rfl, ?_⟩)⟩
    · rw [← hwk1 _ y4]
      exact XB_oname2 hst rfl rfl rfl rfl h1 hw hw2 hb (by omega) ⟨y1, y2'⟩ (fun y => by omega) (by omega) (by omega) hB0
    have ht3 := hs3.tk
    have hp7 := ht3.1.2.1
    have hcf := (hcf1.trans hcf2).trans hcf3
    refine vR11_call_115 ⟨o5, nI (t + 1), w5, pk_le (t + 1) 0 (fun y => absurd y (by omega)) (fun _ => ⟨hr5.1.1, hr5.1.2.1, ?_⟩) rfl rfl (by omega) (by omega)⟩
    refine C_takeS hst (c := 44) hs3 kc5.1 (by decide) (fun z => absurd z (by decide)) (fun y s' hF => hbad s' f5 (M0.flt ⟨hcf.trans hF.1, hF.2⟩ (by omega) (by decide) ?_)) (fun _ _ y => absurd y (by decide)) (fun q3 q4 _ s' y4 hF => hbad s' f5 (M0.flt ⟨hcf.trans hF.1, hF.2⟩ (by omega) (by decide) ?_)) (fun q3 q4 _ s4 hcf4 hs4 => ⟨rfl, o5, q, (x5 179 (by decide) (by decide) (by decide)).trans w3.1, ?_⟩)
    · rw [← hwk _ hs3.2.1.2.2]
      exact XB_oname2 hst rfl rfl rfl rfl h1 hw hw2 hb (by omega) ⟨y1, y2'⟩ y (by omega) (by omega) hB0
    · exact (XF_oname hst rfl rfl rfl rfl h1 hw hw2 hb (by omega) ⟨y1, y2'⟩ ⟨q3, q4⟩ (by omega) (by omega) hB0).bad (XB_bad0 hst y4 (by rw [List.length_cons]; omega) (by omega))
    rw [if_neg (by decide), if_neg (by decide)] at hs4
    have hp8 := ht3.2.2.2.2 (by omega)
    have M4 := (M3.rem (pc := (tk ch n (tk ch n (tk ch n p).2.2.2).2.2.2).2.2.2) g4 (Nat.le_refl _) hr4 (by omega) d4 (hcf.trans hcf4) hs4 (XF_oname hst rfl rfl rfl rfl h1 hw hw2 hb (by omega) ⟨y1, y2'⟩ ⟨q3, q4⟩ (by omega) (by omega) (by omega)) (by omega)).heap h g5 (fun a ha => Or.inr (by rw [List.mem_singleton.mp ha, o4.1]; exact ⟨Nat.le_refl _, fun z => (by cases z), Or.inl (by omega)⟩))
    have C0 := pC.start (u := 4) (gm := 7 * (10 - o)) (wg := fun k => k) M4 ⟨o5, by omega, Nat.le_refl _, (x5 179 (by decide) (by decide) (by decide)).trans w3.1, by decide⟩ hn5 ⟨by omega, by omega, by rw [List.length_nil]; omega, hX1.1⟩
    have hAl : (A ++ [(f.1, (tk ch n (tk ch n (tk ch n p).2.2.2).2.2.2).2.2.1, (tk ch n (tk ch n (tk ch n p).2.2.2).2.2.2).2.1)]).length = A.length + 1 := by rw [List.length_append]; rfl
    refine C0.one hst (hIH _ (by omega)) h (by omega) (by omega) (by omega) (by omega) (by omega) (Nat.zero_le _) (by show 3 ≤ 8; omega) (by omega) (by omega) (by show p + 2 * 0 ≤ _; omega) (by omega) (fun v f6 p6 vs6 O6 c6 dC6 dA6 ca6 cap6 q6 s6 k1 k2 k3 k4 => ?_) hbad
    have cN := (cellE k3).2.2
    have he1 := up_eq (e := fun _ => 0) (cc := fun _ => 4000 * (1 - hf) + c) (m := 0) (b := 4000 * (1 - hf) + c6) (fun k hk => absurd hk (Nat.not_lt_zero _))
    have e165 : vl f6 f.1 165 = .int (nI (tk ch n p).2.1) := by rw [cN]; exact (x5 165 (by decide) (by decide) (by decide)).trans v3
    have e174 : vl f6 f.1 174 = .int (nI (kw (tk ch n p) - 11)) := by rw [cN]; exact (x5 174 (by decide) (by decide) (by decide)).trans w3.2.1
    have e178 : vl f6 f.1 178 = .null := by rw [cN]; exact (x5 178 (by decide) (by decide) (by decide)).trans w3.2.2
    rcases htt with ⟨tk1, tk2⟩ | ⟨tk1, tk2⟩
    · subst tk2
      exact E_over (d := d + 1) (z := kw (tk ch n p) - 11) (t := 0) hst k1 k2 h hX (by omega) (by omega) (by omega) wd4 (by omega) (by omega) (by omega) he1 e165 e174 (by rw [cN]; exact u6) (by rw [cN]; exact u7) e178 (by rw [cN]; exact w5) hok hbad
    · subst tk2
      have I2 := k1.inn h (by omega) (by omega) (by omega) (by omega) (Nat.zero_le _)
      have hm2 := I2.nums
      have hs6 := I2.1
      have hr6 := I2.2.2.1
      have ht6 := hs6.tk
      have hp9 := ht6.1.2.1
      have z28 : ¬ kw (tk ch n p) - 11 = 28 := by omega
      have z29 : kw (tk ch n p) - 11 = 29 := by omega
      have xc : (tk ch n p6).1 = 3 → (tk ch n p6).2.2.1 = 44 → _ := fun y1 y2 => XF_comma (l := l) (E := E) (w := wm) (d := dm) (al := al) (ch := ch) (n := n) (hf := hf) (s0 := s0) (q := q6) (p := p6) (o := o + 1) (vs := vs6) (O := O6) (c := c6) (B := B ++ ([] ++ dC6).map toB) (X := X) (x := (8, kw (tk ch n p) - 11, 0, (tk ch n p).2.1, (tk ch n (tk ch n (tk ch n p).2.2.2).2.2.2).2.2.1, (tk ch n (tk ch n (tk ch n p).2.2.2).2.2.2).2.1)) hst k2 (by omega) (by omega) (by show 5 ≤ 8; omega) (Or.inr ⟨rfl, z29, rfl⟩) (fun _ => by show kw (tk ch n p) - 11 < 30; omega) (by show 0 < 9999; omega) (fun y => by have y : 8 = 7 := y.1; omega) y1 y2
      refine vR11_call_115 ⟨k1.2.1.1, nI (1 + 1), by rw [cN]; exact w5, pk_le (1 + 1) 1 (fun y => absurd y (by omega)) (fun _ => ⟨hr6.1.1, hr6.1.2.1, ?_⟩) rfl rfl (by omega) (by omega)⟩
      refine C_takeS hst (c := 44) hs6 I2.2.1.1 (by decide) (fun z => absurd z (by decide)) (fun y s' hF => hbad s' f6 (k1.1.flt hF (by omega) (by decide) ?_)) (fun _ _ y => absurd y (by decide)) (fun r3 r4 _ s' y4 hF => hbad s' f6 (k1.1.flt hF (by omega) (by decide) ((xc r3 r4).bad (XB_bad0 hst y4 (by show X.length + 1 ≤ 74; omega) (by omega))))) (fun r3 r4 _ s7 hcf7 hs7 => ⟨rfl, k1.2.1.1, q, k1.2.1.2.2.2.1, ?_⟩)
      · rw [← hwk _ hs6.2.1.2.2]
        exact XB_fold hst k2 (by omega) (by omega) rfl z29 rfl y
      rw [if_neg (by decide), if_neg (by decide)] at hs7
      have hp10 := ht6.2.2.2.2 (by omega)
      have C2 := k1.tok (u' := 1) hcf7 hs7 (xc r3 r4) (by omega) (by omega)
      refine C2.one hst (hIH _ (by omega)) h (by omega) (by omega) (by omega) (by omega) (by omega) (by show 0 + 1 ≤ _; omega) (by show 3 ≤ 8; omega) (by omega) (by omega) (by show p + 2 * 1 ≤ _; omega) (by omega) (fun v' f8 p8 vs8 O8 c8 dC8 dA8 ca8 cap8 q8 s8 l1 l2 l3 l4 => ?_) hbad
      have cM := (cellE l3).2.2
      have he2 := up_eq (b := 4000 * (1 - hf) + c8) he1
      exact E_over (d := d + 1) (z := kw (tk ch n p) - 11) (t := 1) hst l1 l2 h hX (by omega) (by omega) (by omega) wd4 (by omega) (by omega) (by omega) he2 (by rw [cM]; exact e165) (by rw [cM]; exact e174) (by rw [cM, cN]; exact u6) (by rw [cM, cN]; exact u7) (by rw [cM]; exact e178) (by rw [cM, cN]; exact w5) hok hbad
  refine bn_eq (kw (tk ch n p) - 11) 28 (fun y => ⟨o4, cb4, fun f5 e5 => rest 1 (by omega) f5 e5⟩) (fun y => ⟨o4, cb4, fun f5 e5 => rest 0 (by omega) f5 e5⟩) rfl rfl
/-- call -/
theorem R_call (hst : l.stackTraces = false) (hIH : ∀ p', p < p' → xSp l E w wm dm al ch n hf s0 x0 nw na K0 p') (h : pIn E w ch n x0 nw na K0 p o ca cap c vs A B X s f) (hX : X.length ≤ 6 * o + 5) (h1 : (tk ch n p).1 = 1) (hw : (11 ≤ kw (tk ch n p) ∧ kw (tk ch n p) < 41) ∨ (kw (tk ch n p) = 41 ∧ bt ch n (sk ch n (tk ch n p).2.2.2) = 40)) (hd : 20 * (10 - o) + 31 ≤ d)
    (hok : ∀ v s' f', pOk l E w wm dm al ch n hf s0 x0 nw na p o ca cap c vs O A B X s f (fun q _ => q = (1, 0)) (7 * (10 - o) + 1) v s' f' → Q (.inl (some (.ref v))) s' f') (hbad : ∀ s' f', pBad l E wm dm al ch n hf s0 K0 p o c vs O B X s s' f' → Q (.inr 1) s' f') : EvC l E w d MX11_call [.ref x0] s f Q := by
  have hr := h.2.2.1
  have hsc := h.1
  obtain ⟨d, rfl⟩ : ∃ d', d = d' + 7 + 1 := ⟨d - 8, by omega⟩
  refine eR11_call hst ⟨hr.1.1, hr.1.2.1, fun y ey => ⟨hr.1.1, ?_⟩⟩
  rw [hsc.2.1.1.2.1] at ey
  subst ey
  refine R_builtIn hst hsc h.2.1 hr.1.1 hr.1.2.1 ⟨_, rfl, ?_⟩
  rcases hw with ⟨k1, k2⟩ | ⟨k1, k2⟩
  · have e : kbI (tk ch n p) = nI (kw (tk ch n p) - 11) := if_pos ⟨k1, k2⟩
    rw [e]
    have pos : ¬ (nI (kw (tk ch n p) - 11) : Int32) < 0 := nI_pos (by omega)
    have pos' : (0 : Int32) ≤ nI (kw (tk ch n p) - 11) := nI_pos' (by omega)
    refine ⟨fun z => absurd z pos, fun _ => pk_le 28 (kw (tk ch n p) - 11) (fun z => ?_) (fun z => ⟨hr.1.1, ?_⟩) rfl rfl (by omega) (by omega)⟩
    · obtain ⟨q1, q2⟩ := A_over (O := O) hst hIH h hX h1 (by omega) k2 (d := d + 7) (by omega) hok hbad
      refine ⟨q1, fun a f6 ea e6 => ⟨fun _ => ?_, fun z => absurd pos' z⟩⟩
      refine EvC.mono (fun o s' f' _ hq => ?_) (q2 a f6 ea e6)
      cases o with
      | inl r =>
        obtain ⟨r1, k, t1, t2, t3, t4, t5⟩ := hq
        exact ⟨r1, k, t1, t2, t3, t4, fun f9 e9 => ⟨fun _ => t5 f9 e9, fun z => absurd pos' z⟩⟩
      | inr k => exact hq
    · exact A_bi (O := O) hst hIH h hX h1 k1 (by omega) (by omega) (fun v s' f' k => ⟨v, rfl, hok v s' f' k⟩) hbad
  · have e : kbI (tk ch n p) = -1 := if_neg (by omega)
    rw [e]
    refine ⟨fun _ => ?_, fun z => absurd (by decide) z⟩
    obtain ⟨q1, q2⟩ := A_cname (O := O) hst hIH h hX h1 k1 (tk_brk.mp k2) (d := d + 7) (by omega) (vI := -1) (by decide) hok hbad
    refine ⟨q1, fun a f6 ea e6 => ⟨fun z => absurd z (by decide), fun _ => ?_⟩⟩
    refine EvC.mono (fun o s' f' _ hq => ?_) (q2 a f6 ea e6)
    cases o with
    | inl r =>
      obtain ⟨r1, k, t1, t2, t3, t4, t5⟩ := hq
      exact ⟨r1, k, t1, t2, t3, t4, fun f9 e9 => ⟨fun z => absurd z (by decide), fun _ => t5 f9 e9⟩⟩
    | inr k => exact hq
/-- an atom -/
theorem R_atom (hst : l.stackTraces = false) (hIH : ∀ p', p < p' → xSp l E w wm dm al ch n hf s0 x0 nw na K0 p') : aS l E w wm dm al ch n hf s0 x0 nw na K0 p := by
  intro o ca cap c vs O A B X s f d Q h hX hah hd hok hbad
  have hsc := h.1
  have ht := hsc.tk
  have hr := h.2.2.1
  by_cases h2 : (tk ch n p).1 = 2
  · obtain ⟨d, rfl⟩ : ∃ d', d = d' + 10 := ⟨d - 10, by omega⟩
    have := h.nums
    exact A_num hst h (by omega) h2 (by omega) hok hbad
  by_cases h40 : (tk ch n p).1 = 3 ∧ (tk ch n p).2.2.1 = 40
  · exact A_paren hst hIH h hX h40.1 h40.2 hd hok hbad
  by_cases h91 : (tk ch n p).1 = 3 ∧ (tk ch n p).2.2.1 = 91
  · exact A_lit hst hIH h hX h91.1 h91.2 hd hok hbad
  by_cases hnc : (tk ch n p).1 = 1 ∧ ((11 ≤ kw (tk ch n p) ∧ kw (tk ch n p) < 41) ∨ (kw (tk ch n p) = 41 ∧ bt ch n (sk ch n (tk ch n p).2.2.2) = 40))
  · obtain ⟨d, rfl⟩ : ∃ d', d = d' + 8 + 1 := ⟨d - 9, by omega⟩
    have cal : EvC l E w (d + 8) MX11_call [.ref x0] s f (fun o s21 f22 => KP o (fun r => ∃ a23 : Nat, r = some (.ref a23) ∧ Q (.inl (some (.ref a23))) s21 f22) (fun k => Q (.inr k) s21 f22)) := R_call (O := O) hst hIH h hX hnc.1 hnc.2 (by omega) (fun v s' f' k => ⟨v, rfl, hok v s' f' k⟩) hbad
    refine eR11_atom hst ⟨hr.1.1, hr.1.2.1, fun y ey => ⟨hr.1.1, hr.1.2.1, bn_eq (tk ch n p).1 2 (fun _ => ?_) (fun z => absurd z h2) hsc.2.1.1.1 rfl⟩⟩
    refine ⟨hr.1.1, hr.1.2.1, C_is hst (c := 40) hsc.2.1.1 ht.1.1 ht.2.2.2.1 (by decide) ⟨_, rfl, pk_b (fun _ => ⟨hr.1.1, hr.1.2.1, ?_⟩) (fun z => absurd z h40)⟩⟩
    refine C_is hst (c := 91) hsc.2.1.1 ht.1.1 ht.2.2.2.1 (by decide) ⟨_, rfl, pk_b (fun _ => ⟨hr.1.1, hr.1.2.1, ?_⟩) (fun z => absurd z h91)⟩
    refine bn_eq (tk ch n p).1 1 (fun z => absurd hnc.1 z) (fun z1 => ⟨hr.1.1, R_builtIn hst hsc h.2.1 hr.1.1 hr.1.2.1 ⟨_, rfl, kbI_ge (fun _ _ => ⟨hr.1.1, cal⟩) (fun y => ⟨hr.1.1, R_isReserved hst hsc h.2.1 hr.1.1 hr.1.2.1 ⟨_, rfl, bn_b (fun y' => ⟨hr.1.1, hr.1.2.1, C_isCalled hst hsc.1 hsc.2.1.1.2.2.1 ht.1.2.2.2.2 ⟨_, rfl, pk_b (fun q => ?_) (fun _ => ⟨hr.1.1, cal⟩)⟩⟩) (fun y' => ?_)⟩⟩)⟩⟩) hsc.2.1.1.1 rfl
    · exact absurd (by omega : bt ch n (sk ch n (tk ch n p).2.2.2) = 40) q
    · omega
  · obtain ⟨d, rfl⟩ : ∃ d', d = d' + 10 := ⟨d - 10, by omega⟩
    have := h.nums
    exact A_name hst h (by omega) h2 h40 h91 hnc hah (by omega) hok hbad
end CC2
