/-! ATOMS: numbers, names -/
theorem oAg.eq {x y : Od} (h : oAg x y) (h9 : ¬ x.1 = 9) (h11 : ¬ x.1 = 11) : y = x := by
  obtain ⟨a, b, c, d⟩ := h
  obtain ⟨x1, x2, x3, x4⟩ := x
  obtain ⟨y1, y2, y3, y4⟩ := y
  have a : y1 = x1 := a
  have b : y2 = x2 := b h9
  have c : y3 = x3 := c h11
  have d : y4 = x4 := d
  rw [a, b, c, d]
theorem gE.own {f g g' : RH} {D : List Nat} {a : Nat} (h : gE D f g) (k : gE [a] g g') (ha : f.1 ≤ a) : gE D f g' := h.trans k (fun b hb => Or.inr (by rw [List.mem_singleton.mp hb]; exact ha))
theorem Ag.vl {lo hi : Nat} {f f' : RH} (h : Ag lo hi f f') {x : Nat} (h1 : lo ≤ x) (h2 : x < hi) {k : Nat} (ht : oc f x k) (h19 : ¬ k = 19) (j : Nat) : vl f' x j = vl f x j := (h x h1 h2 (by rw [ht.1]; intro z; cases z)).2.2 j (fun z => h19 (by rw [ht.1] at z; injection z.1 with z; injection z))
theorem Ag.oc {lo hi : Nat} {f f' : RH} (h : Ag lo hi f f') {x : Nat} (h1 : lo ≤ x) (h2 : x < hi) {k : Nat} (ht : oc f x k) : oc f' x k := by
  have := h x h1 h2 (by rw [ht.1]; intro z; cases z)
  exact ⟨this.1.trans ht.1, this.2.1.trans ht.2⟩
theorem hN_1 (p p' : Nat) : 1 ≤ hN p p' := by unfold hN; omega
section AT
variable {l : Launch} {E : EN} {w : CO} {wm : MO} {dm d : Nat} {al : Int32} {ch : Nat → Nat} {n hf : Nat} {s0 : MS} {x0 nw na K0 p o ca cap c gm : Nat} {vs : List Nat} {O : Nat → Od} {A : List (Nat × Nat × Nat)} {B : List Tok} {X : List XE} {s : CS} {f : RH} {Q : KO → CS → RH → Prop}
theorem pIn.reader (h : pIn E w ch n x0 nw na K0 p o ca cap c vs A B X s f) {D : List Nat} {f' : RH} (hg : gE D f f') (hD : ∀ a ∈ D, f.1 ≤ a) : rdR w f' x0 nw na ca cap vs A ∧ cKc E f' ∧ f'.2.2.2 ≤ f'.1 := by
  obtain ⟨h1, h2, h3, h4, -⟩ := h
  have g0 : gE [] f f' := hg.mono (fun a ha => Or.inr (hD a ha))
  have := g0.1
  exact ⟨h3.keep g0 ⟨List.not_mem_nil, List.not_mem_nil, List.not_mem_nil, List.not_mem_nil⟩, h2.ge g0 (fun a ha => absurd ha List.not_mem_nil) h4, by rw [g0.2.1]; omega⟩
theorem A_num (hst : l.stackTraces = false) (h : pIn E w ch n x0 nw na K0 p o ca cap c vs A B X s f) (hX : X.length ≤ 66) (h2 : (tk ch n p).1 = 2) (hg : 1 ≤ gm)
    (hok : ∀ v s' f', pOk l E w wm dm al ch n hf s0 x0 nw na p o ca cap c vs O A B X s f (fun q _ => q = (1, 0)) gm v s' f' → Q (.inl (some (.ref v))) s' f') (hbad : ∀ s' f', pBad l E wm dm al ch n hf s0 K0 p o c vs O B X s s' f' → Q (.inr 1) s' f') : EvC l E w (d + 10) MX11_atom [.ref x0] s f Q := by
  have hm := h.nums
  have hsc := h.1
  have ht := hsc.tk
  have hr := h.2.2.1
  refine eR11_atom hst ⟨hr.1.1, hr.1.2.1, fun y ey => ⟨hr.1.1, hr.1.2.1, bn_eq (tk ch n p).1 2 (fun z => absurd h2 z) (fun _ => ?_) hsc.2.1.1.1 rfl⟩⟩
  rw [hsc.2.1.1.2.1] at ey
  subst ey
  refine ⟨by unfold rmF; omega, fun a f1 ea e1 => ?_⟩
  subst ea
  have g1 : gE [] f f1 := by rw [e1]; exact gE.new _ _
  have o1 : oc f1 f.1 15 := by rw [e1]; exact oc_new _ _
  have z1 : f1.1 = f.1 + 1 ∧ f1.2.1 = f.2.1 + 3 := by rw [e1]; exact ⟨rfl, rfl⟩
  obtain ⟨r1, -, b1⟩ := h.reader g1 (fun a ha => absurd ha List.not_mem_nil)
  have hfb := h.2.2.2.1
  refine ⟨r1.1.1, r1.1.2.1, eX17_init hst (eX16_init hst ⟨rfl, o1, by rw [g1.2.1]; exact hfb, fun f2 e2 => ⟨rfl, ?_⟩⟩)⟩
  have g2 : gE [] f f2 := g1.own (a := f.1) (by rw [e2]; exact gE.set _ _ _) (Nat.le_refl _)
  have o2 : oc f2 f.1 15 := by rw [e2]; exact set_oc o1
  have z2 : f2.1 = f.1 + 1 ∧ f2.2.1 = f.2.1 + 3 := by rw [e2]; exact z1
  have v2 : vl f2 f.1 166 = .int (nI (tk ch n p).2.2.1) := by rw [e2, hsc.2.1.1.2.2.2 (Or.inl h2)]; exact set_vl o1.1
  obtain ⟨r2, k2, b2⟩ := h.reader g2 (fun a ha => absurd ha List.not_mem_nil)
  have hxf := XF_num (l := l) (E := E) (w := wm) (d := dm) (al := al) (hf := hf) (s0 := s0) (o := o) (vs := vs) (O := O) (c := c) (B := B) (X := X) hst h2 (by omega) (by omega)
  refine ⟨r2.1.1, r2.1.2.1, C_nextS hst hsc k2.1 (fun s' zb hF => hbad s' f2 ⟨1, _, hF, by omega, ⟨by decide, by decide⟩, hxf.bad (XB_bad hst zb (by omega) (by omega) (fun x hx => hm.2.2.2.2.2.2.1 x hx))⟩) (fun s' hcf hs => ⟨rfl, 15, o2, by decide, by decide, by rw [g2.2.1]; exact hfb, fun f3 e3 => ?_⟩)⟩
  have g3 : gE [] f f3 := g2.own (a := f.1) (by rw [e3]; exact gE.set _ _ _) (Nat.le_refl _)
  have o3 : oc f3 f.1 15 := by rw [e3]; exact set_oc o2
  have z3 : f3.1 = f.1 + 1 ∧ f3.2.1 = f.2.1 + 3 := by rw [e3]; exact z2
  have v3 : vl f3 f.1 166 = .int (nI (tk ch n p).2.2.1) ∧ vl f3 f.1 165 = .int (nI (tk ch n p).2.1) := by rw [e3]; exact ⟨(set_vn o2.1 (by decide)).trans v2, set_vl o2.1⟩
  obtain ⟨r3, k3, b3⟩ := h.reader g3 (fun a ha => absurd ha List.not_mem_nil)
  have hp1 := ht.1.2.1
  have hp2 := ht.2.2.2.2 (by omega)
  refine hok f.1 s' f3 ⟨(tk ch n p).2.2.2, vs, oup O (4000 * (1 - hf) + c) (2, 0, 0, nI (tk ch n p).2.2.1, nI (tk ch n p).2.1), c + 1, [], [], ca, cap, (1, 0), ⟨hcf, hs⟩, ⟨g3.mono (fun a ha => absurd ha List.not_mem_nil), by rw [List.append_nil]; exact r3, Or.inl rfl⟩, ⟨rfl, by rw [List.map_nil, List.append_nil]; exact hxf⟩, ⟨fun i hi => oup_ne _ _ (by omega), ⟨by omega, 15, o3.1, by decide⟩, ?_⟩, cLk.nil _ _ _ _, ⟨by omega, by omega, by omega, by show 2 * 0 + p ≤ _; omega, Nat.le_refl _, by omega, Nat.le_refl _⟩⟩
  intro f' P F M nv' q1 q2 q3 q4 q5
  obtain ⟨g', rfl⟩ : ∃ g', gm = g' + 1 := ⟨gm - 1, by omega⟩
  have hlt : f.1 < f3.1 := by omega
  have ep := (q3 (4000 * (1 - hf) + c) (Nat.le_refl _) (by omega)).eq (by rw [oup_at]; exact Nat.ne_of_beq_eq_false rfl) (by rw [oup_at]; exact Nat.ne_of_beq_eq_false rfl)
  rw [oup_at] at ep
  exact ⟨f.1, nI (tk ch n p).2.1, rfl, by omega, by rw [q2.vl (Nat.le_refl _) hlt o3 (by decide)]; exact v3.2, hN_1 _ _, Or.inl ⟨q2.oc (Nat.le_refl _) hlt o3, nI (tk ch n p).2.2.1, nI (tk ch n p).2.1, 0, 0, by rw [q2.vl (Nat.le_refl _) hlt o3 (by decide)]; exact v3.1, ep, rfl⟩⟩
theorem A_name (hst : l.stackTraces = false) (h : pIn E w ch n x0 nw na K0 p o ca cap c vs A B X s f) (hX : X.length ≤ 66) (h2 : ¬ (tk ch n p).1 = 2) (h40 : ¬ ((tk ch n p).1 = 3 ∧ (tk ch n p).2.2.1 = 40)) (h91 : ¬ ((tk ch n p).1 = 3 ∧ (tk ch n p).2.2.1 = 91)) (hnc : ¬ ((tk ch n p).1 = 1 ∧ ((11 ≤ kw (tk ch n p) ∧ kw (tk ch n p) < 41) ∨ (kw (tk ch n p) = 41 ∧ bt ch n (sk ch n (tk ch n p).2.2.2) = 40)))) (hah : ¬ ((tk ch n p).1 = 3 ∧ ((tk ch n p).2.2.1 = 45 ∨ (tk ch n p).2.2.1 = 33) ∧ ¬ topk X = 2)) (hg : 1 ≤ gm)
    (hok : ∀ v s' f', pOk l E w wm dm al ch n hf s0 x0 nw na p o ca cap c vs O A B X s f (fun q _ => q = (1, 0)) gm v s' f' → Q (.inl (some (.ref v))) s' f') (hbad : ∀ s' f', pBad l E wm dm al ch n hf s0 K0 p o c vs O B X s s' f' → Q (.inr 1) s' f') : EvC l E w (d + 10) MX11_atom [.ref x0] s f Q := by
  have hm := h.nums
  have hsc := h.1
  have ht := hsc.tk
  have hr := h.2.2.1
  have hkc := h.2.1
  have hfb := h.2.2.2.1
  have h4 := hsc.2.1.2.2
  have h14 : (tk ch n p).1 ≤ 4 := ht.1.1
  have hwk : wk (tk ch n p) = 2 := if_neg h4
  -- a name's node
  have fin : rmF E f 1 2 ∧ ∀ (a8 : Nat) (f9 : RH), a8 = f.1 → f9 = fnew f 20 → (oc f9 x0 11 ∧ EvC l E w (d + 9) MX11_name [.ref x0] s f9 (fun o s10 f11 => KP o (fun r => ∃ v12 : Int32, r = some (.int v12) ∧ (EvC l E w (d + 9) MX22_init [.ref a8, .int v12] s10 f11 (fun o s13 f14 => KP o (fun r => r = none ∧ (∃ k16 : Nat, oc f14 a8 k16 ∧ 165 ∈ CF k16 ∧ ¬ k16 = 30 ∧ f14.2.2.2 ≤ a8 ∧ ∀ f15 : RH, f15 = fset f14 a8 165 (.int (nI (tk ch n p).2.1)) → Q (.inl (some (.ref a8))) s13 f15)) (fun k => Q (.inr k) s13 f14)))) (fun k => Q (.inr k) s10 f11))) := by
    refine ⟨by unfold rmF; omega, fun a f1 ea e1 => ?_⟩
    subst ea
    have g1 : gE [] f f1 := by rw [e1]; exact gE.new _ _
    have o1 : oc f1 f.1 20 := by rw [e1]; exact oc_new _ _
    have z1 : f1.1 = f.1 + 1 ∧ f1.2.1 = f.2.1 + 3 := by rw [e1]; exact ⟨rfl, rfl⟩
    obtain ⟨r1, k1, b1⟩ := h.reader g1 (fun a ha => absurd ha List.not_mem_nil)
    refine ⟨r1.1.1, R_name hst hsc k1 r1 b1 (fun z s' hF => ?_) (fun z1 z2 z3 z4 s' hF => ?_) (fun z1 z2 z3 zb s' f' hF hb => ?_) (fun z1 z2 z3 s' f2 hcf hs r2 g2 e2 e2b => ⟨_, rfl, ?_⟩)⟩
    · refine hbad s' f1 ⟨2, _, hF, by omega, ⟨by decide, by decide⟩, ?_⟩
      rw [← hwk]
      refine XB_start hst h2 hah h40 h91 (fun z1 => ?_) (by omega) (by omega)
      have := kw_le (tk ch n p)
      by_cases c1 : kw (tk ch n p) = 41
      · exact absurd ⟨z1, c1⟩ z
      · have : ¬ 11 ≤ kw (tk ch n p) := fun y => hnc ⟨z1, Or.inl ⟨y, by omega⟩⟩
        omega
    · have hb : ¬ bt ch n (sk ch n (tk ch n p).2.2.2) = 40 := fun y => hnc ⟨z1, Or.inr ⟨z2, y⟩⟩
      exact hbad s' f1 ⟨3, _, hF, by omega, ⟨by decide, by decide⟩, XB_name hst z1 z2 hb z3 z4 (by omega) (by omega)⟩
    · have hb2 : ¬ bt ch n (sk ch n (tk ch n p).2.2.2) = 40 := fun y => hnc ⟨z1, Or.inr ⟨z2, y⟩⟩
      exact hbad s' f' ⟨1, _, hF, by omega, ⟨by decide, by decide⟩, (XF_name hst z1 z2 hb2 z3 hm.2.2.2.2.2.2.2.2.2.2 (by omega) (by omega)).bad (XB_bad hst zb (by omega) (by omega) (fun x hx => hm.2.2.2.2.2.2.1 x hx))⟩
    · have hb2 : ¬ bt ch n (sk ch n (tk ch n p).2.2.2) = 40 := fun y => hnc ⟨z1, Or.inr ⟨z2, y⟩⟩
      have hne : f.1 ∉ [nw, na] := by
        have := hr.2.1.2.2.1
        have := hr.2.2.1.2.2.1
        simp only [List.mem_cons, List.not_mem_nil, or_false]; omega
      have o2 : oc f2 f.1 20 := g2.oc o1 (by omega)
      have g02 : gE [x0, nw, na, ca] f f2 := (g1.mono (fun a ha => absurd ha List.not_mem_nil)).trans g2 (fun a ha => Or.inl (by simp only [List.mem_cons, List.not_mem_nil, or_false] at ha ⊢; omega))
      have cb : f2.2.2.2 = f.2.2.2 := g02.2.1
      refine eX22_init hst (eX16_init hst ⟨rfl, o2, by rw [cb]; exact hfb, fun f3 e3 => ⟨rfl, ?_⟩⟩)
      have o3 : oc f3 f.1 20 := by rw [e3]; exact set_oc o2
      refine ⟨20, o3, by decide, by decide, by rw [e3]; show f2.2.2.2 ≤ f.1; rw [cb]; exact hfb, fun f4 e4 => ?_⟩
      have s3 : gE [f.1] f2 f3 := by rw [e3]; exact gE.set _ _ _
      have s4 : gE [f.1] f3 f4 := by rw [e4]; exact gE.set _ _ _
      have g04 : gE [x0, nw, na, ca] f f4 := (g02.own s3 (Nat.le_refl _)).own s4 (Nat.le_refl _)
      have o4 : oc f4 f.1 20 := by rw [e4]; exact set_oc o3
      have z4 : f4.1 = f.1 + 1 ∧ f4.2.1 = f.2.1 + 3 := by rw [e4, e3]; show f2.1 = _ ∧ f2.2.1 = _; omega
      have v4 : vl f4 f.1 180 = .int (nI (nmN vs (tk ch n p).2.2.1)) ∧ vl f4 f.1 165 = .int (nI (tk ch n p).2.1) := by
        rw [e4]; refine ⟨(set_vn o3.1 (by decide)).trans ?_, set_vl o3.1⟩
        rw [e3]; exact set_vl o2.1
      have r4 : rdR w f4 x0 nw na ca cap (nmV vs (tk ch n p).2.2.1) A := by
        have lx := hr.1.2.2.1
        have ln := hr.2.1.2.2.1
        have la := hr.2.2.1.2.2.1
        have lc := hr.2.2.2.2.2.1
        exact (r2.keep s3 (by simp only [List.mem_singleton]; omega)).keep s4 (by simp only [List.mem_singleton]; omega)
      have hp1 := ht.1.2.1
      have hp2 := ht.2.2.2.2 (by omega)
      have hxf := XF_name (l := l) (E := E) (w := wm) (d := dm) (al := al) (hf' := hf) (s0 := s0) (o := o) (O := O) (c := c) (B := B) (X := X) hst z1 z2 hb2 z3 hm.2.2.2.2.2.2.2.2.2.2 (by omega) (by omega)
      have hnl : vs.length ≤ (nmV vs (tk ch n p).2.2.1).length ∧ nmN vs (tk ch n p).2.2.1 < 8 + (nmV vs (tk ch n p).2.2.1).length := by
        unfold nmV nmN
        split
        · omega
        · have := nup_len vs (tk ch n p).2.2.1; omega
      refine hok f.1 s' f4 ⟨(tk ch n p).2.2.2, nmV vs (tk ch n p).2.2.1, oup O (4000 * (1 - hf) + c) (3, nmN vs (tk ch n p).2.2.1, 0, 0, nI (tk ch n p).2.1), c + 1, [], [], ca, cap, (1, 0), ⟨hcf, hs⟩, ⟨g04, by rw [List.append_nil]; exact r4, Or.inl rfl⟩, ⟨rfl, by rw [List.map_nil, List.append_nil]; exact hxf⟩, ⟨fun i hi => oup_ne _ _ (by omega), ⟨by omega, 20, o4.1, by decide⟩, ?_⟩, cLk.nil _ _ _ _, ⟨by omega, by omega, by omega, by show 2 * 0 + p ≤ _; omega, Nat.le_refl _, by omega, hnl.1⟩⟩
      intro f' P F M nv' q1 q2 q3 q4 q5
      obtain ⟨g', rfl⟩ : ∃ g', gm = g' + 1 := ⟨gm - 1, by omega⟩
      have hlt : f.1 < f4.1 := by omega
      have ep := (q3 (4000 * (1 - hf) + c) (Nat.le_refl _) (by omega)).eq (by rw [oup_at]; exact Nat.ne_of_beq_eq_false rfl) (by rw [oup_at]; exact Nat.ne_of_beq_eq_false rfl)
      rw [oup_at] at ep
      exact ⟨f.1, nI (tk ch n p).2.1, rfl, by omega, by rw [q2.vl (Nat.le_refl _) hlt o4 (by decide)]; exact v4.2, hN_1 _ _, Or.inr (Or.inl ⟨q2.oc (Nat.le_refl _) hlt o4, nmN vs (tk ch n p).2.2.1, 0, 0, by rw [q2.vl (Nat.le_refl _) hlt o4 (by decide)]; exact v4.1, by omega, ep, rfl⟩)⟩
  refine eR11_atom hst ⟨hr.1.1, hr.1.2.1, fun y ey => ⟨hr.1.1, hr.1.2.1, bn_eq (tk ch n p).1 2 (fun _ => ?_) (fun z => absurd z h2) hsc.2.1.1.1 rfl⟩⟩
  rw [hsc.2.1.1.2.1] at ey
  subst ey
  refine ⟨hr.1.1, hr.1.2.1, C_is hst (c := 40) hsc.2.1.1 ht.1.1 ht.2.2.2.1 (by decide) ⟨_, rfl, pk_b (fun _ => ⟨hr.1.1, hr.1.2.1, C_is hst (c := 91) hsc.2.1.1 ht.1.1 ht.2.2.2.1 (by decide) ⟨_, rfl, pk_b (fun _ => ⟨hr.1.1, hr.1.2.1, bn_eq (tk ch n p).1 1 (fun _ => fin) (fun z1 => ⟨hr.1.1, R_builtIn hst hsc hkc hr.1.1 hr.1.2.1 ⟨_, rfl, kbI_ge (fun y1 y2 => absurd ⟨z1, Or.inl ⟨y1, y2⟩⟩ hnc) (fun _ => ⟨hr.1.1, R_isReserved hst hsc hkc hr.1.1 hr.1.2.1 ⟨_, rfl, bn_b (fun y => ⟨hr.1.1, hr.1.2.1, C_isCalled hst hsc.1 hsc.2.1.1.2.2.1 ht.1.2.2.2.2 ⟨_, rfl, pk_b (fun _ => fin) (fun q => absurd ⟨z1, Or.inr ⟨by have := kw_le (tk ch n p); omega, q⟩⟩ hnc)⟩⟩) (fun _ => fin)⟩⟩)⟩⟩) hsc.2.1.1.1 rfl⟩) (fun z => absurd z h91)⟩⟩) (fun z => absurd z h40)⟩⟩
end AT
