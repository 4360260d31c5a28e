/-! THE READER: calls that are remembered -/
section RD3
variable {l : Launch} {E : EN} {w : CO} {d : Nat} {s : CS} {f f' : RH} {Q : KO → CS → RH → Prop} {ch : Nat → Nat} {n p o x0 nw na ca cap x1 : Nat} {vs : List Nat} {A : List (Nat × Nat × Nat)}
/-- one more call, where there is room -/
theorem rdR.rem {v pl : Nat} (h : rdR w f x0 nw na ca cap vs A) (hx : oc f x1 19) (hx2 : x1 < f.1) (hl : A.length < cap) : ∀ f1 f2, f1 = fset f ca A.length (.ref x1) → f2 = fset f1 x0 152 (.int (nI (A.length + 1))) → rdR w f2 x0 nw na ca cap vs (A ++ [(x1, v, pl)]) ∧ gE [x0, ca] f f2 ∧ f2.1 = f.1 ∧ f2.2.1 = f.2.1 ∧ rdR w f1 x0 nw na ca cap vs A := by
  intro f1 f2 e1 e2
  obtain ⟨n1, n2, n3, n4, n5, n6⟩ := h.ne
  obtain ⟨⟨h1, h2, h3, h4⟩, ⟨i1, i2, i3, i4, i5, i6⟩, ⟨j1, j2, j3, j4, j5, j6, j7⟩, ⟨k1, k2, k3, k4, k5, k6, k7, k8⟩⟩ := id h
  have ga : gE [x0, ca] f f1 := by rw [e1]; exact (gE.setA ca _ _ k2).mono (fun a ha => Or.inl (by rw [List.mem_singleton.mp ha]; simp))
  have gb : gE [x0, ca] f1 f2 := by rw [e2]; exact (gE.set x0 _ _).mono (fun a ha => Or.inl (by rw [List.mem_singleton.mp ha]; simp))
  have gg := ga.trans gb (fun _ h => Or.inl h)
  have sz : f2.1 = f.1 ∧ f2.2.1 = f.2.1 ∧ f1.1 = f.1 := by rw [e2, e1]; exact ⟨rfl, rfl, rfl⟩
  have h1' : oc f1 x0 11 := ga.oc h1 h3
  have c01 : f1.2.2.1 x0 = f.2.2.1 x0 := by rw [e1]; exact set_cell n3
  have cca : f2.2.2.1 ca = f1.2.2.1 ca := by rw [e2]; exact set_cell (fun e => n3 e.symm)
  have nD : nw ∉ [x0, ca] ∧ na ∉ [x0, ca] := by simp only [List.mem_cons, List.not_mem_nil, or_false]; omega
  have c1 := gg.ce i3 nD.1
  have c2 := gg.ce j3 nD.2
  have c1' := ga.ce i3 nD.1
  have c2' := ga.ce j3 nD.2
  have hlen : (A ++ [(x1, v, pl)]).length = A.length + 1 := by rw [List.length_append]; rfl
  have v0 : ∀ j, ¬ j = 152 → vl f2 x0 j = vl f x0 j := fun j hj => by rw [e2, set_vn h1'.1 hj, (cellE c01).2.2]
  have vca : ∀ k, ¬ k = A.length → vl f1 ca k = vl f ca k := fun k hk => by rw [e1]; exact set_vn k2 hk
  refine ⟨⟨⟨gg.oc h1 h3, (v0 147 (by decide)).trans h2, by omega, by rw [gg.2.1]; exact h4⟩, ⟨(v0 150 (by decide)).trans i1, ocE c1 i2, by omega, by rw [gg.2.1]; exact i4, by rw [(cellE c1).2.2]; exact i5, by rw [(cellE c1).2.2]; exact i6⟩, ⟨by rw [(cellE c2).1]; exact j1, by rw [(cellE c2).2.1]; exact j2, by omega, by rw [gg.2.1]; exact j4, j5, j6, fun k hk => by rw [(cellE c2).2.2]; exact j7 k hk⟩, ⟨(v0 151 (by decide)).trans k1, by rw [(gg.2.2.2 ca k3).1]; exact k2, by omega, by rw [gg.2.1]; exact k4, by rw [(gg.2.2.2 ca k3).2.1]; exact k5, ?_, ?_, fun k hk => ?_⟩⟩, gg, sz.1, sz.2.1, ⟨⟨h1', by rw [(cellE c01).2.2]; exact h2, by omega, by rw [ga.2.1]; exact h4⟩, ⟨by rw [(cellE c01).2.2]; exact i1, ocE c1' i2, by omega, by rw [ga.2.1]; exact i4, by rw [(cellE c1').2.2]; exact i5, by rw [(cellE c1').2.2]; exact i6⟩, ⟨by rw [(cellE c2').1]; exact j1, by rw [(cellE c2').2.1]; exact j2, by omega, by rw [ga.2.1]; exact j4, j5, j6, fun k hk => by rw [(cellE c2').2.2]; exact j7 k hk⟩, ⟨by rw [(cellE c01).2.2]; exact k1, by rw [(ga.2.2.2 ca k3).1]; exact k2, by omega, by rw [ga.2.1]; exact k4, by rw [(ga.2.2.2 ca k3).2.1]; exact k5, by rw [(cellE c01).2.2]; exact k6, k7, fun k hk => ?_⟩⟩⟩
  · rw [hlen, e2]; exact set_vl h1'.1
  · rw [hlen]; omega
  · rw [hlen] at hk
    rw [(cellE cca).2.2]
    by_cases ek : k = A.length
    · subst ek
      rw [getD_last]
      exact ⟨by rw [e1]; exact set_vl k2, gg.oc hx hx2, by show x1 < f2.1; omega⟩
    · rw [getD_app1 _ _ (by omega)]
      obtain ⟨q1, q2, q3⟩ := k8 k (by omega)
      exact ⟨(vca k ek).trans q1, gg.oc q2 q3, by omega⟩
  · obtain ⟨q1, q2, q3⟩ := k8 k hk
    exact ⟨(vca k (by omega)).trans q1, ga.oc q2 q3, by omega⟩
theorem R_remember (hst : l.stackTraces = false) (h : cSc ch n p o s) (hr : rdR w f x0 nw na ca cap vs A) (h1 : (tk ch n p).1 = 1) (hx : oc f x1 19) (hx2 : x1 < f.1) (hx3 : f.2.2.2 ≤ x1) (hA : A.length ≤ 700) (hroom : f.2.1 + 4 * A.length + 2 ≤ BM)
    (hQ : ∀ f' ca' cap', rdR w f' x0 nw na ca' cap' vs (A ++ [(x1, (tk ch n p).2.2.1, (tk ch n p).2.1)]) → gE [x0, x1, ca] f f' → (ca' = ca ∨ f.1 ≤ ca') → cap ≤ cap' → f'.2.1 ≤ f.2.1 + 2 * (cap' - cap) → vl f' x1 175 = .long (lN (cv (tk ch n p).2.2.1)) → vl f' x1 176 = .int (nI (tk ch n p).2.1) → (∀ j, ¬ j = 175 → ¬ j = 176 → vl f' x1 j = vl f x1 j) → Q (.inl none) s f') : EvC l E w (d + 1) MX11_remember [.ref x0, .ref x1] s f Q := by
  obtain ⟨r1, r2, r3, r4⟩ := id hr
  have hne : ¬ x1 = x0 ∧ ¬ x1 = nw ∧ ¬ x1 = na ∧ ¬ x1 = ca := by
    have t := hx.1
    refine ⟨fun e => ?_, fun e => ?_, fun e => ?_, fun e => ?_⟩
    · rw [e, r1.1.1] at t; cases t
    · rw [e, r2.2.1.1] at t; cases t
    · rw [e, r3.1] at t; cases t
    · rw [e, r4.2.1] at t; cases t
  refine eR11_remember hst ⟨r1.1, r1.2.1, C_name hst h.1 h.2.1.1 h.2.1.2.1 h1 ⟨_, rfl, hx, hx3, fun f1 e1 => ?_⟩⟩
  have g1 : gE [x1] f f1 := by rw [e1]; exact gE.set _ _ _
  have d1 : rdR w f1 x0 nw na ca cap vs A := hr.keep g1 (by simp only [List.mem_singleton]; exact ⟨fun e => hne.1 e.symm, fun e => hne.2.1 e.symm, fun e => hne.2.2.1 e.symm, fun e => hne.2.2.2 e.symm⟩)
  have o1 : oc f1 x1 19 := g1.oc hx hx2
  have b1 : f1.2.2.2 = f.2.2.2 := g1.2.1
  refine ⟨d1.1.1, d1.1.2.1, o1, by rw [b1]; exact hx3, fun f2 e2 => ?_⟩
  rw [h.2.1.1.2.1] at e2
  have g2 : gE [x1] f1 f2 := by rw [e2]; exact gE.set _ _ _
  have d2 : rdR w f2 x0 nw na ca cap vs A := d1.keep g2 (by simp only [List.mem_singleton]; exact ⟨fun e => hne.1 e.symm, fun e => hne.2.1 e.symm, fun e => hne.2.2.1 e.symm, fun e => hne.2.2.2 e.symm⟩)
  have g12 : gE [x1] f f2 := g1.trans g2 (fun _ h => Or.inl h)
  have o2 : oc f2 x1 19 := g12.oc hx hx2
  have sz2 : f2.1 = f.1 ∧ f2.2.1 = f.2.1 := by rw [e2, e1]; exact ⟨rfl, rfl⟩
  have u1 : vl f2 x1 175 = .long (lN (cv (tk ch n p).2.2.1)) := by rw [e2, set_vn o1.1 (by decide), e1]; exact set_vl hx.1
  have u2 : vl f2 x1 176 = .int (nI (tk ch n p).2.1) := by rw [e2]; exact set_vl o1.1
  have u3 : ∀ j, ¬ j = 175 → ¬ j = 176 → vl f2 x1 j = vl f x1 j := fun j hj1 hj2 => by rw [e2, set_vn o1.1 hj2, e1, set_vn hx.1 hj1]
  -- the end, in a heap with room
  have fin : ∀ (g : RH) (ca' cap' : Nat), rdR w g x0 nw na ca' cap' vs A → A.length < cap' → gE [x0, x1, ca] f g → (ca' = ca ∨ f.1 ≤ ca') → cap ≤ cap' → g.2.1 ≤ f.2.1 + 2 * (cap' - cap) → (∀ j, vl g x1 j = vl f2 x1 j) → ∀ (g1 g2 : RH), g1 = fset g ca' A.length (.ref x1) → g2 = fset g1 x0 152 (.int (nI (A.length + 1))) → Q (.inl none) s g2 := by
    intro g ca' cap' hg hl gg hca hcap hb hv g1 g2 eg1 eg2
    obtain ⟨q1, q2, q3, q4, -⟩ := hg.rem (v := (tk ch n p).2.2.1) (pl := (tk ch n p).2.1) (gg.oc hx hx2) (Nat.lt_of_lt_of_le hx2 gg.1) hl g1 g2 eg1 eg2
    have hx4 : ¬ x1 = ca' := fun e => by
      have t := (gg.oc hx hx2).1
      rw [e, hg.2.2.2.2.1] at t; cases t
    have cx : g2.2.2.1 x1 = g.2.2.1 x1 := q2.ce (Nat.lt_of_lt_of_le hx2 gg.1) (by simp only [List.mem_cons, List.not_mem_nil, or_false]; omega)
    refine hQ g2 ca' cap' q1 (gg.trans q2 (fun a ha => ?_)) hca hcap (by omega) (by rw [(cellE cx).2.2, hv]; exact u1) (by rw [(cellE cx).2.2, hv]; exact u2) (fun j j1 j2 => by rw [(cellE cx).2.2, hv]; exact u3 j j1 j2)
    simp only [List.mem_cons, List.not_mem_nil, or_false] at ha ⊢
    omega
  have hA4 := r4.2.2.2.2.2.2.1
  refine ⟨d2.1.1, _, d2.2.2.2.2.2.2.2.2.1, d2.1.1, ca, d2.2.2.2.1, 8, d2.2.2.2.2.1, ?_⟩
  rw [d2.2.2.2.2.2.2.2.1]
  refine bn_eq A.length cap (fun z => ⟨d2.1.1, ca, d2.2.2.2.1, d2.1.1, _, d2.2.2.2.2.2.2.2.2.1, 19, d2.2.2.2.2.1, o2.1, by decide, by rw [d2.2.2.2.2.2.2.2.1]; exact inB_n (by omega), d2.2.2.2.2.2.2.1, fun f3 e3 => ?_⟩) (fun z => ⟨d2.1.1, _, d2.2.2.2.2.2.2.2.2.1, ?_⟩) rfl rfl
  · rw [nI_clamp (by omega)] at e3
    have d3 := (d2.rem (v := 0) (pl := 0) o2 (by omega) (by omega) f3 _ e3 rfl).2.2.2.2
    refine ⟨d3.1.1, _, d3.2.2.2.2.2.2.2.2.1, d3.1.1, d3.1.2.2.2, fun f4 e4 => ?_⟩
    rw [← nI_succ] at e4
    exact fin f2 ca cap d2 (by omega) (g12.mono (fun a ha => Or.inl (by rw [List.mem_singleton.mp ha]; simp))) (Or.inl rfl) (Nat.le_refl _) (by omega) (fun _ => rfl) f3 f4 e3 e4
  · have hm4 : (4 * nI A.length : Int32) = nI (4 * A.length) := pk_mul 4 A.length
    have cl4 : (4 * nI A.length : Int32).toNatClampNeg = 4 * A.length := by rw [hm4, nI_clamp (by omega)]
    rw [cl4]
    refine ⟨by rw [hm4]; exact nI_pos (by omega), by omega, by unfold rmF; omega, fun b f3 eb e3 => ?_⟩
    have g3 : gE [] f2 f3 := by rw [e3]; exact gE.newA _ _ _
    have d3 : rdR w f3 x0 nw na ca cap vs A := d2.keep g3 ⟨List.not_mem_nil, List.not_mem_nil, List.not_mem_nil, List.not_mem_nil⟩
    have sz3 : f3.1 = f2.1 + 1 ∧ f3.2.1 = f2.2.1 + (4 * A.length + 1) := by rw [e3]; exact ⟨rfl, rfl⟩
    have y3 : tg f3 b = some (.inr 8) ∧ ln f3 b = 4 * A.length := by
      rw [e3, eb]
      exact ⟨tg_push _ _ _, by unfold ln; rw [show (fnewA f2 8 (4 * A.length)).2.2.1 f2.1 = _ from cell_push _ _ _]⟩
    have main : ∀ m i (g : RH), A.length - i ≤ m → i ≤ A.length → gE [] f2 g → g.1 = f3.1 → g.2.1 = f3.2.1 → tg g b = some (.inr 8) ∧ ln g b = 4 * A.length → (∀ k, k < i → vl g b k = .ref (A.getD k (0, 0, 0)).1) → ExC l E w (d + 1) MX11_remember 46 [some (.ref x0), some (.ref x1), some (.ref b), some (.int (nI i))] [] s g Q := by
      intro m
      induction m with
      | zero =>
        intro i g hm hi hg e1 e2 hb hk
        have ei : i = A.length := by omega
        subst ei
        have dg := d2.keep hg ⟨List.not_mem_nil, List.not_mem_nil, List.not_mem_nil, List.not_mem_nil⟩
        refine vR11_remember_46 ⟨dg.1.1, _, dg.2.2.2.2.2.2.2.2.1, pk_le A.length A.length (fun _ => ⟨dg.1.1, dg.1.2.2.2, fun g1 eg1 => ?_⟩) (fun y => absurd y (by omega)) rfl rfl⟩
        have gg1 : gE [x0] g g1 := by rw [eg1]; exact gE.set _ _ _
        have hx0 := dg.1.2.2.1
        have bx0 : ¬ b = x0 := by have := d2.1.2.2.1; omega
        have sg1 : g1.1 = g.1 ∧ g1.2.1 = g.2.1 := by rw [eg1]; exact ⟨rfl, rfl⟩
        have dg1 : rdR w g1 x0 nw na b (4 * A.length) vs A := by
          obtain ⟨n1, n2, n3, n4, n5, n6⟩ := dg.ne
          obtain ⟨⟨h1, h2, h3, h4⟩, ⟨i1, i2, i3, i4, i5, i6⟩, ⟨j1, j2, j3, j4, j5, j6, j7⟩, ⟨k1, k2, k3, k4, k5, k6, k7, k8⟩⟩ := dg
          have v0 : ∀ j, ¬ j = 151 → vl g1 x0 j = vl g x0 j := fun j hj => by rw [eg1]; exact set_vn h1.1 hj
          have cnw : g1.2.2.1 nw = g.2.2.1 nw := by rw [eg1]; exact set_cell (fun e => n1 e.symm)
          have cna : g1.2.2.1 na = g.2.2.1 na := by rw [eg1]; exact set_cell (fun e => n2 e.symm)
          have cb : g1.2.2.1 b = g.2.2.1 b := by rw [eg1]; exact set_cell bx0
          refine ⟨⟨gg1.oc h1 h3, (v0 147 (by decide)).trans h2, by omega, by rw [gg1.2.1]; exact h4⟩, ⟨(v0 150 (by decide)).trans i1, ocE cnw i2, by omega, by rw [gg1.2.1]; exact i4, by rw [(cellE cnw).2.2]; exact i5, by rw [(cellE cnw).2.2]; exact i6⟩, ⟨by rw [(cellE cna).1]; exact j1, by rw [(cellE cna).2.1]; exact j2, by omega, by rw [gg1.2.1]; exact j4, j5, j6, fun k hk => by rw [(cellE cna).2.2]; exact j7 k hk⟩, ⟨by rw [eg1]; exact set_vl h1.1, by rw [(cellE cb).1]; exact hb.1, by omega, by rw [gg1.2.1, hg.2.1, g12.2.1]; omega, by rw [(cellE cb).2.1]; exact hb.2, (v0 152 (by decide)).trans k6, by omega, fun k hk1 => ?_⟩⟩
          obtain ⟨q1, q2, q3⟩ := k8 k hk1
          exact ⟨by rw [(cellE cb).2.2]; exact hk k hk1, gg1.oc q2 q3, by omega⟩
        have o4 : oc g1 x1 19 := gg1.oc (hg.oc o2 (by omega)) (by omega)
        refine ⟨dg1.1.1, b, dg1.2.2.2.1, dg1.1.1, _, dg1.2.2.2.2.2.2.2.2.1, 19, dg1.2.2.2.2.1, o4.1, by decide, by rw [dg1.2.2.2.2.2.2.2.1]; exact inB_n (by omega), dg1.2.2.2.2.2.2.1, fun g2 eg2 => ?_⟩
        rw [nI_clamp (by omega)] at eg2
        have d5 := (dg1.rem (v := 0) (pl := 0) o4 (by omega) (by omega) g2 _ eg2 rfl).2.2.2.2
        refine ⟨d5.1.1, _, d5.2.2.2.2.2.2.2.2.1, d5.1.1, d5.1.2.2.2, fun g3 eg3 => ?_⟩
        rw [← nI_succ] at eg3
        have cx : g1.2.2.1 x1 = f2.2.2.1 x1 := by rw [eg1, set_cell hne.1]; exact hg.ce (by omega) List.not_mem_nil
        refine fin g1 b (4 * A.length) dg1 (by omega) ?_ (Or.inr (by omega)) (by omega) (by omega) (fun j => by rw [(cellE cx).2.2]) g2 g3 eg2 eg3
        refine ((g12.mono (fun a ha => Or.inl (by rw [List.mem_singleton.mp ha]; simp))).trans hg (fun a ha => absurd ha List.not_mem_nil)).trans gg1 (fun a ha => Or.inl (by rw [List.mem_singleton.mp ha]; simp))
      | succ m ih =>
        intro i g hm hi hg e1 e2 hb hk
        by_cases ei : i = A.length
        · exact ih i g (by omega) hi hg e1 e2 hb hk
        have dg := d2.keep hg ⟨List.not_mem_nil, List.not_mem_nil, List.not_mem_nil, List.not_mem_nil⟩
        obtain ⟨q1, q2, q3⟩ := dg.2.2.2.2.2.2.2.2.2.2 i (by omega)
        refine vR11_remember_46 ⟨dg.1.1, _, dg.2.2.2.2.2.2.2.2.1, pk_le A.length i (fun y => absurd y (by omega)) (fun _ => ⟨dg.1.1, ca, dg.2.2.2.1, 8, by decide, dg.2.2.2.2.1, by rw [dg.2.2.2.2.2.2.2.1]; exact inB_n (by omega), _, by rw [nI_clamp (by omega)]; exact q1, 19, hb.1, q2.1, by decide, by rw [hb.2]; exact inB_n (by omega), by rw [hg.2.1, g12.2.1]; omega, fun g1 eg1 => ?_⟩) rfl rfl⟩
        rw [nI_clamp (by omega)] at eg1
        rw [← nI_succ]
        have gg1 : gE [b] g g1 := by rw [eg1]; exact gE.setA _ _ _ hb.1
        refine ih (i + 1) g1 (by omega) (by omega) (hg.trans gg1 (fun a ha => Or.inr (by rw [List.mem_singleton.mp ha]; omega))) (by rw [eg1]; exact e1) (by rw [eg1]; exact e2) (by rw [eg1]; exact ⟨(fset_tg hb.1).1, (fset_tg hb.1).2.1.trans hb.2⟩) (fun k hk1 => ?_)
        rw [eg1]
        by_cases ek : k = i
        · subst ek; exact set_vl hb.1
        · exact (set_vn hb.1 ek).trans (hk k (by omega))
    exact main _ 0 f3 (Nat.le_refl _) (Nat.zero_le _) g3 rfl rfl y3 (fun k hk => absurd hk (Nat.not_lt_zero _))
end RD3
