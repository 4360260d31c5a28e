/-! BLOCKS IN THE MAKING -/
theorem RepX.mono {f0 : RH} {P : Pg} {F : Nat → Nat} {M nv : Nat} : ∀ {g g' : Nat} {t : Bool} {v : Value} {a b u u' h h' : Nat}, RepX f0 P F M nv g t v a b u h → g ≤ g' → u ≤ u' → h ≤ h' → RepX f0 P F M nv g' t v a b u' h' := by
  intro g
  induction g with
  | zero => intro g' t v a b u u' h h' q; exact absurd q (by cases t <;> exact id)
  | succ g ih =>
    intro g' t v a b u u' h h' q hg hu hh
    obtain ⟨g'', rfl⟩ : ∃ g'', g' = g'' + 1 := ⟨g' - 1, by omega⟩
    have hg' : g ≤ g'' := by omega
    cases t with
    | false =>
      obtain ⟨p, m, r, V, c, q1, q2, q3, q4, q5, q6, q7, q8, q9, q10, q11, q12, qk⟩ := q
      refine ⟨p, m, r, V, c, q1, q2, q3, q4, q5, q6, q7, q8, q9, q10, q11, q12, fun k hk => ?_⟩
      obtain ⟨x1, x2, x3, x4, x5, y1, y2, y3, y4, y5⟩ := qk k hk
      exact ⟨x1, x2, x3, x4, x5, y1, y2, y3, y4, ih y5 hg' hu hh⟩
    | true =>
      obtain ⟨p, pl, q1, q2, q3, q4, q⟩ := q
      refine ⟨p, pl, q1, q2, q3, by omega, ?_⟩
      rcases q with ⟨o1, t, i, x, y, z, r1, r2, r3⟩ | ⟨o1, t, e, x, z, r1, r2, r3⟩ | ⟨o1, t, j, x, y, x1, x2, z, z1, z2, z3, r1, r2, r3, r4, r5⟩ | ⟨o1, t, j, n, x, y, x2, uu, hx, z, z1, z2, z3, r1, r2, r3, r4, r5, r6, r7, r8, r9⟩ | ⟨o1, j, e, n, x, uu, z, z1, z2, on, r1, r2, r3, r4, r5, r6, r7, r8, r9⟩ | ⟨o1, n, r1, r2, r3⟩
      · exact Or.inl ⟨o1, t, i, x, y, z, r1, r2.mono hg' hh, r3⟩
      · refine Or.inr (Or.inl ⟨o1, t, e, x, z, r1.mono hg' hh, r2, ?_⟩)
        rcases r3 with ⟨s1, s2, s3⟩ | ⟨j, y1, y2, y3, y4, s1, s2, s3, s4, s5⟩
        · exact Or.inl ⟨s1, ih s2 hg' hu hh, s3⟩
        · exact Or.inr ⟨j, y1, y2, y3, y4, s1, ih s2 hg' hu hh, s3, s4, ih s5 hg' hu hh⟩
      · exact Or.inr (Or.inr (Or.inl ⟨o1, t, j, x, y, x1, x2, z, z1, z2, z3, r1, r2.mono hg' hh, r3, ih r4 hg' hu hh, r5⟩))
      · exact Or.inr (Or.inr (Or.inr (Or.inl ⟨o1, t, j, n, x, y, x2, uu, hx, z, z1, z2, z3, r1, r2, r3.mono hg' hh, r4, r5, by omega, by omega, ih r8 hg' (Nat.le_refl _) (Nat.le_refl _), r9⟩)))
      · exact Or.inr (Or.inr (Or.inr (Or.inr (Or.inl ⟨o1, j, e, n, x, uu, z, z1, z2, on, r1, r2, r3, r4, by omega, ih r6 hg' (Nat.le_refl _) hh, r7, r8, ih r9 hg' hu hh⟩))))
      · refine Or.inr (Or.inr (Or.inr (Or.inr (Or.inr ⟨o1, n, r1, r2, ?_⟩))))
        rcases r3 with ⟨s1, s2, t, x, z, z1, s3, s4⟩ | ⟨s1, t1, t, h1, np, fp, s2, s3, s4, s5, s6, s7⟩ | ⟨t1, t2, t, h1, h2, sp, qq, np, fp, s1, s2, s3, s4, s5, s6, s7, s8, s9, s10, s11⟩
        · exact Or.inl ⟨s1, s2, t, x, z, z1, s3.mono hg' hh, s4⟩
        · exact Or.inr (Or.inl ⟨s1, t1, t, h1, np, fp, s2, s3, s4.mono hg' hh, by omega, s6.mono hg' (Nat.le_refl _), s7⟩)
        · exact Or.inr (Or.inr ⟨t1, t2, t, h1, h2, sp, qq, np, fp, s1, s2, s3, s4, s5, s6.mono hg' hh, by omega, s8.mono hg' (Nat.le_refl _), by omega, s10.mono hg' (Nat.le_refl _), s11⟩)
def BlB (f : RH) (lo q a1 cap m : Nat) (V : Nat → Nat) : Prop :=
  (oc f q 13 ∧ q < f.1 ∧ f.2.2.2 ≤ q ∧ lo ≤ q ∧ vl f q 160 = .int (nI m) ∧ m ≤ cap ∧ 2 ≤ cap ∧ cap ≤ 4 * m + 2) ∧
  (vl f q 159 = .ref a1 ∧ a1 < f.1 ∧ f.2.2.2 ≤ a1 ∧ lo ≤ a1 ∧ tg f a1 = some (.inr 6) ∧ ln f a1 = cap) ∧ ∀ k, k < m → vl f a1 k = .ref (V k) ∧ dd f (V k)
theorem dd.keep {f f' : RH} {x : Nat} {D : List Nat} (h : dd f x) (hE : gE D f f') : dd f' x := by
  obtain ⟨h1, k, h2, h3⟩ := h
  exact ⟨Nat.lt_of_lt_of_le h1 hE.1, k, by rw [(hE.2.2.2 x h1).1]; exact h2, h3⟩
theorem BlB.ne {f : RH} {lo q a1 cap m : Nat} {V : Nat → Nat} (h : BlB f lo q a1 cap m V) : ¬ q = a1 := by
  intro e
  have g1 := h.1.1.1
  rw [e, h.2.1.2.2.2.2.1] at g1; cases g1
theorem BlB.keep {f f' : RH} {lo q a1 cap m : Nat} {V : Nat → Nat} {D : List Nat} (h : BlB f lo q a1 cap m V) (hE : gE D f f') (hD : ∀ a ∈ D, a < f.1 → ¬ a = q ∧ ¬ a = a1) : BlB f' lo q a1 cap m V := by
  obtain ⟨⟨h1, h2, h3, h4, h5, h6⟩, ⟨i1, i2, i3, i4, i5, i6⟩, hk⟩ := h
  have c0 := hE.ce h2 (fun z => (hD q z h2).1 rfl)
  have c1 := hE.ce i2 (fun z => (hD a1 z i2).2 rfl)
  have l := hE.1
  have cb := hE.2.1
  refine ⟨⟨ocE c0 h1, by omega, by omega, h4, by rw [(cellE c0).2.2]; exact h5, h6⟩, ⟨by rw [(cellE c0).2.2]; exact i1, by omega, by omega, i4, by rw [(cellE c1).1]; exact i5, by rw [(cellE c1).2.1]; exact i6⟩, fun k hkm => ?_⟩
  obtain ⟨e1, e2⟩ := hk k hkm
  exact ⟨by rw [(cellE c1).2.2]; exact e1, e2.keep hE⟩
section BK
variable {l : Launch} {E : EN} {w : CO} {d : Nat} {s : CS} {f : RH} {Q : KO → CS → RH → Prop} {lo q a1 cap m x : Nat} {V : Nat → Nat}
theorem BlB.put (h : BlB f lo q a1 cap m V) (hm : m < cap) (hx : dd f x) : ∀ f1 f2, f1 = fset f a1 m (.ref x) → f2 = fset f1 q 160 (.int (nI (m + 1))) → BlB f2 lo q a1 cap (m + 1) (up V m x) ∧ gE [q, a1] f f2 ∧ f2.1 = f.1 ∧ f2.2.1 = f.2.1 ∧ oc f1 q 13 ∧ vl f1 q 160 = .int (nI m) ∧ f1.2.2.2 = f.2.2.2 := by
  intro f1 f2 e1 e2
  have hne := h.ne
  obtain ⟨⟨h1, h2, h3, h4, h5, h6, h7, h8⟩, ⟨i1, i2, i3, i4, i5, i6⟩, hk⟩ := h
  have g1 : gE [a1] f f1 := by rw [e1]; exact gE.setA _ _ _ i5
  have g2 : gE [q] f1 f2 := by rw [e2]; exact gE.set _ _ _
  have c1q : f1.2.2.1 q = f.2.2.1 q := g1.ce h2 (by simp only [List.mem_singleton]; exact hne)
  have o1 : oc f1 q 13 := ocE c1q h1
  have z1 : f1.1 = f.1 ∧ f1.2.1 = f.2.1 := by rw [e1]; exact ⟨rfl, rfl⟩
  have z2 : f2.1 = f1.1 ∧ f2.2.1 = f1.2.1 := by rw [e2]; exact ⟨rfl, rfl⟩
  have c2a : f2.2.2.1 a1 = f1.2.2.1 a1 := g2.ce (by omega) (by simp only [List.mem_singleton]; exact fun e => hne e.symm)
  have g12 : gE [q, a1] f f2 := (g1.mono (fun a ha => Or.inl (by rw [List.mem_singleton.mp ha]; exact List.mem_cons_of_mem _ List.mem_cons_self))).trans g2 (fun a ha => Or.inl (by rw [List.mem_singleton.mp ha]; exact List.mem_cons_self))
  have cb := g12.2.1
  have u159 : vl f2 q 159 = .ref a1 := by rw [e2]; refine (set_vn o1.1 (by decide)).trans ?_; rw [(cellE c1q).2.2]; exact i1
  have ta : tg f1 a1 = some (.inr 6) := by rw [e1]; exact (fset_tg i5).1
  have la : ln f1 a1 = cap := by rw [e1]; exact (fset_tg i5).2.1.trans i6
  refine ⟨⟨⟨by rw [e2]; exact set_oc o1, by omega, by omega, h4, by rw [e2]; exact set_vl o1.1, by omega, h7, by omega⟩, ⟨u159, by omega, by omega, i4, by rw [(cellE c2a).1]; exact ta, by rw [(cellE c2a).2.1]; exact la⟩, fun k hkm => ?_⟩, g12, by omega, by omega, o1, by rw [(cellE c1q).2.2]; exact h5, g1.2.1⟩
  rw [(cellE c2a).2.2]
  by_cases ek : k = m
  · subst ek
    rw [up_at, e1]
    exact ⟨set_vl i5, hx.keep g12⟩
  · rw [up_ne _ _ ek, e1]
    obtain ⟨r1, r2⟩ := hk k (by omega)
    exact ⟨(set_vn i5 ek).trans r1, r2.keep g12⟩
theorem C_addB (hst : l.stackTraces = false) (h : BlB f lo q a1 cap m V) (hx : dd f x) (hm : m ≤ 690) (hc : cap ≤ 4000) (hroom : f.2.1 + 4 * m + 1 ≤ BM) (hQ : ∀ f' b1 cap', BlB f' lo q b1 cap' (m + 1) (up V m x) → gE [q, a1] f f' → (b1 = a1 ∨ f.1 ≤ b1) → cap ≤ cap' → f'.2.1 ≤ f.2.1 + 2 * (cap' - cap) → Q (.inl none) s f') : EvC l E w d MX13_add [.ref q, .ref x] s f Q := by
  have h0 := h
  obtain ⟨⟨h1, h2, h3, h4, h5, h6, h7, h8⟩, ⟨i1, i2, i3, i4, i5, i6⟩, hk⟩ := h
  obtain ⟨x1, xk, x2, x3⟩ := id hx
  refine eX13_add hst ⟨h1, _, h5, h1, a1, i1, 6, i5, ?_⟩
  rw [i6]
  refine bn_eq m cap (fun ne => ?_) (fun eq => ?_) rfl rfl
  · have hmc : m < cap := by omega
    refine ⟨h1, a1, i1, h1, _, h5, xk, i5, x2, x3, by rw [i6]; exact inB_n hmc, i3, fun f1 e1 => ?_⟩
    rw [nI_clamp (by omega)] at e1
    obtain ⟨-, -, -, -, o1, v1, b1⟩ := h0.put hmc hx f1 _ e1 rfl
    refine ⟨o1, _, v1, o1, by rw [b1]; exact h3, fun f2 e2 => ?_⟩
    rw [← nI_succ] at e2
    obtain ⟨B2, G2, Z2, Z2', -⟩ := h0.put hmc hx f1 f2 e1 e2
    exact hQ f2 a1 cap B2 G2 (Or.inl rfl) (Nat.le_refl _) (by omega)
  · have hm4 : (4 * nI m : Int32) = nI (4 * m) := pk_mul 4 m
    have cl4 : (4 * nI m : Int32).toNatClampNeg = 4 * m := by rw [hm4, nI_clamp (by omega)]
    refine ⟨h1, _, h5, by rw [hm4]; exact nI_pos (by omega), by rw [cl4]; omega, by unfold rmF; rw [cl4]; omega, fun b1 f1 eb ef => ?_⟩
    rw [cl4] at ef
    have g1 : gE [] f f1 := by rw [ef]; exact gE.newA _ _ _
    have z1 : f1.1 = f.1 + 1 ∧ f1.2.1 = f.2.1 + (4 * m + 1) := by rw [ef]; exact ⟨rfl, rfl⟩
    have y1 : tg f1 b1 = some (.inr 6) ∧ ln f1 b1 = 4 * m := by
      rw [ef, eb]
      exact ⟨tg_push _ _ _, by unfold ln; rw [show (fnewA f 6 (4 * m)).2.2.1 f.1 = _ from cell_push _ _ _]⟩
    have main : ∀ r i (g : RH), m - i ≤ r → i ≤ m → gE [] f g → g.1 = f1.1 → g.2.1 = f1.2.1 → (tg g b1 = some (.inr 6) ∧ ln g b1 = 4 * m) → (∀ k, k < i → vl g b1 k = .ref (V k)) → ExC l E w d MX13_add 24 [some (.ref q), some (.ref x), some (.ref b1), some (.int (nI i))] [] s g Q := by
      intro r
      induction r with
      | zero =>
        intro i g hr hi hg hg1 hg2 p1 pk
        have ei : i = m := by omega
        subst ei
        have cq : g.2.2.1 q = f.2.2.1 q := hg.ce h2 List.not_mem_nil
        have og := ocE cq h1
        have cb := hg.2.1
        refine vX13_add_24 ⟨og, _, by rw [(cellE cq).2.2]; exact h5, pk_le i i (fun _ => ⟨og, by rw [cb]; exact h3, fun f2 e2 => ?_⟩) (fun z => absurd z (by omega)) rfl rfl (by omega) (by omega)⟩
        have G2 : gE [q] g f2 := by rw [e2]; exact gE.set _ _ _
        have o2 : oc f2 q 13 := by rw [e2]; exact set_oc og
        have z2 : f2.1 = g.1 ∧ f2.2.1 = g.2.1 := by rw [e2]; exact ⟨rfl, rfl⟩
        have nq : ¬ b1 = q := by omega
        have cb1 : f2.2.2.1 b1 = g.2.2.1 b1 := G2.ce (by omega) (by simp only [List.mem_singleton]; exact nq)
        have B2 : BlB f2 lo q b1 (4 * i) i V := by
          refine ⟨⟨o2, by omega, by rw [G2.2.1, cb]; exact h3, h4, by rw [e2]; refine (set_vn og.1 (by decide)).trans ?_; rw [(cellE cq).2.2]; exact h5, by omega, by omega, by omega⟩, ⟨by rw [e2]; exact set_vl og.1, by omega, by rw [G2.2.1, cb]; omega, by omega, by rw [(cellE cb1).1]; exact p1.1, by rw [(cellE cb1).2.1]; exact p1.2⟩, fun k hkm => ⟨by rw [(cellE cb1).2.2]; exact pk k hkm, ((hk k hkm).2.keep hg).keep G2⟩⟩
        have hx2 : dd f2 x := (hx.keep hg).keep G2
        obtain ⟨xx1, xxk, xx2, xx3⟩ := id hx2
        have hic : i < 4 * i := by omega
        refine ⟨o2, b1, B2.2.1.1, o2, _, B2.1.2.2.2.2.1, xxk, B2.2.1.2.2.2.2.1, xx2, xx3, by rw [B2.2.1.2.2.2.2.2]; exact inB_n hic, B2.2.1.2.2.1, fun f3 e3 => ?_⟩
        rw [nI_clamp (by omega)] at e3
        obtain ⟨-, -, -, -, o3, v3, b3⟩ := B2.put hic hx2 f3 _ e3 rfl
        refine ⟨o3, _, v3, o3, by rw [b3]; exact B2.1.2.2.1, fun f4 e4 => ?_⟩
        rw [← nI_succ] at e4
        obtain ⟨B4, G4, Z4, Z4', -⟩ := B2.put hic hx2 f3 f4 e3 e4
        refine hQ f4 b1 (4 * i) B4 (((hg.mono (fun a ha => absurd ha List.not_mem_nil)).trans G2 (fun a ha => Or.inl (by rw [List.mem_singleton.mp ha]; exact List.mem_cons_self))).trans G4 (fun a ha => ?_)) (Or.inr (by omega)) (by omega) (by omega)
        simp only [List.mem_cons, List.not_mem_nil, or_false] at ha ⊢
        omega
      | succ r ih =>
        intro i g hr hi hg hg1 hg2 p1 pk
        by_cases ei : i = m
        · exact ih i g (by omega) hi hg hg1 hg2 p1 pk
        · have cq : g.2.2.1 q = f.2.2.1 q := hg.ce h2 List.not_mem_nil
          have ca : g.2.2.1 a1 = f.2.2.1 a1 := hg.ce i2 List.not_mem_nil
          have og := ocE cq h1
          have cb := hg.2.1
          obtain ⟨r1, r2⟩ := hk i (by omega)
          obtain ⟨s1, sk, s2, s3⟩ := r2.keep hg
          refine vX13_add_24 ⟨og, _, by rw [(cellE cq).2.2]; exact h5, pk_le m i (fun z => absurd z (by omega)) (fun _ => ⟨og, a1, by rw [(cellE cq).2.2]; exact i1, 6, by decide, by rw [(cellE ca).1]; exact i5, by rw [(cellE ca).2.1, i6]; exact inB_n (by omega), V i, ?_⟩) rfl rfl (by omega) (by omega)⟩
          rw [nI_clamp (by omega)]
          refine ⟨by rw [(cellE ca).2.2]; exact r1, sk, p1.1, s2, s3, by rw [p1.2]; exact inB_n (by omega), by omega, fun g2 e2 => ?_⟩
          rw [← nI_succ]
          have G2 : gE [b1] g g2 := by rw [e2]; exact gE.setA _ _ _ p1.1
          have nb : f.1 ≤ b1 := by omega
          refine ih (i + 1) g2 (by omega) (by omega) (hg.own G2 nb) (by rw [e2]; exact hg1) (by rw [e2]; exact hg2) (by rw [e2]; exact ⟨(fset_tg p1.1).1, (fset_tg p1.1).2.1.trans p1.2⟩) (fun k hkm => ?_)
          rw [e2]
          by_cases ek : k = i
          · subst ek; exact set_vl p1.1
          · exact (set_vn p1.1 ek).trans (pk k (by omega))
    exact main m 0 f1 (by omega) (by omega) g1 rfl rfl y1 (fun k hk => absurd hk (Nat.not_lt_zero _))
theorem C_initB (hst : l.stackTraces = false) (hN : oc f q 13) (h1 : q < f.1) (h2 : f.2.2.2 ≤ q) (h160 : vl f q 160 = .int 0) (hlo : lo ≤ q) (hroom : f.2.1 + 3 ≤ BM) (hQ : ∀ f', BlB f' lo q f.1 2 0 (fun _ => 0) → gE [q] f f' → f'.2.1 = f.2.1 + 3 → f'.1 = f.1 + 1 → Q (.inl none) s f') : EvC l E w d MX13_init [.ref q] s f Q := by
  have c2 : (2 : Int32).toNatClampNeg = 2 := by decide
  refine eX13_init hst ?_
  rw [c2]
  refine ⟨by decide, by unfold rmF; omega, fun b1 f1 eb ef => ?_⟩
  have g1 : gE [] f f1 := by rw [ef]; exact gE.newA _ _ _
  have z1 : f1.1 = f.1 + 1 ∧ f1.2.1 = f.2.1 + 3 := by rw [ef]; exact ⟨rfl, rfl⟩
  have cq : f1.2.2.1 q = f.2.2.1 q := g1.ce h1 List.not_mem_nil
  have o1 := ocE cq hN
  have y1 : tg f1 b1 = some (.inr 6) ∧ ln f1 b1 = 2 := by
    rw [ef, eb]
    exact ⟨tg_push _ _ _, by unfold ln; rw [show (fnewA f 6 2).2.2.1 f.1 = _ from cell_push _ _ _]⟩
  refine ⟨o1, by rw [g1.2.1]; exact h2, fun f2 e2 => ?_⟩
  have G2 : gE [q] f1 f2 := by rw [e2]; exact gE.set _ _ _
  have z2 : f2.1 = f1.1 ∧ f2.2.1 = f1.2.1 := by rw [e2]; exact ⟨rfl, rfl⟩
  have nq : ¬ b1 = q := by omega
  have cb1 : f2.2.2.1 b1 = f1.2.2.1 b1 := G2.ce (by omega) (by simp only [List.mem_singleton]; exact nq)
  subst eb
  refine hQ f2 ⟨⟨by rw [e2]; exact set_oc o1, by omega, by rw [G2.2.1, g1.2.1]; exact h2, hlo, by rw [e2]; refine (set_vn o1.1 (by decide)).trans ?_; rw [(cellE cq).2.2]; exact h160, by omega, by omega, by omega⟩, ⟨by rw [e2]; exact set_vl o1.1, by omega, by rw [G2.2.1, g1.2.1]; omega, by omega, by rw [(cellE cb1).1]; exact y1.1, by rw [(cellE cb1).2.1]; exact y1.2⟩, fun k hk => absurd hk (Nat.not_lt_zero _)⟩ ((g1.mono (fun a ha => absurd ha List.not_mem_nil)).trans G2 (fun a ha => Or.inl ha)) (by omega) (by omega)
end BK
