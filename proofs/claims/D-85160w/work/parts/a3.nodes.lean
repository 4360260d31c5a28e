/-! NODES THAT GROW -/
def up {α : Type} (V : Nat → α) (m : Nat) (x : α) : Nat → α := fun k => if k = m then x else V k
theorem up_at {α : Type} (V : Nat → α) (m : Nat) (x : α) : up V m x m = x := if_pos rfl
theorem up_ne {α : Type} (V : Nat → α) {m k : Nat} (x : α) (h : ¬ k = m) : up V m x k = V k := if_neg h
theorem set_cell {f : RH} {a b j : Nat} {v : Value} (h : ¬ b = a) : (fset f a j v).2.2.1 b = f.2.2.1 b := if_neg h
theorem set_oc {f : RH} {a j k : Nat} {v : Value} (h : oc f a k) : oc (fset f a j v) a k := ⟨(fset_tg h.1).1, (fset_tg h.1).2.1.trans h.2⟩
theorem set_vl {f : RH} {a j : Nat} {v : Value} {t : Nat ⊕ Nat} (h : tg f a = some t) : vl (fset f a j v) a j = v := ((fset_tg h).2.2 j).trans (if_pos rfl)
theorem set_vn {f : RH} {a j i : Nat} {v : Value} {t : Nat ⊕ Nat} (h : tg f a = some t) (hi : ¬ i = j) : vl (fset f a j v) a i = vl f a i := ((fset_tg h).2.2 i).trans (if_neg hi)
theorem nd.keep {f f' : RH} {x : Nat} {D : List Nat} (h : nd f x) (hE : gE D f f') : nd f' x := by
  obtain ⟨h1, k, h2, h3⟩ := h
  exact ⟨Nat.lt_of_lt_of_le h1 hE.1, k, by rw [(hE.2.2.2 x h1).1]; exact h2, h3⟩
theorem nd.set {f : RH} {x a j : Nat} {v : Value} (h : nd f x) : nd (fset f a j v) x := by
  obtain ⟨h1, k, h2, h3⟩ := h
  refine ⟨h1, k, ?_, h3⟩
  by_cases e : x = a
  · subst e; exact (fset_tg h2).1
  · rw [(cellE (set_cell e)).1]; exact h2
section ND
variable {l : Launch} {E : EN} {w : CO} {d : Nat} {s : CS} {f : RH} {Q : KO → CS → RH → Prop} {lo q a1 a2 a3 cap m x : Nat} {V : Nat → Nat} {S L : Nat → Int32}
theorem NsB.put {sg pl : Int32} (h : NsB f lo q a1 a2 a3 cap m V S L) (hm : m < cap) (hx : nd f x) (hm2 : m < 2 ^ 30) : ∀ f1 f2 f3 f4, f1 = fset f a1 m (.ref x) → f2 = fset f1 a2 m (.int sg) → f3 = fset f2 a3 m (.int pl) → f4 = fset f3 q 171 (.int (nI (m + 1))) → NsB f4 lo q a1 a2 a3 cap (m + 1) (up V m x) (up S m sg) (up L m pl) ∧ gE [q, a1, a2, a3] f f4 ∧ f4.1 = f.1 ∧ f4.2.1 = f.2.1 ∧ NsB f1 lo q a1 a2 a3 cap m V S L ∧ NsB f2 lo q a1 a2 a3 cap m V S L ∧ NsB f3 lo q a1 a2 a3 cap m V S L := by
  intro f1 f2 f3 f4 e1 e2 e3 e4
  obtain ⟨n1, n2, n3, n4, n5, n6⟩ := h.ne
  have stp : ∀ {g : RH} {a : Nat} {v : Value}, NsB g lo q a1 a2 a3 cap m V S L → (a = a1 ∨ a = a2 ∨ a = a3) → NsB (fset g a m v) lo q a1 a2 a3 cap m V S L := by
    intro g a v hg ha
    obtain ⟨⟨h1, h2⟩, ⟨i1, i2, i3, i4, i5, i6⟩, ⟨j1, j2, j3, j4, j5, j6⟩, ⟨k1, k2, k3, k4, k5, k6⟩, hne, hk⟩ := hg
    have cq : (fset g a m v).2.2.1 q = g.2.2.1 q := set_cell (by rcases ha with e | e | e <;> rw [e] <;> assumption)
    have tgA : ∀ b t, tg g b = some t → tg (fset g a m v) b = some t ∧ ln (fset g a m v) b = ln g b ∧ ∀ k, ¬ k = m → vl (fset g a m v) b k = vl g b k := by
      intro b t hb
      by_cases e : b = a
      · subst e; exact ⟨(fset_tg hb).1, (fset_tg hb).2.1, fun k hk => set_vn hb hk⟩
      · have c := cellE (set_cell (j := m) (v := v) (f := g) e)
        exact ⟨c.1.trans hb, c.2.1, fun k _ => by rw [c.2.2]⟩
    have t1 := tgA a1 _ i5
    have t2 := tgA a2 _ j5
    have t3 := tgA a3 _ k5
    refine ⟨⟨ocE cq h1, h2.1, h2.2.1, h2.2.2.1, by rw [(cellE cq).2.2]; exact h2.2.2.2.1, h2.2.2.2.2⟩, ⟨by rw [(cellE cq).2.2]; exact i1, i2, i3, i4, t1.1, t1.2.1.trans i6⟩, ⟨by rw [(cellE cq).2.2]; exact j1, j2, j3, j4, t2.1, t2.2.1.trans j6⟩, ⟨by rw [(cellE cq).2.2]; exact k1, k2, k3, k4, t3.1, t3.2.1.trans k6⟩, hne, fun k hkm => ?_⟩
    obtain ⟨g1, g2, g3, g4⟩ := hk k hkm
    exact ⟨(t1.2.2 k (by omega)).trans g1, nd.set g2, (t2.2.2 k (by omega)).trans g3, (t3.2.2 k (by omega)).trans g4⟩
  have s1 := stp (v := .ref x) h (Or.inl rfl)
  rw [← e1] at s1
  have s2 := stp (v := .int sg) s1 (Or.inr (Or.inl rfl))
  rw [← e2] at s2
  have s3 := stp (v := .int pl) s2 (Or.inr (Or.inr rfl))
  rw [← e3] at s3
  have v1 : vl f1 a1 m = .ref x := by rw [e1]; exact set_vl h.2.1.2.2.2.2.1
  have v2 : vl f2 a2 m = .int sg := by rw [e2]; exact set_vl s1.2.2.1.2.2.2.2.1
  have v3 : vl f3 a3 m = .int pl := by rw [e3]; exact set_vl s2.2.2.2.1.2.2.2.2.1
  have w1 : vl f3 a1 m = .ref x := by
    rw [e3, (cellE (set_cell (f := f2) (j := m) (v := .int pl) n5)).2.2, e2, (cellE (set_cell (f := f1) (j := m) (v := .int sg) n4)).2.2]; exact v1
  have w2 : vl f3 a2 m = .int sg := by
    rw [e3, (cellE (set_cell (f := f2) (j := m) (v := .int pl) n6)).2.2]; exact v2
  have hx3 : nd f3 x := by rw [e3, e2, e1]; exact nd.set (nd.set (nd.set hx))
  have g01 : gE [q, a1, a2, a3] f f1 := by rw [e1]; exact (gE.setA a1 m _ h.2.1.2.2.2.2.1).mono (fun a ha => Or.inl (by rw [List.mem_singleton.mp ha]; simp))
  have g02 : gE [q, a1, a2, a3] f1 f2 := by rw [e2]; exact (gE.setA a2 m _ s1.2.2.1.2.2.2.2.1).mono (fun a ha => Or.inl (by rw [List.mem_singleton.mp ha]; simp))
  have g03 : gE [q, a1, a2, a3] f2 f3 := by rw [e3]; exact (gE.setA a3 m _ s2.2.2.2.1.2.2.2.2.1).mono (fun a ha => Or.inl (by rw [List.mem_singleton.mp ha]; simp))
  have g04 : gE [q, a1, a2, a3] f3 f4 := by rw [e4]; exact (gE.set q 171 _).mono (fun a ha => Or.inl (by rw [List.mem_singleton.mp ha]; simp))
  refine ⟨?_, ((g01.trans g02 (fun _ h => Or.inl h)).trans g03 (fun _ h => Or.inl h)).trans g04 (fun _ h => Or.inl h), by rw [e4, e3, e2, e1]; rfl, by rw [e4, e3, e2, e1]; rfl, s1, s2, s3⟩
  obtain ⟨⟨h1, h2, h3, h4, h5, h6⟩, ⟨i1, i2, i3, i4, i5, i6⟩, ⟨j1, j2, j3, j4, j5, j6⟩, ⟨k1, k2, k3, k4, k5, k6⟩, hne, hk⟩ := s3
  have c1 : f4.2.2.1 a1 = f3.2.2.1 a1 := by rw [e4]; exact set_cell (fun e => n1 e.symm)
  have c2 : f4.2.2.1 a2 = f3.2.2.1 a2 := by rw [e4]; exact set_cell (fun e => n2 e.symm)
  have c3 : f4.2.2.1 a3 = f3.2.2.1 a3 := by rw [e4]; exact set_cell (fun e => n3 e.symm)
  have ef : f4.1 = f3.1 ∧ f4.2.2.2 = f3.2.2.2 := by rw [e4]; exact ⟨rfl, rfl⟩
  have q4 : oc f4 q 17 ∧ vl f4 q 171 = .int (nI (m + 1)) ∧ ∀ j, ¬ j = 171 → vl f4 q j = vl f3 q j := by rw [e4]; exact ⟨set_oc h1, set_vl h1.1, fun j hj => set_vn h1.1 hj⟩
  refine ⟨⟨q4.1, by omega, by omega, h4, q4.2.1, by omega, h6.2.1, by omega⟩, ⟨(q4.2.2 168 (by decide)).trans i1, by omega, by omega, i4, by rw [(cellE c1).1]; exact i5, by rw [(cellE c1).2.1]; exact i6⟩, ⟨(q4.2.2 169 (by decide)).trans j1, by omega, by omega, j4, by rw [(cellE c2).1]; exact j5, by rw [(cellE c2).2.1]; exact j6⟩, ⟨(q4.2.2 170 (by decide)).trans k1, by omega, by omega, k4, by rw [(cellE c3).1]; exact k5, by rw [(cellE c3).2.1]; exact k6⟩, hne, fun k hkm => ?_⟩
  rw [(cellE c1).2.2, (cellE c2).2.2, (cellE c3).2.2]
  by_cases e : k = m
  · subst e
    rw [up_at, up_at, up_at]
    exact ⟨w1, by rw [e4]; exact nd.set hx3, w2, v3⟩
  · rw [up_ne _ _ e, up_ne _ _ e, up_ne _ _ e]
    obtain ⟨g1, g2, g3, g4⟩ := hk k (by omega)
    exact ⟨g1, by rw [e4]; exact nd.set g2, g3, g4⟩
theorem C_grow (hst : l.stackTraces = false) (h : NsB f lo q a1 a2 a3 cap m V S L) (hm : m = cap) (hm2 : m ≤ 700) (hroom : f.2.1 + 12 * m + 3 ≤ BM) (hQ : ∀ f' b1 b2 b3, NsB f' lo q b1 b2 b3 (4 * m) m V S L → gE [q] f f' → f.1 ≤ b1 → f.1 ≤ b2 → f.1 ≤ b3 → f'.2.1 = f.2.1 + (12 * m + 3) → Q (.inl none) s f') : EvC l E w d MX19_grow [.ref q] s f Q := by
  have h0 := h
  obtain ⟨⟨h1, h2, h3, h4, h5, h6⟩, ⟨i1, i2, i3, i4, i5, i6⟩, ⟨j1, j2, j3, j4, j5, j6⟩, ⟨k1, k2, k3, k4, k5, k6⟩, hne, hk⟩ := h
  have hm4 : (4 * nI m : Int32) = nI (4 * m) := pk_mul 4 m
  have cl4 : (4 * nI m : Int32).toNatClampNeg = 4 * m := by rw [hm4, nI_clamp (by omega)]
  have n0 : ¬ (4 * nI m : Int32) < 0 := by rw [hm4]; exact nI_pos (by omega)
  refine eX19_grow hst ⟨h1, _, h5, n0, by rw [cl4]; omega, by unfold rmF; rw [cl4]; omega, fun b1 f1 eb1 ef1 => ?_⟩
  rw [cl4] at ef1
  have g1 : gE [] f f1 := by rw [ef1]; exact gE.newA _ _ _
  have o1 := ocE (g1.ce (a := q) h2 List.not_mem_nil) h1
  have u1 : vl f1 q 171 = .int (nI m) := by rw [(cellE (g1.ce (a := q) h2 List.not_mem_nil)).2.2]; exact h5
  have z1 : f1.1 = f.1 + 1 ∧ f1.2.1 = f.2.1 + (4 * m + 1) := by rw [ef1]; exact ⟨rfl, rfl⟩
  refine ⟨o1, _, u1, n0, by rw [cl4]; omega, by unfold rmF; rw [cl4]; omega, fun b2 f2 eb2 ef2 => ?_⟩
  rw [cl4] at ef2
  have g2 : gE [] f1 f2 := by rw [ef2]; exact gE.newA _ _ _
  have g12 := g1.trans g2 (fun a ha => absurd ha List.not_mem_nil)
  have o2 := ocE (g12.ce (a := q) h2 List.not_mem_nil) h1
  have u2 : vl f2 q 171 = .int (nI m) := by rw [(cellE (g12.ce (a := q) h2 List.not_mem_nil)).2.2]; exact h5
  have z2 : f2.1 = f.1 + 2 ∧ f2.2.1 = f.2.1 + 2 * (4 * m + 1) := by
    have e1 : f2.1 = f1.1 + 1 ∧ f2.2.1 = f1.2.1 + (4 * m + 1) := by rw [ef2]; exact ⟨rfl, rfl⟩
    omega
  refine ⟨o2, _, u2, n0, by rw [cl4]; omega, by unfold rmF; rw [cl4]; omega, fun b3 f3 eb3 ef3 => ?_⟩
  rw [cl4] at ef3
  have g3 : gE [] f2 f3 := by rw [ef3]; exact gE.newA _ _ _
  have g13 := g12.trans g3 (fun a ha => absurd ha List.not_mem_nil)
  have z3 : f3.1 = f.1 + 3 ∧ f3.2.1 = f.2.1 + 3 * (4 * m + 1) := by
    have e1 : f3.1 = f2.1 + 1 ∧ f3.2.1 = f2.2.1 + (4 * m + 1) := by rw [ef3]; exact ⟨rfl, rfl⟩
    omega
  have y1 : tg f3 b1 = some (.inr 5) ∧ ln f3 b1 = 4 * m := by
    have c : f3.2.2.1 b1 = f1.2.2.1 b1 := (g3.ce (a := b1) (by omega) List.not_mem_nil).trans (g2.ce (a := b1) (by omega) List.not_mem_nil)
    rw [(cellE c).1, (cellE c).2.1, ef1, eb1]
    exact ⟨tg_push _ _ _, by unfold ln; rw [show (fnewA f 5 (4 * m)).2.2.1 f.1 = _ from cell_push _ _ _]⟩
  have y2 : tg f3 b2 = some (.inr 0) ∧ ln f3 b2 = 4 * m := by
    have c : f3.2.2.1 b2 = f2.2.2.1 b2 := g3.ce (a := b2) (by omega) List.not_mem_nil
    rw [(cellE c).1, (cellE c).2.1, ef2, eb2]
    exact ⟨tg_push _ _ _, by unfold ln; rw [show (fnewA f1 0 (4 * m)).2.2.1 f1.1 = _ from cell_push _ _ _]⟩
  have y3 : tg f3 b3 = some (.inr 0) ∧ ln f3 b3 = 4 * m := by
    rw [ef3, eb3]
    exact ⟨tg_push _ _ _, by unfold ln; rw [show (fnewA f2 0 (4 * m)).2.2.1 f2.1 = _ from cell_push _ _ _]⟩
  have hb : b1 = f.1 ∧ b2 = f.1 + 1 ∧ b3 = f.1 + 2 := by omega
  -- the loop
  have main : ∀ r i (g : RH), m - i ≤ r → i ≤ m → gE [] f g → g.1 = f3.1 → g.2.1 = f3.2.1 → (tg g b1 = some (.inr 5) ∧ ln g b1 = 4 * m) → (tg g b2 = some (.inr 0) ∧ ln g b2 = 4 * m) → (tg g b3 = some (.inr 0) ∧ ln g b3 = 4 * m) → (∀ k, k < i → vl g b1 k = .ref (V k) ∧ vl g b2 k = .int (S k) ∧ vl g b3 k = .int (L k)) → ExC l E w d MX19_grow 31 [some (.ref q), some (.ref b1), some (.ref b2), some (.ref b3), some (.int (nI i))] [] s g Q := by
    intro r
    induction r with
    | zero =>
      intro i g hr hi hg hg1 hg2 p1 p2 p3 pk
      have ei : i = m := by omega
      subst ei
      have hN := h0.keep hg (fun a ha => absurd ha List.not_mem_nil)
      have oq := hN.1.1
      refine vX19_grow_31 ⟨oq, _, hN.1.2.2.2.2.1, pk_le i i (fun _ => ⟨oq, hN.1.2.2.1, fun g1 eg1 => ?_⟩) (fun z => absurd z (by omega)) rfl rfl⟩
      have oq1 : oc g1 q 17 := by rw [eg1]; exact set_oc oq
      have cb1 : g1.2.2.2 = g.2.2.2 := by rw [eg1]; rfl
      have hq0 := hN.1.2.2.1
      refine ⟨oq1, by omega, fun g2 eg2 => ?_⟩
      have oq2 : oc g2 q 17 := by rw [eg2]; exact set_oc oq1
      have cb2 : g2.2.2.2 = g1.2.2.2 := by rw [eg2]; rfl
      refine ⟨oq2, by omega, fun g3 eg3 => ?_⟩
      have oq3 : oc g3 q 17 := by rw [eg3]; exact set_oc oq2
      have cb3 : g3.2.2.2 = g2.2.2.2 := by rw [eg3]; rfl
      have vq : vl g3 q 168 = .ref b1 ∧ vl g3 q 169 = .ref b2 ∧ vl g3 q 170 = .ref b3 ∧ vl g3 q 171 = .int (nI i) := by
        rw [eg3]
        refine ⟨(set_vn oq2.1 (by decide)).trans ?_, (set_vn oq2.1 (by decide)).trans ?_, set_vl oq2.1, (set_vn oq2.1 (by decide)).trans ?_⟩
        · rw [eg2]; refine (set_vn oq1.1 (by decide)).trans ?_; rw [eg1]; exact set_vl oq.1
        · rw [eg2]; exact set_vl oq1.1
        · rw [eg2]; refine (set_vn oq1.1 (by decide)).trans ?_; rw [eg1]; exact (set_vn oq.1 (by decide)).trans hN.1.2.2.2.2.1
      have gg : gE [q] g g3 := by
        have a1 : gE [q] g g1 := by rw [eg1]; exact gE.set _ _ _
        have a2 : gE [q] g1 g2 := by rw [eg2]; exact gE.set _ _ _
        have a3 : gE [q] g2 g3 := by rw [eg3]; exact gE.set _ _ _
        exact (a1.trans a2 (fun _ h => Or.inl h)).trans a3 (fun _ h => Or.inl h)
      have sz : g3.1 = g.1 ∧ g3.2.1 = g.2.1 := by rw [eg3, eg2, eg1]; exact ⟨rfl, rfl⟩
      have gt : gE [q] f g3 := (hg.mono (fun a ha => absurd ha List.not_mem_nil)).trans gg (fun _ h => Or.inl h)
      have cc : ∀ b, f.1 ≤ b → b < g.1 → g3.2.2.1 b = g.2.2.1 b := fun b hb1 hb2 => gg.ce hb2 (fun z => by have := List.mem_singleton.mp z; omega)
      have c1 := cellE (cc b1 (by omega) (by omega))
      have c2 := cellE (cc b2 (by omega) (by omega))
      have c3 := cellE (cc b3 (by omega) (by omega))
      have hcb := gt.2.1
      have hcb1 := h3
      refine hQ g3 b1 b2 b3 ⟨⟨oq3, by omega, by omega, h4, vq.2.2.2, by omega, by omega, by omega⟩, ⟨vq.1, by omega, by omega, by omega, by rw [c1.1]; exact p1.1, by rw [c1.2.1]; exact p1.2⟩, ⟨vq.2.1, by omega, by omega, by omega, by rw [c2.1]; exact p2.1, by rw [c2.2.1]; exact p2.2⟩, ⟨vq.2.2.1, by omega, by omega, by omega, by rw [c3.1]; exact p3.1, by rw [c3.2.1]; exact p3.2⟩, by omega, fun k hkm => ?_⟩ gt (by omega) (by omega) (by omega) (by omega)
      obtain ⟨e1, e2, e3⟩ := pk k hkm
      refine ⟨by rw [c1.2.2]; exact e1, ?_, by rw [c2.2.2]; exact e2, by rw [c3.2.2]; exact e3⟩
      obtain ⟨-, nk, -⟩ := hk k hkm
      rw [eg3, eg2, eg1]
      exact nd.set (nd.set (nd.set (nk.keep hg)))
    | succ r ih =>
      intro i g hr hi hg hg1 hg2 p1 p2 p3 pk
      by_cases ei : i = m
      · exact ih i g (by omega) hi hg hg1 hg2 p1 p2 p3 pk
      have him : i < m := by omega
      have hN := h0.keep hg (fun a ha => absurd ha List.not_mem_nil)
      have oq := hN.1.1
      obtain ⟨e1, e2, e3, e4⟩ := hN.2.2.2.2.2 i him
      obtain ⟨-, kk, tk1, tk2⟩ := e2
      have ibn : inB (nI i) (4 * m) := inB_n (by omega)
      have cbg := hN.1.2.2.1
      have hqf := h2
      have cbf := hg.2.1
      have hfr := h3
      refine vX19_grow_31 ⟨oq, _, hN.1.2.2.2.2.1, pk_le m i (fun z => absurd z (by omega)) (fun _ => ⟨oq, a1, hN.2.1.1, 5, by decide, hN.2.1.2.2.2.2.1, by rw [hN.2.1.2.2.2.2.2]; exact inB_n (by omega), V i, by rw [nI_clamp (by omega)]; exact e1, kk, p1.1, tk1, tk2, by rw [p1.2]; exact ibn, by omega, fun g1 eg1 => ?_⟩) rfl rfl⟩
      rw [nI_clamp (by omega)] at eg1
      have ge1 : gE [b1] g g1 := by rw [eg1]; exact gE.setA _ _ _ p1.1
      have o1 : oc g1 q 17 := ocE (ge1.ce (a := q) (by omega) (fun z => by have := List.mem_singleton.mp z; omega)) oq
      have cA : ∀ b, ¬ b = b1 → g1.2.2.1 b = g.2.2.1 b := fun b hb => by rw [eg1]; exact set_cell hb
      have ha2 := j2
      have ha3 := k2
      refine ⟨o1, a2, by rw [(cellE (cA q (by omega))).2.2]; exact hN.2.2.1.1, by rw [(cellE (cA a2 (by omega))).1]; exact hN.2.2.1.2.2.2.2.1, by rw [(cellE (cA a2 (by omega))).2.1, hN.2.2.1.2.2.2.2.2]; exact inB_n (by omega), S i, by rw [nI_clamp (by omega), (cellE (cA a2 (by omega))).2.2]; exact e3, by rw [(cellE (cA b2 (by omega))).1]; exact p2.1, by rw [(cellE (cA b2 (by omega))).2.1, p2.2]; exact ibn, by rw [ge1.2.1]; omega, fun g2 eg2 => ?_⟩
      rw [nI_clamp (by omega)] at eg2
      have cB : ∀ b, ¬ b = b2 → g2.2.2.1 b = g1.2.2.1 b := fun b hb => by rw [eg2]; exact set_cell hb
      have o2 : oc g2 q 17 := ocE (cB q (by omega)) o1
      have cbg2 : g2.2.2.2 = g.2.2.2 := by rw [eg2, eg1]; rfl
      refine ⟨o2, a3, by rw [(cellE (cB q (by omega))).2.2, (cellE (cA q (by omega))).2.2]; exact hN.2.2.2.1.1, by rw [(cellE (cB a3 (by omega))).1, (cellE (cA a3 (by omega))).1]; exact hN.2.2.2.1.2.2.2.2.1, by rw [(cellE (cB a3 (by omega))).2.1, (cellE (cA a3 (by omega))).2.1, hN.2.2.2.1.2.2.2.2.2]; exact inB_n (by omega), L i, by rw [nI_clamp (by omega), (cellE (cB a3 (by omega))).2.2, (cellE (cA a3 (by omega))).2.2]; exact e4, by rw [(cellE (cB b3 (by omega))).1, (cellE (cA b3 (by omega))).1]; exact p3.1, by rw [(cellE (cB b3 (by omega))).2.1, (cellE (cA b3 (by omega))).2.1, p3.2]; exact ibn, by rw [cbg2]; omega, fun g3 eg3 => ?_⟩
      rw [nI_clamp (by omega)] at eg3
      have cC : ∀ b, ¬ b = b3 → g3.2.2.1 b = g2.2.2.1 b := fun b hb => by rw [eg3]; exact set_cell hb
      rw [← nI_succ]
      have t1 : tg g1 b1 = some (.inr 5) ∧ ln g1 b1 = 4 * m := by rw [eg1]; exact ⟨(fset_tg p1.1).1, (fset_tg p1.1).2.1.trans p1.2⟩
      have t2 : tg g1 b2 = some (.inr 0) ∧ ln g1 b2 = 4 * m := by rw [(cellE (cA b2 (by omega))).1, (cellE (cA b2 (by omega))).2.1]; exact p2
      have t3 : tg g2 b3 = some (.inr 0) ∧ ln g2 b3 = 4 * m := by rw [(cellE (cB b3 (by omega))).1, (cellE (cB b3 (by omega))).2.1, (cellE (cA b3 (by omega))).1, (cellE (cA b3 (by omega))).2.1]; exact p3
      have x1 : g3.2.2.1 b1 = g1.2.2.1 b1 := (cC b1 (by omega)).trans (cB b1 (by omega))
      have x2 : g3.2.2.1 b2 = g2.2.2.1 b2 := cC b2 (by omega)
      have t2' : tg g2 b2 = some (.inr 0) ∧ ln g2 b2 = 4 * m := by rw [eg2]; exact ⟨(fset_tg t2.1).1, (fset_tg t2.1).2.1.trans t2.2⟩
      have t3' : tg g3 b3 = some (.inr 0) ∧ ln g3 b3 = 4 * m := by rw [eg3]; exact ⟨(fset_tg t3.1).1, (fset_tg t3.1).2.1.trans t3.2⟩
      have ge2 : gE [b2] g1 g2 := by rw [eg2]; exact gE.setA _ _ _ t2.1
      have ge3 : gE [b3] g2 g3 := by rw [eg3]; exact gE.setA _ _ _ t3.1
      refine ih (i + 1) g3 (by omega) (by omega) (((hg.trans ge1 (fun a ha => Or.inr (by rw [List.mem_singleton.mp ha]; omega))).trans ge2 (fun a ha => Or.inr (by rw [List.mem_singleton.mp ha]; omega))).trans ge3 (fun a ha => Or.inr (by rw [List.mem_singleton.mp ha]; omega))) (by rw [eg3, eg2, eg1]; exact hg1) (by rw [eg3, eg2, eg1]; exact hg2) (by rw [(cellE x1).1, (cellE x1).2.1]; exact t1) (by rw [(cellE x2).1, (cellE x2).2.1]; exact t2') t3' (fun k hk1 => ?_)
      · rw [(cellE x1).2.2, (cellE x2).2.2]
        by_cases ek : k = i
        · subst ek
          refine ⟨?_, ?_, ?_⟩
          · rw [eg1]; exact set_vl p1.1
          · rw [eg2]; exact set_vl t2.1
          · rw [eg3]; exact set_vl t3.1
        · obtain ⟨r1, r2, r3⟩ := pk k (by omega)
          refine ⟨?_, ?_, ?_⟩
          · rw [eg1]; exact (set_vn p1.1 ek).trans r1
          · rw [eg2]; refine (set_vn t2.1 ek).trans ?_; rw [(cellE (cA b2 (by omega))).2.2]; exact r2
          · rw [eg3]; refine (set_vn t3.1 ek).trans ?_; rw [(cellE (cB b3 (by omega))).2.2, (cellE (cA b3 (by omega))).2.2]; exact r3
  exact main _ 0 f3 (Nat.le_refl _) (Nat.zero_le _) g13 rfl rfl y1 y2 y3 (fun k hk => absurd hk (Nat.not_lt_zero _))
end ND
