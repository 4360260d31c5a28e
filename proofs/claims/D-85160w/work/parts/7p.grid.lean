/-! THE COMPONENT: a grid of 0s -/
section CGr
variable {l : Launch} {E : EN} {w : CO} {d : Nat} {s : CS} {f : RH} {Q : KO → CS → RH → Prop}
theorem fmu_vw (f : RH) (n w k : Nat) : Gw f (fmu f n w k) (n + 1 + k * (w + 1)) ∧ f.1 < (fmu f n w k).1 ∧ tg (fmu f n w k) f.1 = some (.inr 11) ∧ ln (fmu f n w k) f.1 = n ∧ ∀ i, i < k → vl (fmu f n w k) f.1 i = .ref (f.1 + 1 + i) ∧ f.1 + 1 + i < (fmu f n w k).1 ∧ tg (fmu f n w k) (f.1 + 1 + i) = some (.inr 0) ∧ ln (fmu f n w k) (f.1 + 1 + i) = w ∧ ∀ j, vl (fmu f n w k) (f.1 + 1 + i) j = .int 0 := by
  obtain ⟨z1, z2, z3, z4, z5, z6⟩ := fmu_sz f n w k
  obtain ⟨c1, c2, c3⟩ := cellv z4
  refine ⟨⟨by omega, z3, by omega, z5⟩, by omega, c1, c2, fun i hi => ?_⟩
  obtain ⟨d1, d2, d3⟩ := cellv (z6 i hi)
  exact ⟨by rw [c3, hmc_at, if_pos hi], by omega, d1, d2, d3⟩
theorem fmu_TB (f : RH) (n w : Nat) (hz : ez E ≤ f.1) : TB E f n (List.replicate n (List.replicate w 0)) (n + 1 + n * (w + 1)) (fmu f n w n) := by
  obtain ⟨g1, g2, g3, g4, g5⟩ := fmu_vw f n w n
  refine ⟨g1, g2, g3, g4, fun i hi => ?_⟩
  rw [List.length_replicate] at hi
  obtain ⟨e1, e2, e3, e4, e5⟩ := g5 i hi
  rw [getD_lt _ (by rw [List.length_replicate]; exact hi), List.getElem_replicate, e1]
  refine ⟨f.1 + 1 + i, vl (fmu f n w n) (f.1 + 1 + i), rfl, ⟨by omega, e2⟩, by rw [cellv' e3, e4, List.length_replicate], fun j hj => ?_⟩
  rw [List.length_replicate] at hj
  rw [e5, rep_getD w j _ hj]
theorem C_grid (hst : l.stackTraces = false) {x y place : Int32} (hroom : f.2.1 + 600 ≤ BM)
    (h2 : ((20 : Int) < x.toInt ∨ (64 : Int) < y.toInt ∨ (0 ≤ x.toInt ∧ 0 ≤ y.toInt ∧ 200 < x.toInt * y.toInt)) → Q (.inr 9) (cwrong s 2 place) f)
    (h3 : ¬ ((20 : Int) < x.toInt ∨ (64 : Int) < y.toInt ∨ (0 ≤ x.toInt ∧ 0 ≤ y.toInt ∧ 200 < x.toInt * y.toInt)) → (x < 0 ∨ y < 0) → ∀ f', Gw f f' 300 → Q (.inr 9) (cwrong s 1 place) f')
    (h1 : ¬ x < 0 → ¬ y < 0 → x.toNatClampNeg ≤ 20 → y.toNatClampNeg ≤ 64 → x.toNatClampNeg * y.toNatClampNeg ≤ 200 → Q (.inl (some (.ref f.1))) s (fmu f x.toNatClampNeg y.toNatClampNeg x.toNatClampNeg)) : EvC l E w (d + 1) MX6_grid [.ref (w.1 6), .int x, .int y, .int place] s f Q := by
  have hx20 : 20 < x ↔ (20 : Int) < x.toInt := i32_lt (n := 20) (by omega)
  have hy64 : 64 < y ↔ (64 : Int) < y.toInt := i32_lt (n := 64) (by omega)
  refine eX6_grid hst ⟨fun c => C_wrong hst (Q := Q) (h2 (Or.inl (hx20.mp c))) (fun _ _ _ => rfl), fun c => ⟨fun c2 => C_wrong hst (Q := Q) (h2 (Or.inr (Or.inl (hy64.mp c2)))) (fun _ _ _ => rfl), fun c2 => ⟨fun c3 => ⟨fun _ => ⟨(by show f.2.1 + 3 + 222 ≤ BM; omega), fun a8 f7 e => ?_⟩, fun z => absurd c3 z⟩, fun c3 => ⟨fun c4 => ⟨fun z => absurd z c3, fun _ => ⟨fun _ => ?_, fun z => absurd c4 z⟩⟩, fun c4 => ?_⟩⟩⟩⟩
  · subst e
    have n3 := i32_neg.mp c3
    have k1 := mt hx20.mpr c
    have k2 := mt hy64.mpr c2
    exact C_wrong hst (Q := Q) (h3 (by omega) (Or.inl c3) _ ((Gw.exc f).le)) (fun _ _ _ => rfl)
  · have n4 := i32_neg.mp c4
    have k1 := mt hx20.mpr c
    have k2 := mt hy64.mpr c2
    have hN := (i32_nat c3).1
    refine ⟨by omega, fun f22 e => ⟨?_, fun a24 f23 e2 => ?_⟩⟩
    · rw [e]; show f.2.1 + (x.toNatClampNeg + 1) + 3 + 222 ≤ BM; omega
    · subst e2 e
      exact C_wrong hst (Q := Q) (h3 (by omega) (Or.inr c4) _ (((Gw.push f _ _).trans (Gw.exc _)).le (by omega))) (fun _ _ _ => rfl)
  · have k1 := mt hx20.mpr c
    have k2 := mt hy64.mpr c2
    obtain ⟨hN, eN⟩ := i32_nat c3
    obtain ⟨hM, eM⟩ := i32_nat c4
    have h1' := h1 c3 c4
    have h2' := fun z => h2 (Or.inr (Or.inr z))
    rw [← hN, ← hM] at h2'
    rw [← hN] at k1
    rw [← hM] at k2
    generalize x.toNatClampNeg = N at *
    generalize y.toNatClampNeg = W at *
    have hNW : N * W ≤ 20 * 64 := Nat.mul_le_mul (by omega) (by omega)
    have hmul : x * y = nI (N * W) := by rw [eN, eM]; exact pk_mul N W
    have h200 : x * y ≤ 200 ↔ N * W ≤ 200 := by
      rw [hmul]
      have := i32_le (x := nI (N * W)) (n := 200) (by omega)
      rw [nI_toInt (by omega)] at this
      exact this.trans (by omega)
    refine ⟨fun c5 => ⟨fun z => absurd z c3, fun _ => ⟨fun z => absurd z c4, fun _ => ?_⟩⟩, fun c5 => C_wrong hst (Q := Q) (h2' ⟨by omega, by omega, ?_⟩) (fun _ _ _ => rfl)⟩
    · have := h200.mp c5
      refine ⟨by omega, by omega, (by show f.2.1 + (1 + N) + (N + N * W + W) ≤ BM; omega), fun a27 f28 e1 e2 => ?_⟩
      rw [e1, e2]
      exact h1' (by omega) (by omega) this
    · have := mt h200.mpr c5
      have e : (N : Int) * (W : Int) = ((N * W : Nat) : Int) := by push_cast; rfl
      omega
theorem C_b3 (hst : l.stackTraces = false) {n md : Nat} {x y : Th} {place many : Int32} (h : COk E n md [x, y] s f) (hQ : ∀ o s' f', cop E n md (zbi2 3 x y) place s f o s' f' → Q o s' f') : EvC l E w (d + 3) MX6_work [.ref (w.1 6), .int 3, .int many, .int place] s f Q := by
  obtain ⟨hx, hy, wx, wy, h26, h83⟩ := h.v2
  obtain ⟨⟨-, -, h40, hmd⟩, ⟨hr, hz, hcb⟩, -, -⟩ := h
  have hz1 : ez E ≤ f.1 := Nat.le_trans hz hcb
  have g := fnew_gw f 30
  have hbud := g.2.2.1
  rw [CZ30] at hbud
  have e2 : nI (n + 2) - 2 = nI n := by rw [show (2 : Int32) = nI 2 from rfl, pk_sub (by omega), Nat.add_sub_cancel]
  have e1 : nI (n + 2) - 1 = nI (n + 1) := nI_pred (n + 1)
  refine EvC.pfrz (eX6_work hst (br_f (by decide) (br_f (by decide) (br_f (by decide) (br_t rfl ⟨(by show f.2.1 + 1 + 2 ≤ BM; omega), fun a1 f2 q1 q2 => ?_⟩)))))
  subst q1 q2
  rw [h26, e2]
  have hb := zbi2_3 x y
  refine C_asInt hst (by omega) hx (fun cx => ⟨_, rfl, ?_⟩) (fun c => hQ _ _ _ (cop.tr (k := 3) (hb.trans (if_pos (Or.inl c))) rfl h40 (by omega)))
  rw [h26, e1]
  refine C_asInt hst (by omega) hy (fun cy => ⟨_, rfl, ?_⟩) (fun c => hQ _ _ _ (cop.tr (k := 3) (hb.trans (if_pos (Or.inr c))) rfl h40 (by omega)))
  rw [if_neg (by rintro (z | z); exact z cx; exact z cy)] at hb
  refine C_grid hst (by omega) (fun c => hQ _ _ _ (cop.tr (k := 2) (hb.trans (if_pos c)) rfl h40 (by omega))) (fun c c1 f' g' => hQ _ _ _ (cop.tr (k := 1) (hb.trans (by rw [if_neg c, if_pos c1])) rfl h40 (by have := g'.2.2.1; omega))) (fun c1 c2 c3 c4 c5 => ⟨_, rfl, ?_⟩)
  have hN := (i32_nat c1).1
  have hM := (i32_nat c2).1
  have hNM : (zv x).toInt * (zv y).toInt = (((zv x).toNatClampNeg * (zv y).toNatClampNeg : Nat) : Int) := by rw [← hN, ← hM]; push_cast; rfl
  rw [if_neg (by rw [hNM]; omega), if_neg (by rintro (z | z); exact c1 z; exact c2 z)] at hb
  generalize (zv x).toNatClampNeg = N at *
  generalize (zv y).toNatClampNeg = W at *
  have hT := fmu_TB (E := E) (fnew f 30) N W (by show ez E ≤ f.1 + 1; omega)
  have hlr : (List.replicate N (List.replicate W (0 : Int32))).length = N := List.length_replicate
  have hzis : zis (List.replicate N (List.replicate W (0 : Int32))) = N * W := by
    unfold zis
    rw [List.map_replicate, List.sum_replicate_nat, List.length_replicate]
  refine C_tabLate hst (R := List.replicate N (List.replicate W 0)) hT.1 hcb hT.2.2.1 (by rw [hT.2.2.2.1, hlr]) hT.2.1 hT.2.2.2.2 (fun f' q1 q2 => ⟨rfl, ?_⟩)
  rw [hlr] at q2
  have hmul : N * (W + 1) = N * W + N := Nat.mul_succ N W
  refine C_fin hst (parts := 2) (f0 := f) hb (cfr.rf JC n s) q2.2.2.1 q1 (by show ¬ 2 = 0; decide) ⟨by rw [hlr]; exact c3, by rw [hzis]; exact c5, fun r hr => by rw [(List.mem_replicate.mp hr).2, List.length_replicate]; exact c4⟩ h26 (by omega) h40 hmd ?_ hQ
  show _ ≤ 2 * (4 + 4 * (List.replicate N (List.replicate W (0 : Int32))).length + zis (List.replicate N (List.replicate W (0 : Int32))))
  rw [hlr, hzis]
  omega
end CGr
