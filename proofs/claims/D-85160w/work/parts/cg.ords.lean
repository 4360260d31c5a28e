/-! WHAT ORDERS A PROGRAM HAS -/
def Al (R : Nat → Prop) (a b : Nat) : Prop := a ≤ b ∧ ∀ i, a ≤ i → i < b → R i
theorem Al.app {R : Nat → Prop} {a b c : Nat} (h : Al R a b) (k : Al R b c) : Al R a c := ⟨Nat.le_trans h.1 k.1, fun i h1 h2 => by
  by_cases q : i < b
  · exact h.2 i h1 q
  · exact k.2 i (by omega) h2⟩
theorem Al.one {R : Nat → Prop} {a : Nat} (h : R a) : Al R a (a + 1) := ⟨Nat.le_succ _, fun i h1 h2 => by
  have e : i = a := by omega
  rw [e]; exact h⟩
theorem Al.cover {R : Nat → Prop} {c : Nat → Nat} : ∀ m, (∀ k, k < m → Al R (c k) (c (k + 1))) → Al R (c 0) (c m)
  | 0, _ => ⟨Nat.le_refl _, fun i h1 h2 => by omega⟩
  | m + 1, h => (Al.cover m (fun k hk => h k (by omega))).app (h m (by omega))
def qP (P : Pg) (j : Nat) : Nat := (P.2 j).1
/-- what an order is made of -/
def odG (M : Nat) (q : Nat → Nat) (o : Od) : Prop := (1 ≤ o.1 ∧ o.1 < 25) ∧ (o.1 = 5 → nI o.2.1 ∈ zSg) ∧ (o.1 = 4 → o.2.1 = 33 ∨ o.2.1 = 45) ∧ (o.1 ∈ [3, 4, 6, 8, 9, 10, 12, 13, 14, 15, 18, 23, 24] → o.2.1 < 8000) ∧ (o.1 ∈ [3, 12, 13] → o.2.1 < 22) ∧ (o.1 ∈ [8, 9, 11, 18, 23] → o.2.2.1 < 8000) ∧ (o.1 ∈ [18, 23] → o.2.2.1 < 22) ∧ (o.1 = 13 → o.2.2.1 < 8000) ∧ (o.1 = 8 → bsu o.2.1 o.2.2.1) ∧ (o.1 = 9 → o.2.1 < M ∧ q o.2.1 ≤ 630) ∧ (o.1 = 11 → o.2.2.1 < M ∧ q o.2.2.1 ≤ 630)
theorem odG.plain {q : Nat → Nat} {M k x y : Nat} {z pl : Int32} (hk : k ∈ [1, 2, 7, 16, 17, 19, 20, 21, 22]) : odG M q (k, x, y, z, pl) := by
  simp only [List.mem_cons, List.not_mem_nil, or_false] at hk
  rcases hk with rfl | rfl | rfl | rfl | rfl | rfl | rfl | rfl | rfl <;> simp [odG]
theorem odG.jump {q : Nat → Nat} {M k x y : Nat} {z pl : Int32} (hk : k ∈ [6, 10, 14, 15, 24]) (hx : x < 8000) : odG M q (k, x, y, z, pl) := by
  simp only [List.mem_cons, List.not_mem_nil, or_false] at hk
  rcases hk with rfl | rfl | rfl | rfl | rfl <;> simp [odG, hx]
theorem odG.nam {q : Nat → Nat} {M k x y : Nat} {z pl : Int32} (hk : k ∈ [3, 12]) (hx : x < 22) : odG M q (k, x, y, z, pl) := by
  have : x < 8000 := by omega
  simp only [List.mem_cons, List.not_mem_nil, or_false] at hk
  rcases hk with rfl | rfl <;> simp [odG, hx, this]
theorem odG.put {q : Nat → Nat} {M x y : Nat} {z pl : Int32} (hx : x < 22) (hy : y < 8000) : odG M q (13, x, y, z, pl) := by
  have : x < 8000 := by omega
  simp [odG, hx, this, hy]
theorem odG.loop {q : Nat → Nat} {M k x y : Nat} {z pl : Int32} (hk : k ∈ [18, 23]) (hx : x < 8000) (hy : y < 22) : odG M q (k, x, y, z, pl) := by
  have : y < 8000 := by omega
  simp only [List.mem_cons, List.not_mem_nil, or_false] at hk
  rcases hk with rfl | rfl <;> simp [odG, hx, this, hy]
section OD
variable {f : RH} {P : Pg} {F : Nat → Nat} {M nv : Nat}
theorem RepN_od (hM : M ≤ 24) (hv : nv ≤ 14) : ∀ {g : Nat} {v : Value} {a b h : Nat}, RepN f P F M nv g v a b h → h ≤ 700 → Al (fun i => odG M (qP P) (P.1 i)) a b := by
  intro g
  induction g with
  | zero => intro v a b h q; exact absurd q id
  | succ g ih =>
    intro v a b h q hh
    obtain ⟨p, pl, h1, h2, h3, h4, q⟩ := q
    rcases q with ⟨q0, c, q, x, y, q1, q2, rfl⟩ | ⟨q0, n, x, y, q1, q2, q3, rfl⟩ | ⟨q0, t, s, x, y, z, q1, q2, q3, q4, rfl⟩ | ⟨q0, q, m, V, S, L, c, q1, q2, q3, q4, q5, q6, q7, rfl⟩ | ⟨q0, q, m, V, L, c, q1, q2, q4, q5, q6, q7, rfl⟩ | ⟨q0, q, m, x, y, V, c, q1, q2, q3, q4, q5, q6, rfl⟩ | ⟨q0, q, m, s, y, V, c, q1, q2, q3, q4, q5, q6, q7, q8, rfl⟩ | ⟨q0, q, m, j, s, y, V, c, q1, q2, q3, q4, q5, q6, q7, q8, q9, q10⟩
    · refine Al.one ?_
      show odG M (qP P) (P.1 a)
      rw [q2]; exact odG.plain (by decide)
    · refine Al.one ?_
      show odG M (qP P) (P.1 a)
      rw [q3]; exact odG.nam (by decide) (by omega)
    · refine (ih q2 hh).app (Al.one ?_)
      show odG M (qP P) (P.1 t)
      rw [q4]
      have : s < 8000 := by omega
      simp [odG, q3.2, this]
    · have hc : Al (fun i => odG M (qP P) (P.1 i)) ((fun k => if k = 0 then a else c k) 0) ((fun k => if k = 0 then a else c k) m) := by
        refine Al.cover (R := fun i => odG M (qP P) (P.1 i)) (c := fun k => if k = 0 then a else c k) m (fun k hk => ?_)
        show Al _ (if k = 0 then a else c k) (if k + 1 = 0 then a else c (k + 1))
        rw [if_neg (by omega : ¬ k + 1 = 0)]
        by_cases e : k = 0
        · subst e; rw [if_pos rfl]; exact ih q6 hh
        · rw [if_neg e]
          obtain ⟨t, x, h', y, r1, r2, r3, r4, r5⟩ := q7 k (by omega) hk
          rw [r5]
          refine (ih r2 (by omega)).app (Al.one ?_)
          show odG M (qP P) (P.1 t)
          rw [r4]; simp [odG, r3]
      rw [show (fun k => if k = 0 then a else c k) m = c m from if_neg (by omega)] at hc
      exact hc
    · have hc : Al (fun i => odG M (qP P) (P.1 i)) ((fun k => if k = 0 then a else c k) 0) ((fun k => if k = 0 then a else c k) m) := by
        refine Al.cover (R := fun i => odG M (qP P) (P.1 i)) (c := fun k => if k = 0 then a else c k) m (fun k hk => ?_)
        show Al _ (if k = 0 then a else c k) (if k + 1 = 0 then a else c (k + 1))
        rw [if_neg (by omega : ¬ k + 1 = 0)]
        by_cases e : k = 0
        · subst e; rw [if_pos rfl]; exact ih q6 hh
        · rw [if_neg e]
          obtain ⟨t, x, z, h', y, r1, r2, r4, r5⟩ := q7 k (by omega) hk
          rw [r5]
          refine (ih r2 (by omega)).app (Al.one ?_)
          show odG M (qP P) (P.1 t)
          rw [r4]; exact odG.plain (by decide)
      rw [show (fun k => if k = 0 then a else c k) m = c m from if_neg (by omega)] at hc
      exact hc
    · rw [← q4]
      refine (Al.cover m (fun k hk => ?_)).app (Al.one ?_)
      · obtain ⟨hk', r1, r2⟩ := q5 k hk
        exact ih r2 (by omega)
      · show odG M (qP P) (P.1 (c m))
        rw [q6]; exact odG.jump (by decide) (by omega)
    · rw [← q6]
      refine (Al.cover m (fun k hk => ?_)).app (Al.one ?_)
      · obtain ⟨hk', r1, r2⟩ := q7 k hk
        exact ih r2 (by omega)
      · show odG M (qP P) (P.1 (c m))
        rw [q8]
        have e1 : s < 8000 := by unfold bsu at q4; omega
        have e2 : m < 8000 := by omega
        simp [odG, q4, e1, e2]
    · rw [← q8]
      have hcv := Al.cover (R := fun i => odG M (qP P) (P.1 i)) (c := c) m (fun k hk => by
        obtain ⟨hk', r1, r2⟩ := q9 k hk
        exact ih r2 (by omega))
      rcases q10 with ⟨-, r1, rfl⟩ | ⟨x1, x2, y2, r0, r1, r2, rfl⟩
      · refine hcv.app (Al.one ?_)
        show odG M (qP P) (P.1 (c m))
        rw [r1]
        have e1 : j < 8000 := by omega
        have e2 : m < 8000 := by omega
        have e3 : qP P j ≤ 630 := by unfold qP; omega
        simp [odG, q4, e1, e2, e3]
      · refine hcv.app (Al.app (b := c m + 1) (Al.one ?_) (Al.one ?_))
        · show odG M (qP P) (P.1 (c m))
          rw [r1]; exact odG.jump (by decide) (by omega)
        · show odG M (qP P) (P.1 (c m + 1))
          rw [r2]
          have e3 : qP P j ≤ 630 := by unfold qP; omega
          have e1 : j < 8000 := by omega
          simp [odG, q4, e3, e1]
theorem RepX_od (hM : M ≤ 24) (hv : nv ≤ 14) : ∀ {g : Nat} {bl : Bool} {v : Value} {a b u h : Nat}, RepX f P F M nv g bl v a b u h → h ≤ 700 → a ≤ b ∧ (b < 8000 → Al (fun i => odG M (qP P) (P.1 i)) a b) := by
  intro g
  induction g with
  | zero => intro bl v a b u h q; cases bl <;> exact absurd q id
  | succ g ih =>
    intro bl v a b u h q hh
    have one : ∀ {i : Nat} {o : Od}, P.1 i = o → odG M (qP P) o → Al (fun i => odG M (qP P) (P.1 i)) i (i + 1) := fun e k => Al.one (by show odG M (qP P) (P.1 _); rw [e]; exact k)
    cases bl with
    | false =>
      obtain ⟨p, m, r, V, c, h1, h2, h3, h4, h5, h6, h7, h8, h9, h10, rfl, rfl, q⟩ := q
      have le : ∀ k, k < m → c k + 1 ≤ c (k + 1) := fun k hk => by
        obtain ⟨q', x, y, z, pl, r1, r2, r3, r4, r5⟩ := q k hk
        exact (ih r5 hh).1
      have mon : ∀ d k, k + d ≤ m → c k ≤ c (k + d) := by
        intro d
        induction d with
        | zero => intro k _; exact Nat.le_refl _
        | succ d ihd =>
          intro k hk
          have := ihd k (by omega)
          have := le (k + d) (by omega)
          rw [show k + (d + 1) = k + d + 1 by omega]
          omega
      refine ⟨by have := mon m 0 (by omega); rw [Nat.zero_add] at this; exact this, fun hb => Al.cover m (fun k hk => ?_)⟩
      obtain ⟨q', x, y, z, pl, r1, r2, r3, r4, r5⟩ := q k hk
      have hb' : c (k + 1) < 8000 := by
        have := mon (m - (k + 1)) (k + 1) (by omega)
        rw [show k + 1 + (m - (k + 1)) = m by omega] at this
        omega
      exact (one r4 (odG.plain (by decide))).app ((ih r5 hh).2 hb')
    | true =>
      obtain ⟨p, pl, h1, h2, h3, h4, q⟩ := q
      rcases q with ⟨q0, t, i, x, y, z, q1, q2, rfl, q4, q5, q6⟩ | ⟨q0, t, e, x, z, q1, q2, q3⟩ | ⟨q0, t, j, x, y, x1, x2, z, z1, z2, z3, q1, q2, q3, q4, q5, rfl⟩ | ⟨q0, t, j, n, x, y, x2, u', h', z, z1, z2, z3, q1, q2, q3, q4, q5, q6, q7, q8, q9, rfl⟩ | ⟨q0, j, e, n, x, u', z, z1, z2, on, q1, q2, q3, q4, q5, q6, q7, rfl, q9⟩ | ⟨q0, n, q1, q2, q3⟩
      · have r1 := RepN_od hM hv q2 hh
        refine ⟨by have := r1.1; omega, fun hb => r1.app (one q6 ?_)⟩
        rcases (show i = 1 ∨ i = 2 ∨ i = 3 ∨ i = 4 by omega) with rfl | rfl | rfl | rfl <;> exact odG.plain (by decide)
      · have r1 := RepN_od hM hv q1 hh
        have l1 := r1.1
        rcases q3 with ⟨-, q3, rfl⟩ | ⟨j, x1, z1, z2, q', -, q3, q4, rfl, q5⟩
        · have r2 := ih q3 hh
          exact ⟨by have := r2.1; omega, fun hb => (r1.app (one q2 (odG.jump (by decide) hb))).app (r2.2 hb)⟩
        · have r2 := ih q3 hh
          have r3 := ih q5 hh
          have := r2.1
          have := r3.1
          exact ⟨by omega, fun hb => ((r1.app (one q2 (odG.jump (by decide) (by omega)))).app (r2.2 (by omega))).app ((one q4 (odG.jump (by decide) hb)).app (r3.2 hb))⟩
      · have r1 := RepN_od hM hv q2 hh
        have r2 := ih q4 hh
        have := r1.1
        have := r2.1
        exact ⟨by omega, fun hb => (((one q1 (odG.plain (by decide))).app r1).app (one q3 (odG.jump (by decide) hb))).app ((r2.2 (by omega)).app (one q5 (odG.jump (by decide) (by omega))))⟩
      · have r1 := RepN_od hM hv q3 hh
        have r2 := ih q8 (by omega)
        have := r1.1
        have := r2.1
        refine ⟨by omega, fun hb => ((r1.app (one q4 (odG.plain (by decide)))).app ?_).app ((r2.2 (by omega)).app (one q9 (odG.jump (by decide) (by omega))))⟩
        exact one q5 (odG.loop (by decide) hb (by omega))
      · have r1 := ih q6 hh
        have r2 := ih q9 hh
        have := r1.1
        have := r2.1
        exact ⟨by omega, fun hb => ((one q4 (odG.loop (by decide) (by omega) (by omega))).app (r1.2 (by omega))).app ((one q7 (odG.jump (by decide) hb)).app (r2.2 hb))⟩
      · rcases q3 with ⟨-, -, t, x, z, z1, r1, r2, rfl⟩ | ⟨-, t1, t, hx, np, fp, -, -, r1, r2, r3, r4, rfl⟩ | ⟨t1, t2, t, hx, hy, sp, q', np, fp, -, -, -, -, r0, r1, r2, r3, r4, r5, r6, rfl⟩
        · have s1 := RepN_od hM hv r1 hh
          exact ⟨by have := s1.1; omega, fun hb => s1.app (one r2 (odG.nam (by decide) (by omega)))⟩
        · have s1 := RepN_od hM hv r1 hh
          have s2 := RepN_od hM hv r3 (by omega)
          exact ⟨by have := s1.1; have := s2.1; omega, fun hb => (s1.app s2).app (one r4 (odG.put (by omega) (by omega)))⟩
        · have s1 := RepN_od hM hv r1 hh
          have s2 := RepN_od hM hv r3 (by omega)
          have s3 := RepN_od hM hv r5 (by omega)
          exact ⟨by have := s1.1; have := s2.1; have := s3.1; omega, fun hb => ((s1.app s2).app s3).app (one r6 (odG.put (by omega) (by omega)))⟩
end OD
