/-! THE MODEL'S PARSER: orders, what waits -/
theorem base_eq {hf : Nat} (h : hf ≤ 1) : (4000 : Int32) * (1 - nI hf) = nI (4000 * (1 - hf)) := by
  have : hf = 0 ∨ hf = 1 := by omega
  rcases this with rfl | rfl <;> decide
theorem sO5 (s : MS) (k : Nat) (x1 x2 x3 x4 v : Int32) : ∀ s', s' = sI (sA (sA (sA (sA (sA s 80 k x1) 81 k x2) 82 k x3) 83 k 0) 84 k x4) 85 v → (s'.2.2.1 80 k = x1 ∧ s'.2.2.1 81 k = x2 ∧ s'.2.2.1 82 k = x3 ∧ s'.2.2.1 84 k = x4) ∧ (∀ j i, (j ∉ [80, 81, 82, 83, 84] ∨ ¬ i = k) → s'.2.2.1 j i = s.2.2.1 j i) ∧ s'.2.2.2 = s.2.2.2 ∧ s'.2.1 = s.2.1 ∧ s'.1 85 = v ∧ (∀ j, ¬ j = 85 → s'.1 j = s.1 j) := by
  intro s' e
  subst e
  refine ⟨⟨by simp [sI, sA], by simp [sI, sA], by simp [sI, sA], by simp [sI, sA]⟩, fun j i h => ?_, rfl, rfl, rfl, fun j hj => if_neg hj⟩
  have h' : ∀ q, q ∈ [80, 81, 82, 83, 84] → ¬ (j = q ∧ i = k) := fun q hq z => by
    rcases h with h | h
    · exact h (z.1 ▸ hq)
    · exact h z.2
  show (sA (sA (sA (sA (sA s 80 k x1) 81 k x2) 82 k x3) 83 k 0) 84 k x4).2.2.1 j i = _
  rw [sA_ne _ _ (h' 84 (by decide)), sA_ne _ _ (h' 83 (by decide)), sA_ne _ _ (h' 82 (by decide)), sA_ne _ _ (h' 81 (by decide)), sA_ne _ _ (h' 80 (by decide))]
theorem sW4 (s : MS) (k : Nat) (x1 x2 x3 v : Int32) : ∀ s', s' = sI (sA (sA (sA (sA s 95 k x1) 96 k x2) 97 k 0) 98 k x3) 101 v → (s'.2.2.1 95 k = x1 ∧ s'.2.2.1 96 k = x2 ∧ s'.2.2.1 97 k = 0 ∧ s'.2.2.1 98 k = x3) ∧ (∀ j i, (j ∉ [95, 96, 97, 98] ∨ ¬ i = k) → s'.2.2.1 j i = s.2.2.1 j i) ∧ s'.2.2.2 = s.2.2.2 ∧ s'.2.1 = s.2.1 ∧ s'.1 101 = v ∧ (∀ j, ¬ j = 101 → s'.1 j = s.1 j) := by
  intro s' e
  subst e
  refine ⟨⟨by simp [sI, sA], by simp [sI, sA], by simp [sI, sA], by simp [sI, sA]⟩, fun j i h => ?_, rfl, rfl, rfl, fun j hj => if_neg hj⟩
  have h' : ∀ q, q ∈ [95, 96, 97, 98] → ¬ (j = q ∧ i = k) := fun q hq z => by
    rcases h with h | h
    · exact h (z.1 ▸ hq)
    · exact h z.2
  show (sA (sA (sA (sA s 95 k x1) 96 k x2) 97 k 0) 98 k x3).2.2.1 j i = _
  rw [sA_ne _ _ (h' 98 (by decide)), sA_ne _ _ (h' 97 (by decide)), sA_ne _ _ (h' 96 (by decide)), sA_ne _ _ (h' 95 (by decide))]
theorem sgV_slv {a : Nat} (h : sgV a) : slv a ≤ 3 ∧ a < 512 ∧ nI a ∈ zSg ∧ nI (mSg a) = zsM (nI a) := by
  rcases h with rfl | rfl | rfl | rfl | rfl | rfl | rfl | rfl | rfl | rfl | rfl | rfl | rfl <;> decide
theorem tk_sg {ch : Nat → Nat} {n k : Nat} (h : (tk ch n k).1 = 3) : (tk ch n k).2.2.1 < 128 ∨ (tk ch n k).2.2.1 = 317 ∨ (tk ch n k).2.2.1 = 289 ∨ (tk ch n k).2.2.1 = 316 ∨ (tk ch n k).2.2.1 = 318 := by
  unfold tk at h ⊢
  dsimp only at h ⊢
  split at h
  · cases h
  rename_i h0
  rw [if_neg h0]
  split at h
  · split at h <;> cases h
  rename_i h1
  rw [if_neg h1]
  split at h
  · split at h <;> cases h
  rename_i h2
  rw [if_neg h2]
  split at h
  · rename_i h3
    rw [if_pos h3]
    rcases isTw_mem h3.1 with e | e | e | e <;> dsimp only <;> omega
  rename_i h3
  rw [if_neg h3]
  split at h
  · rename_i h4
    rw [if_pos h4]
    have := isS_mem h4
    dsimp only; omega
  · cases h
/-- what waits lies as it lay -/
def wSame (s s' : MS) : Prop := (∀ j ∈ [95, 96, 97, 98, 100], s'.2.2.1 j = s.2.2.1 j) ∧ s'.2.2.2 99 = s.2.2.2 99
theorem wSame.trans {s s' s'' : MS} (h : wSame s s') (k : wSame s' s'') : wSame s s'' := ⟨fun j hj => (k.1 j hj).trans (h.1 j hj), k.2.trans h.2⟩
theorem wSame.e {s s' : MS} {k : Nat} {x : XE} (h : wSame s s') (g : mXe s k x) : mXe s' k x := g.cg (fun j hj => by rw [h.1 j hj]) (by rw [h.2])
section PM3
variable {l : Launch} {E : EN} {w : MO} {d : Nat} {s s0 s' : MS} {Q : Option Value → MS → Prop} {ch : Nat → Nat} {n hf p p' o o' c : Nat} {vs : List Nat} {O : Nat → Od} {B : List Tok} {X : List XE} {g : Nat}
theorem MP_order (hst : l.stackTraces = false) {od : Od} {x1 x2 x3 x4 : Int32} (h : mXg g ch n hf s0 ((p, o), vs, O, c, B, X) s) (hc : c < 4000) (e1 : x1 = nI od.1) (e2 : x2 = (if od.1 = 2 then od.2.2.2.1 else if od.1 = 5 then zsM (nI od.2.1) else nI od.2.1)) (e3 : x3 = nI od.2.2.1) (e4 : x4 = od.2.2.2.2) (h13 : ¬ od.1 = 13)
    (hQ : ∀ s', mXg g ch n hf s0 ((p, o), vs, oup O (4000 * (1 - hf) + c) od, c + 1, B, X) s' → wSame s s' → Q (some (.int (nI (4000 * (1 - hf) + c)))) s') : EvM l E w d MX10_order [.ref w.1, .int x1, .int x2, .int x3, .int x4] s Q := by
  obtain ⟨h1, h2, h3, h4, h5, h6, h7⟩ := h
  refine eX10_order hst ?_
  have hh := h1.2.2.2.1
  have h51 : s.1 85 = nI c := h5.1
  intro y ey
  rw [h1.2.2.1, base_eq hh, h51, nI_add] at ey
  have hy : y.toNatClampNeg = 4000 * (1 - hf) + c := by rw [ey, nI_clamp (by omega)]
  have hi : inB y 8000 := by rw [ey]; exact inB_n (by omega)
  refine ⟨hi, hi, hi, hi, hi, ?_⟩
  rw [hy, ey]
  obtain ⟨s', es⟩ : ∃ s', s' = sI (sA (sA (sA (sA (sA s 80 (4000 * (1 - hf) + c) x1) 81 (4000 * (1 - hf) + c) x2) 82 (4000 * (1 - hf) + c) x3) 83 (4000 * (1 - hf) + c) 0) 84 (4000 * (1 - hf) + c) x4) 85 (s.1 85 + 1) := ⟨_, rfl⟩
  rw [← es]
  obtain ⟨g1, g2, g3, g4, g5, g6⟩ := sO5 s _ _ _ _ _ _ s' es
  refine hQ s' ⟨h1.fr ⟨fun j hj => g6 j (fun z => hj (by rw [z]; decide)), fun j _ => by rw [g4], fun j hj => funext fun i => g2 j i (Or.inl (fun z => hj (by revert z; unfold AX; simp only [List.mem_cons, List.not_mem_nil, or_false]; omega))), fun j _ => by rw [g3], fun j i hi _ => g2 j i (Or.inr (by omega))⟩, ⟨⟨(g6 62 (by decide)).trans h2.1.1, (g6 63 (by decide)).trans h2.1.2.1, (g6 65 (by decide)).trans h2.1.2.2.1, fun z => by rw [g4]; exact h2.1.2.2.2.1 z, fun z => by rw [g4]; exact h2.1.2.2.2.2 z⟩, h2.2⟩, ⟨(g6 66 (by decide)).trans h3.1, (g6 68 (by decide)).trans h3.2.1, h3.2.2⟩, fun q => (h4 q).cg (g6 79 (by decide)) (fun _ _ => by rw [g3]), ⟨?_, fun i hi1 hi2 => ?_⟩, h6.up1.cg (g6 86 (by decide)) (fun j hj k _ => g2 j k (Or.inl (by revert hj; simp only [List.mem_cons, List.not_mem_nil, or_false]; omega))) (fun _ _ => by rw [g3]), fun q => (h7 q).cg (g6 101 (by decide)) (fun j hj k _ => g2 j k (Or.inl (by revert hj; simp only [List.mem_cons, List.not_mem_nil, or_false]; omega))) (fun _ _ => by rw [g3])⟩ ⟨fun j hj => funext fun k => g2 j k (Or.inl (by revert hj; simp only [List.mem_cons, List.not_mem_nil, or_false]; omega)), by rw [g3]⟩
  · rw [g5, h51]; exact (nI_succ c).symm
  · by_cases e : i = 4000 * (1 - hf) + c
    · subst e
      rw [show (((p, o), vs, oup O (4000 * (1 - hf) + c) od, c + 1, B, X) : PZ).2.2.1 (4000 * (1 - hf) + c) = od from oup_at _ _ _]
      refine ⟨g1.1.trans e1, g1.2.1.trans e2, ?_, fun z => absurd z h13, g1.2.2.2.trans e4⟩
      rw [if_neg h13]; exact g1.2.2.1.trans e3
    · rw [show (((p, o), vs, oup O (4000 * (1 - hf) + c) od, c + 1, B, X) : PZ).2.2.1 i = O i from oup_ne _ _ e]
      have hi2' : i < 4000 * (1 - hf) + (c + 1) := hi2
      exact (h5.2 i hi1 (by show i < 4000 * (1 - hf) + c; omega)).cg (fun j _ => g2 j i (Or.inr e))
theorem MP_wait (hst : l.stackTraces = false) {k a pl : Nat} {x1 x2 x3 : Int32} (h : mX ch n hf s0 ((p, o), vs, O, c, B, X) s) (hX : X.length < 80) (e1 : x1 = nI k) (e2 : ¬ k = 6 → x2 = nI (mSg a)) (e3 : x3 = nI pl) (hk : k ≤ 8) (ha : a < 1000) (h1 : k = 1 → sgV a) (h2 : k = 2 → a = 33 ∨ a = 45) (hQ : ∀ s', mX ch n hf s0 ((p, o), vs, O, c, B, X) (sI s' 101 (nI X.length)) → s'.1 101 = nI (X.length + 1) → (∀ s'' nm na, (∀ j, s''.1 j = s'.1 j) → s''.2.1 = s'.2.1 → (∀ j i, (j = 100 ∧ i = X.length) ∨ s''.2.2.1 j i = s'.2.2.1 j i) → (∀ j i, (j = 99 ∧ i = X.length) ∨ s''.2.2.2 j i = s'.2.2.2 j i) → (6 ≤ k → s''.2.2.2 99 X.length = lN nm ∧ s''.2.2.1 100 X.length = nI na) → mX ch n hf s0 ((p, o), vs, O, c, B, (k, a, 0, pl, nm, na) :: X) s'') → Q none s') : EvM l E w d MX10_wait [.ref w.1, .int x1, .int x2, .int x3] s Q := by
  obtain ⟨i1, i2, i3, i4, i5, i6, i7⟩ := h
  replace i7 : mWs s X := i7 (Nat.le_refl _)
  have i71 : s.1 101 = nI X.length := i7.1
  refine eX10_wait hst ?_
  rw [i71, nI_clamp (by omega)]
  refine ⟨inB_n hX, inB_n hX, inB_n hX, inB_n hX, ?_⟩
  obtain ⟨s', es⟩ : ∃ s', s' = sI (sA (sA (sA (sA s 95 X.length x1) 96 X.length x2) 97 X.length 0) 98 X.length x3) 101 (nI X.length + 1) := ⟨_, rfl⟩
  rw [← es]
  obtain ⟨g1, g2, g3, g4, g5, g6⟩ := sW4 s _ _ _ _ _ s' es
  have fr : ∀ s'', (∀ j, ¬ j = 101 → s''.1 j = s.1 j) → s''.2.1 = s.2.1 → (∀ j i, ((j = 95 ∨ j = 96 ∨ j = 97 ∨ j = 98 ∨ j = 100) ∧ i = X.length) ∨ s''.2.2.1 j i = s.2.2.1 j i) → (∀ j i, (j = 99 ∧ i = X.length) ∨ s''.2.2.2 j i = s.2.2.2 j i) → ∀ X', mWs s'' X' → mX ch n hf s0 ((p, o), vs, O, c, B, X') s'' := by
    intro s'' f1 f2 f3 f4 X' hw
    have fa : ∀ j i, ¬ (j = 95 ∨ j = 96 ∨ j = 97 ∨ j = 98 ∨ j = 100) → s''.2.2.1 j i = s.2.2.1 j i := fun j i z => (f3 j i).resolve_left (fun y => z y.1)
    have fb : ∀ j i, ¬ j = 99 → s''.2.2.2 j i = s.2.2.2 j i := fun j i z => (f4 j i).resolve_left (fun y => z y.1)
    refine ⟨i1.fr ⟨fun j hj => f1 j (fun z => hj (by rw [z]; decide)), fun j _ => by rw [f2], fun j hj => funext fun i => fa j i (fun z => hj (by unfold AX; simp only [List.mem_cons, List.not_mem_nil, or_false]; omega)), fun j hj => funext fun i => fb j i (fun z => hj (by rw [z]; decide)), fun j i _ hj => fa j i (by revert hj; simp only [List.mem_cons, List.not_mem_nil, or_false]; omega)⟩, ⟨⟨(f1 62 (by decide)).trans i2.1.1, (f1 63 (by decide)).trans i2.1.2.1, (f1 65 (by decide)).trans i2.1.2.2.1, fun z => by rw [f2]; exact i2.1.2.2.2.1 z, fun z => by rw [f2]; exact i2.1.2.2.2.2 z⟩, i2.2⟩, ⟨(f1 66 (by decide)).trans i3.1, (f1 68 (by decide)).trans i3.2.1, i3.2.2⟩, fun q => (i4 q).cg (f1 79 (by decide)) (fun k _ => fb 78 k (by decide)), i5.cg (f1 85 (by decide)) (fun j hj i _ _ => fa j i (by revert hj; simp only [List.mem_cons, List.not_mem_nil, or_false]; omega)), i6.cg (f1 86 (by decide)) (fun j hj i _ => fa j i (by revert hj; simp only [List.mem_cons, List.not_mem_nil, or_false]; omega)) (fun k _ => fb 90 k (by decide)), fun _ => hw⟩
  have h101 : s'.1 101 = nI (X.length + 1) := by rw [g5, nI_succ]
  have k3 : ∀ j i, ((j = 95 ∨ j = 96 ∨ j = 97 ∨ j = 98 ∨ j = 100) ∧ i = X.length) ∨ s'.2.2.1 j i = s.2.2.1 j i := fun j i => by
    by_cases e : (j = 95 ∨ j = 96 ∨ j = 97 ∨ j = 98) ∧ i = X.length
    · exact Or.inl ⟨by omega, e.2⟩
    · refine Or.inr (g2 j i ?_)
      by_cases e2 : i = X.length
      · refine Or.inl (fun z => e ⟨by revert z; simp only [List.mem_cons, List.not_mem_nil, or_false]; omega, e2⟩)
      · exact Or.inr e2
  refine hQ s' ?_ h101 ?_
  · refine fr _ (fun j hj => (sI_ne s' _ hj).trans (g6 j hj)) g4 k3 (fun j i => Or.inr (by show s'.2.2.2 j i = _; rw [g3])) X ⟨rfl, i7.2.cg (fun j hj k hk => (k3 j k).resolve_left (fun z => by have hk : k < X.length := hk; omega)) (fun k _ => by show s'.2.2.2 99 k = _; rw [g3])⟩
  · intro s'' nm na f1 f2 f3 f4 f5
    have z3 : ∀ j i, ((j = 95 ∨ j = 96 ∨ j = 97 ∨ j = 98 ∨ j = 100) ∧ i = X.length) ∨ s''.2.2.1 j i = s.2.2.1 j i := fun j i => by
      rcases f3 j i with q | q
      · exact Or.inl ⟨by omega, q.2⟩
      · rw [q]; exact k3 j i
    have z4 : ∀ j i, (j = 99 ∧ i = X.length) ∨ s''.2.2.2 j i = s.2.2.2 j i := fun j i => by
      rcases f4 j i with q | q
      · exact Or.inl q
      · rw [q, g3]; exact Or.inr rfl
    have zk : ∀ j, ¬ j = 100 → s''.2.2.1 j X.length = s'.2.2.1 j X.length := fun j hj => (f3 j _).resolve_left (fun z => hj z.1)
    refine fr s'' (fun j hj => (f1 j).trans (g6 j hj)) (f2.trans g4) z3 z4 _ ⟨(f1 101).trans h101, ⟨?_, i7.2.cg (fun j hj k hk => (z3 j k).resolve_left (fun z => by have hk : k < X.length := hk; omega)) (fun k hk => (z4 99 k).resolve_left (fun z => by have hk : k < X.length := hk; omega))⟩⟩
    refine ⟨?_, fun z => ?_, ?_, ?_, fun z => f5 z, ⟨hk, ha, by show 0 < 10000; decide⟩, h1, h2⟩
    · rw [zk 95 (by decide)]; exact g1.1.trans e1
    · rw [zk 96 (by decide)]; exact g1.2.1.trans (e2 z)
    · rw [zk 97 (by decide)]; exact g1.2.2.1
    · rw [zk 98 (by decide)]; exact g1.2.2.2.trans e3
/-- what waits and is no call -/
theorem MP_wait1 (hst : l.stackTraces = false) {k a pl : Nat} {x1 x2 x3 : Int32} (h : mX ch n hf s0 ((p, o), vs, O, c, B, X) s) (hX : X.length < 80) (e1 : x1 = nI k) (e2 : x2 = nI (mSg a)) (e3 : x3 = nI pl) (hk : k ≤ 5) (ha : a < 1000) (h1 : k = 1 → sgV a) (h2 : k = 2 → a = 33 ∨ a = 45) (hQ : ∀ s', mX ch n hf s0 ((p, o), vs, O, c, B, (k, a, 0, pl, 0, 0) :: X) s' → Q none s') : EvM l E w d MX10_wait [.ref w.1, .int x1, .int x2, .int x3] s Q :=
  MP_wait hst h hX e1 (fun _ => e2) e3 (by omega) ha h1 h2 (fun s' _ _ g => hQ s' (g s' 0 0 (fun _ => rfl) rfl (fun _ _ => Or.inr rfl) (fun _ _ => Or.inr rfl) (fun z => absurd z (by omega))))
end PM3
