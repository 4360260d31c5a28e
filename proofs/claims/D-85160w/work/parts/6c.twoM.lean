/-! THE MODEL: signs of two -/
theorem zSg_cases {P : Int32 → Prop} (h : P 43 ∧ P 45 ∧ P 42 ∧ P 47 ∧ P 37 ∧ P 38 ∧ P 124 ∧ P 60 ∧ P 62 ∧ P 317 ∧ P 289 ∧ P 316 ∧ P 318) {s : Int32} (hs : s ∈ zSg) : P s := by
  obtain ⟨a1, a2, a3, a4, a5, a6, a7, a8, a9, b1, b2, b3, b4⟩ := h
  simp only [zSg, List.mem_cons, List.not_mem_nil, or_false] at hs
  rcases hs with rfl | rfl | rfl | rfl | rfl | rfl | rfl | rfl | rfl | rfl | rfl | rfl | rfl <;> assumption
section MT
variable {l : Launch} {E : EN} {w : MO} {d : Nat} {s : MS} {Q : Option Value → MS → Prop}
theorem M_act (hst : l.stackTraces = false) {sg a b : Int32} (hs : sg ∈ zSg) (hz : zdv sg = true → ¬ b = 0) (hQ : Q (some (.int (zact sg a b))) s) : EvM l E w d MX10_act [.int (zsM sg), .int a, .int b] s Q := by
  revert hz hQ
  refine zSg_cases (P := fun sg => (zdv sg = true → ¬ b = 0) → Q (some (.int (zact sg a b))) s → EvM l E w d MX10_act [.int (zsM sg), .int a, .int b] s Q) ⟨?_, ?_, ?_, ?_, ?_, ?_, ?_, ?_, ?_, ?_, ?_, ?_, ?_⟩ hs <;> intro hz hQ
  · exact eX10_act hst ⟨fun c => absurd c (by decide), fun _ => ⟨fun c => absurd c (by decide), fun _ => ⟨fun c => absurd c (by decide), fun _ => ⟨fun _ => hQ, fun c => absurd rfl c⟩⟩⟩⟩
  · exact eX10_act hst ⟨fun c => absurd c (by decide), fun _ => ⟨fun c => absurd c (by decide), fun _ => ⟨fun c => absurd c (by decide), fun _ => ⟨fun c => absurd c (by decide), fun _ => ⟨fun _ => hQ, fun c => absurd rfl c⟩⟩⟩⟩⟩
  · exact eX10_act hst ⟨fun c => absurd c (by decide), fun _ => ⟨fun c => absurd c (by decide), fun _ => ⟨fun _ => hQ, fun c => absurd rfl c⟩⟩⟩
  · exact eX10_act hst ⟨fun c => absurd c (by decide), fun _ => ⟨fun c => absurd c (by decide), fun _ => ⟨fun c => absurd c (by decide), fun _ => ⟨fun c => absurd c (by decide), fun _ => ⟨fun c => absurd c (by decide), fun _ => ⟨fun _ => ⟨hz rfl, hQ⟩, fun c => absurd rfl c⟩⟩⟩⟩⟩⟩
  · exact eX10_act hst ⟨fun _ => ⟨hz rfl, hQ⟩, fun c => absurd rfl c⟩
  · exact eX10_act hst ⟨fun c => absurd c (by decide), fun _ => ⟨fun _ => hQ, fun c => absurd rfl c⟩⟩
  · exact eX10_act hst ⟨fun c => absurd c (by decide), fun _ => ⟨fun c => absurd c (by decide), fun _ => ⟨fun c => absurd c (by decide), fun _ => ⟨fun c => absurd c (by decide), fun _ => ⟨fun c => absurd c (by decide), fun _ => ⟨fun c => absurd c (by decide), fun _ => ⟨fun c => absurd c (by decide), fun _ => ⟨fun c => absurd c (by decide), fun _ => ⟨fun _ => hQ, fun c => absurd rfl c⟩⟩⟩⟩⟩⟩⟩⟩⟩
  · exact eX10_act hst ⟨fun c => absurd c (by decide), fun _ => ⟨fun c => absurd c (by decide), fun _ => ⟨fun c => absurd c (by decide), fun _ => ⟨fun c => absurd c (by decide), fun _ => ⟨fun c => absurd c (by decide), fun _ => ⟨fun c => absurd c (by decide), fun _ => ⟨fun _ => ⟨fun c => by rw [show zact 60 a b = 0 from if_neg (Int32.not_lt.mpr c)] at hQ; exact hQ, fun c => by rw [show zact 60 a b = 1 from if_pos (Int32.not_le.mp c)] at hQ; exact hQ⟩, fun c => absurd rfl c⟩⟩⟩⟩⟩⟩⟩
  · exact eX10_act hst ⟨fun c => absurd c (by decide), fun _ => ⟨fun c => absurd c (by decide), fun _ => ⟨fun c => absurd c (by decide), fun _ => ⟨fun c => absurd c (by decide), fun _ => ⟨fun c => absurd c (by decide), fun _ => ⟨fun c => absurd c (by decide), fun _ => ⟨fun c => absurd c (by decide), fun _ => ⟨fun _ => ⟨fun c => by rw [show zact 62 a b = 0 from if_neg (Int32.not_lt.mpr c)] at hQ; exact hQ, fun c => by rw [show zact 62 a b = 1 from if_pos (Int32.not_le.mp c)] at hQ; exact hQ⟩, fun c => absurd rfl c⟩⟩⟩⟩⟩⟩⟩⟩
  · exact eX10_act hst ⟨fun c => absurd c (by decide), fun _ => ⟨fun c => absurd c (by decide), fun _ => ⟨fun c => absurd c (by decide), fun _ => ⟨fun c => absurd c (by decide), fun _ => ⟨fun c => absurd c (by decide), fun _ => ⟨fun c => absurd c (by decide), fun _ => ⟨fun c => absurd c (by decide), fun _ => ⟨fun c => absurd c (by decide), fun _ => ⟨fun c => absurd c (by decide), fun _ => ⟨fun _ => ⟨fun c => by rw [show zact 317 a b = 0 from if_neg c] at hQ; exact hQ, fun c => by rw [show zact 317 a b = 1 from if_pos c] at hQ; exact hQ⟩, fun c => absurd rfl c⟩⟩⟩⟩⟩⟩⟩⟩⟩⟩
  · exact eX10_act hst ⟨fun c => absurd c (by decide), fun _ => ⟨fun c => absurd c (by decide), fun _ => ⟨fun c => absurd c (by decide), fun _ => ⟨fun c => absurd c (by decide), fun _ => ⟨fun c => absurd c (by decide), fun _ => ⟨fun c => absurd c (by decide), fun _ => ⟨fun c => absurd c (by decide), fun _ => ⟨fun c => absurd c (by decide), fun _ => ⟨fun c => absurd c (by decide), fun _ => ⟨fun c => absurd c (by decide), fun _ => ⟨fun _ => ⟨fun c => by rw [show zact 289 a b = 0 from if_pos c] at hQ; exact hQ, fun c => by rw [show zact 289 a b = 1 from if_neg c] at hQ; exact hQ⟩, fun c => absurd rfl c⟩⟩⟩⟩⟩⟩⟩⟩⟩⟩⟩
  · exact eX10_act hst ⟨fun c => absurd c (by decide), fun _ => ⟨fun c => absurd c (by decide), fun _ => ⟨fun c => absurd c (by decide), fun _ => ⟨fun c => absurd c (by decide), fun _ => ⟨fun c => absurd c (by decide), fun _ => ⟨fun c => absurd c (by decide), fun _ => ⟨fun c => absurd c (by decide), fun _ => ⟨fun c => absurd c (by decide), fun _ => ⟨fun c => absurd c (by decide), fun _ => ⟨fun c => absurd c (by decide), fun _ => ⟨fun c => absurd c (by decide), fun _ => ⟨fun _ => ⟨fun c => by rw [show zact 316 a b = 0 from if_neg (Int32.not_le.mpr c)] at hQ; exact hQ, fun c => by rw [show zact 316 a b = 1 from if_pos (Int32.not_lt.mp c)] at hQ; exact hQ⟩, fun c => absurd rfl c⟩⟩⟩⟩⟩⟩⟩⟩⟩⟩⟩⟩
  · exact eX10_act hst ⟨fun c => absurd c (by decide), fun _ => ⟨fun c => absurd c (by decide), fun _ => ⟨fun c => absurd c (by decide), fun _ => ⟨fun c => absurd c (by decide), fun _ => ⟨fun c => absurd c (by decide), fun _ => ⟨fun c => absurd c (by decide), fun _ => ⟨fun c => absurd c (by decide), fun _ => ⟨fun c => absurd c (by decide), fun _ => ⟨fun c => absurd c (by decide), fun _ => ⟨fun c => absurd c (by decide), fun _ => ⟨fun c => absurd c (by decide), fun _ => ⟨fun c => absurd c (by decide), fun _ => ⟨fun c => by rw [show zact 318 a b = 0 from if_neg (Int32.not_le.mpr c)] at hQ; exact hQ, fun c => by rw [show zact 318 a b = 1 from if_pos (Int32.not_lt.mp c)] at hQ; exact hQ⟩⟩⟩⟩⟩⟩⟩⟩⟩⟩⟩⟩⟩
/-- the row of a value that stands beside row i -/
theorem M_besA (hst : l.stackTraces = false) {b n b1 i : Nat} {s0 : MS} {vs : List Th} {X : Lf} {k v : Int32} (ha : MAcc b n s0 b1 vs s) (hv : rmV (s0.2.2.1 104) b k v (.leaf X)) (hb : b ≤ 166300) (hi : ∀ t, X = .inr (.inr t) → i < t.length) (hI : zrw X i = none → Q (some (.int (-1))) s) (hR : ∀ q r, zrw X i = some r → rmT (s0.2.2.1 104) b true (zR r) q 0 → Q (some (.int (nI q))) s) : EvM l E w (d + 1) MX10_beside [.ref w.1, .int k, .int v, .int (nI i)] s Q := by
  match X, hv, hi, hI, hR with
  | .inl x, hv, _, hI, _ =>
    rw [(rmV.int hv).1]
    exact eX10_beside hst ⟨fun c => absurd rfl c, fun _ => hI rfl⟩
  | .inr (.inl a), hv, _, _, hR =>
    obtain ⟨rfl, p, rfl, hr⟩ := hv.thing (by show ¬ 1 = 0; decide)
    have hh := rmT_head hr
    refine eX10_beside hst ⟨fun _ => ⟨inB_n (by omega), ?_⟩, fun c => absurd c (by decide)⟩
    rw [nI_clamp (by omega), ha.cell (by omega), hh.2.1]
    exact ⟨fun _ => hR p a rfl hr, fun c => absurd c (by show ¬ nI 1 = 2; decide)⟩
  | .inr (.inr t), hv, hi, _, hR =>
    obtain ⟨rfl, p, rfl, hr⟩ := hv.thing (by show ¬ 2 = 0; decide)
    have hh := rmT_head hr
    have hi := hi t rfl
    refine eX10_beside hst ⟨fun _ => ⟨inB_n (by omega), ?_⟩, fun c => absurd c (by decide)⟩
    rw [nI_clamp (by omega), ha.cell (by omega), hh.2.1]
    refine ⟨fun c => absurd rfl c, fun _ => ?_⟩
    have hel : zel (zT t) i = zR (t.getD i []) := getD_map zR t [] (zI 0) hi
    refine M_partA hst ha hr hb hi (by show 1 < 2; decide) (by show ¬ zk (zel (zT t) i) = 0; rw [hel]; show ¬ 1 = 0; decide) (fun q hq => ⟨_, rfl, hR q (t.getD i []) rfl ?_⟩)
    have hq : rmT (s0.2.2.1 104) b true (zel (zT t) i) q 0 := hq
    rw [hel] at hq
    exact hq
theorem b_two1 {kx ky : Nat} {vx vy y4 : Int32} {T3 T6 A G0 G1 : Prop} (ex : vx = nI kx) (ey : vy = nI ky) (hx : kx ≤ 3) (hy : ky ≤ 3) (h3 : kx = 3 ∨ ky = 3 → T3) (hA : kx = 0 → ky = 0 → ¬ y4 = 0 → A) (h6 : kx = 0 → ky = 0 → y4 = 0 → T6) (hG1 : kx ≠ 3 → ky ≠ 3 → (kx = 2 ∨ ky = 2) → G1) (hG0 : kx ≠ 3 → ky ≠ 3 → kx ≠ 2 → ky ≠ 2 → ¬ (kx = 0 ∧ ky = 0) → G0) :
    ((vx = 3 → T3) ∧ (¬ vx = 3 → ((¬ vy = 3 → ((¬ vx = 0 → ((vx = 2 → G1) ∧ (¬ vx = 2 → ((¬ vy = 2 → G0) ∧ (vy = 2 → G1))))) ∧ (vx = 0 → ((¬ vy = 0 → ((vx = 2 → G1) ∧ (¬ vx = 2 → ((¬ vy = 2 → G0) ∧ (vy = 2 → G1))))) ∧ (vy = 0 → ((¬ y4 = 0 → A) ∧ (y4 = 0 → T6))))))) ∧ (vy = 3 → T3)))) := by
  have tab : kx ≠ 3 → ky ≠ 3 → ¬ (kx = 0 ∧ ky = 0) → ((vx = 2 → G1) ∧ (¬ vx = 2 → ((¬ vy = 2 → G0) ∧ (vy = 2 → G1)))) := fun c1 c2 c3 => pk_eq kx 2 (fun c => hG1 c1 c2 (Or.inl c)) (fun c => bn_eq ky 2 (fun c' => hG0 c1 c2 c c' c3) (fun c' => hG1 c1 c2 (Or.inr c')) ey rfl) ex rfl
  refine pk_eq kx 3 (fun c => h3 (Or.inl c)) (fun c1 => bn_eq ky 3 (fun c2 => ?_) (fun c => h3 (Or.inr c)) ey rfl) ex rfl
  refine bn_eq kx 0 (fun c => tab c1 c2 (fun z => c z.1)) (fun c => ?_) ex rfl
  exact bn_eq ky 0 (fun c' => tab c1 c2 (fun z => c' z.2)) (fun c' => ⟨hA c c', h6 c c'⟩) ey rfl
theorem b_two0 {kx ky : Nat} {vx vy : Int32} {T3 A G0 G1 : Prop} (ex : vx = nI kx) (ey : vy = nI ky) (hx : kx ≤ 3) (hy : ky ≤ 3) (h3 : kx = 3 ∨ ky = 3 → T3) (hA : kx = 0 → ky = 0 → A) (hG1 : kx ≠ 3 → ky ≠ 3 → (kx = 2 ∨ ky = 2) → G1) (hG0 : kx ≠ 3 → ky ≠ 3 → kx ≠ 2 → ky ≠ 2 → ¬ (kx = 0 ∧ ky = 0) → G0) :
    ((vx = 3 → T3) ∧ (¬ vx = 3 → ((¬ vy = 3 → ((¬ vx = 0 → ((vx = 2 → G1) ∧ (¬ vx = 2 → ((¬ vy = 2 → G0) ∧ (vy = 2 → G1))))) ∧ (vx = 0 → ((¬ vy = 0 → ((vx = 2 → G1) ∧ (¬ vx = 2 → ((¬ vy = 2 → G0) ∧ (vy = 2 → G1))))) ∧ (vy = 0 → A))))) ∧ (vy = 3 → T3)))) := by
  have tab : kx ≠ 3 → ky ≠ 3 → ¬ (kx = 0 ∧ ky = 0) → ((vx = 2 → G1) ∧ (¬ vx = 2 → ((¬ vy = 2 → G0) ∧ (vy = 2 → G1)))) := fun c1 c2 c3 => pk_eq kx 2 (fun c => hG1 c1 c2 (Or.inl c)) (fun c => bn_eq ky 2 (fun c' => hG0 c1 c2 c c' c3) (fun c' => hG1 c1 c2 (Or.inr c')) ey rfl) ex rfl
  refine pk_eq kx 3 (fun c => h3 (Or.inl c)) (fun c1 => bn_eq ky 3 (fun c2 => ?_) (fun c => h3 (Or.inr c)) ey rfl) ex rfl
  refine bn_eq kx 0 (fun c => tab c1 c2 (fun z => c z.1)) (fun c => ?_) ex rfl
  exact bn_eq ky 0 (fun c' => tab c1 c2 (fun z => c' z.2)) (fun c' => hA c c') ey rfl
end MT
