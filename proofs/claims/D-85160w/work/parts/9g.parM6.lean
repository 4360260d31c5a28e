/-! EXPRESSIONS OF THE MODEL: states at the head of the loop, what they come to -/
def okP (r : Nat) (Y : List XE) : Prop := ∃ a Y' : List XE, Y = a ++ Y' ∧ (a = [] ∨ ∃ y, a = [y] ∧ y.1 = 2) ∧ ∀ y ∈ Y', y.1 = 1 ∧ r ≤ slv y.2.1
/-- how strong the token at hand is as a sign; 9: not one -/
def lvT (t : Tok) : Nat := if t.1 = 3 then slv t.2.2.1 else 9
/-- 0: an operand must begin; 1: one is whole; 2: one is whole and signs of level q.2 or more that wait count as done; 3: so, and a comparison was among them and another comes -/
def mP (ch : Nat → Nat) (n hf : Nat) (s0 : MS) (q : Nat × Nat) (z : PZ) (s : MS) : Prop :=
  if q.1 ≤ 1 then mX ch n hf s0 z s
  else if q.1 = 2 then ∃ (Y : List XE) (O0 : Nat → Od) (c0 : Nat), (okP q.2 Y ∧ Y.length + q.2 ≤ 5) ∧ z.2.2.2.1 = c0 + Y.length ∧ z.2.2.1 = oem (4000 * (1 - hf)) O0 c0 Y ∧ mX ch n hf s0 (z.1, z.2.1, O0, c0, z.2.2.2.2.1, Y ++ z.2.2.2.2.2) s
  else ∃ (Y1 : List XE) (y : XE) (Y2 : List XE) (O0 : Nat → Od) (c0 : Nat), (okP 2 Y1 ∧ (Y1 ++ y :: Y2).length + q.2 ≤ 5) ∧ y.1 = 1 ∧ slv y.2.1 = 1 ∧ (∀ u ∈ Y2, u.1 = 1) ∧ z.2.2.2.1 = c0 + (Y1 ++ y :: Y2).length ∧ z.2.2.1 = oem (4000 * (1 - hf)) O0 c0 (Y1 ++ y :: Y2) ∧ mX ch n hf s0 (z.1, z.2.1, O0, c0, z.2.2.2.2.1, (Y1 ++ y :: Y2) ++ z.2.2.2.2.2) s
def hv (q : Nat × Nat) : Int32 := if q.1 = 0 then 0 else 1
section XF
variable (l : Launch) (E : EN) (w : MO) (d : Nat) (al : Int32) (ch : Nat → Nat) (n hf : Nat)
def Exp (has : Int32) (s : MS) (Q : Option Value → MS → Prop) : Prop := ExM l E w (d + 10) MX10_expression 7 [some (.ref w.1), some (.int al), some (.int has), none] [] s Q
def XF (_ : MS) (q : Nat × Nat) (z : PZ) (q' : Nat × Nat) (z' : PZ) : Prop := ∀ s0 Q, (∀ s, mP ch n hf s0 q' z' s → Exp l E w d al (hv q') s Q) → ∀ s, mP ch n hf s0 q z s → Exp l E w d al (hv q) s Q
/-- it comes to a fault -/
def XB (_ : MS) (q : Nat × Nat) (z : PZ) (k pl : Nat) : Prop := ∀ s0 Q, (∀ s, mFt ch n hf s0 3990 k pl s → Q none s) → ∀ s, mP ch n hf s0 q z s → Exp l E w d al (hv q) s Q
end XF
section XF2
variable {l : Launch} {E : EN} {w : MO} {d : Nat} {al : Int32} {ch : Nat → Nat} {n hf : Nat} {s0 : MS} {q q' q'' : Nat × Nat} {z z' z'' : PZ} {k pl : Nat}
theorem XF.rf : XF l E w d al ch n hf s0 q z q z := fun _ _ h => h
theorem XF.trans (a : XF l E w d al ch n hf s0 q z q' z') (b : XF l E w d al ch n hf s0 q' z' q'' z'') : XF l E w d al ch n hf s0 q z q'' z'' := fun s0 Q h => a s0 Q (b s0 Q h)
theorem XF.bad (a : XF l E w d al ch n hf s0 q z q' z') (b : XB l E w d al ch n hf s0 q' z' k pl) : XB l E w d al ch n hf s0 q z k pl := fun s0 Q h => a s0 Q (b s0 Q h)
theorem XF.sub (e : hv q = hv q') (a : ∀ s0 s, mP ch n hf s0 q z s → mP ch n hf s0 q' z' s) : XF l E w d al ch n hf s0 q z q' z' := fun s0 Q h s hs => by rw [e]; exact h s (a s0 s hs)
end XF2
theorem mFt.up {ch : Nat → Nat} {n hf : Nat} {s0 s : MS} {cb cb' k pl : Nat} (h : mFt ch n hf s0 cb k pl s) (hc : cb ≤ cb') : mFt ch n hf s0 cb' k pl s := by
  obtain ⟨a, ⟨c', b1, b2⟩, c⟩ := h
  exact ⟨a, ⟨c', b1, by omega⟩, c⟩
theorem oem_app (b : Nat) : ∀ (Y Z : List XE) (O : Nat → Od) (c : Nat), oem b O c (Y ++ Z) = oem b (oem b O c Y) (c + Y.length) Z
  | [], _, _, _ => rfl
  | y :: Y, Z, O, c => by
    show oem b (oup O (b + c) (odY y)) (c + 1) (Y ++ Z) = oem b (oem b (oup O (b + c) (odY y)) (c + 1) Y) (c + (Y.length + 1)) Z
    rw [oem_app b Y Z, show c + 1 + Y.length = c + (Y.length + 1) by omega]
section XS
variable {l : Launch} {E : EN} {w : MO} {d : Nat} {s s0 s' : MS} {Q : Option Value → MS → Prop} {ch : Nat → Nat} {n hf p p' o o' c : Nat} {vs : List Nat} {O : Nat → Od} {B : List Tok} {X : List XE} {x : XE} {al : Int32}
theorem MP_orderF (hst : l.stackTraces = false) {cb k pl : Nat} {x1 x2 x3 x4 : Int32} (h : mFt ch n hf s0 cb k pl s) (hc : cb < 4000) (hQ : ∀ s' y, mFt ch n hf s0 (cb + 1) k pl s' → s'.1 66 = s.1 66 → s'.1 101 = s.1 101 → Q (some (.int y)) s') : EvM l E w d MX10_order [.ref w.1, .int x1, .int x2, .int x3, .int x4] s Q := by
  obtain ⟨h1, ⟨c', h2, h3⟩, h4⟩ := h
  refine eX10_order hst ?_
  have hh := h1.2.2.2.1
  intro y ey
  rw [h1.2.2.1, base_eq hh, h2, nI_add] at ey
  have hy : y.toNatClampNeg = 4000 * (1 - hf) + c' := by rw [ey, nI_clamp (by omega)]
  have hi : inB y 8000 := by rw [ey]; exact inB_n (by omega)
  refine ⟨hi, hi, hi, hi, hi, ?_⟩
  rw [hy]
  obtain ⟨s', es⟩ : ∃ s', s' = sI (sA (sA (sA (sA (sA s 80 (4000 * (1 - hf) + c') x1) 81 (4000 * (1 - hf) + c') x2) 82 (4000 * (1 - hf) + c') x3) 83 (4000 * (1 - hf) + c') 0) 84 (4000 * (1 - hf) + c') x4) 85 (s.1 85 + 1) := ⟨_, rfl⟩
  rw [← es]
  obtain ⟨g1, g2, g3, g4, g5, g6⟩ := sO5 s _ _ _ _ _ _ s' es
  refine hQ s' y ⟨h1.fr ⟨fun j hj => g6 j (fun z => hj (by rw [z]; decide)), fun j _ => by rw [g4], fun j hj => funext fun i => g2 j i (Or.inl (fun z => hj (by revert z; unfold AX; simp only [List.mem_cons, List.not_mem_nil, or_false]; omega))), fun j _ => by rw [g3], fun j i hi _ => g2 j i (Or.inr (by omega))⟩, ⟨c' + 1, by rw [g5, h2, nI_succ], by omega⟩, ?_⟩ (g6 66 (by decide)) (g6 101 (by decide))
  rcases h4 with ⟨a, b, e1, e2⟩ | ⟨a, e1, t, t1, t2, t3, t4⟩
  · exact Or.inl ⟨a, b, (g6 66 (by decide)).trans e1, (g6 67 (by decide)).trans e2⟩
  · exact Or.inr ⟨a, (g6 66 (by decide)).trans e1, t, ⟨(g6 62 (by decide)).trans t1.1, (g6 63 (by decide)).trans t1.2.1, (g6 65 (by decide)).trans t1.2.2.1, fun z => by rw [g4]; exact t1.2.2.2.1 z, fun z => by rw [g4]; exact t1.2.2.2.2 z⟩, t2, t3, t4⟩
theorem mFt.pos {cb k pl : Nat} (h : mFt ch n hf s0 cb k pl s) (h66 : ¬ s.1 66 = 0) : ¬ s.1 66 ≤ 0 := by
  rcases h.2.2 with ⟨a, b, e, -⟩ | ⟨-, e, -⟩
  · rw [e, Int32.not_le, Int32.lt_iff_toInt_lt, nI_toInt (by omega)]
    show (0 : Int) < _
    omega
  · exact absurd e h66
/-- the loop ends at a fault -/
theorem Exp.end (h66 : ¬ s.1 66 = 0) {has : Int32} (hQ : Q none s) : Exp l E w d al has s Q := vX10_expression_7 ⟨fun _ => hQ, fun z => absurd z h66⟩
theorem Exp.go0 (h66 : s.1 66 = 0) (hQ : EvM l E w (d + 9) MX10_starts [.ref w.1] s (fun r s' => ∃ v : Int32, r = some (.int v) ∧ Exp l E w d al v s' Q)) : Exp l E w d al 0 s Q := vX10_expression_7 ⟨fun z => absurd h66 z, fun _ => ⟨fun z => absurd rfl z, fun _ => hQ⟩⟩
def R152 (l : Launch) (E : EN) (w : MO) (d : Nat) (al a3 : Int32) (s : MS) (Q : Option Value → MS → Prop) : Prop := ExM l E w (d + 10) MX10_expression 152 [some (.ref w.1), some (.int al), none, some (.int a3)] [] s Q
/-- an operand is whole, no [ follows: what is ahead of it is done, then what the token asks for -/
theorem Exp.it1 (hst : l.stackTraces = false) {a Y : List XE} (ha : a = [] ∨ ∃ y, a = [y] ∧ y.1 = 2) (h : mX ch n hf s0 ((p, o), vs, O, c, B, a ++ Y) s) (hal : al = 0 ∨ ¬ a ++ Y = []) (hl : (a ++ Y).length ≤ 80) (hc : c < 3999) (hY : ¬ (a = [] ∧ topk Y = 2)) (hb : ¬ ((tk ch n p).1 = 3 ∧ (tk ch n p).2.2.1 = 91))
    (hN : ∀ s', mX ch n hf s0 ((p, o), vs, oem (4000 * (1 - hf)) O c a, c + a.length, B, Y) s' → lvT (tk ch n p) = 9 → R152 l E w d al (-1) s' Q)
    (hL : ∀ s', mX ch n hf s0 ((p, o), vs, oem (4000 * (1 - hf)) O c a, c + a.length, B, Y) s' → (tk ch n p).1 = 3 → sgV (tk ch n p).2.2.1 → EvM l E w (d + 9) MX10_reduce [.ref w.1, .int (nI (if slv (tk ch n p).2.2.1 = 1 then 2 else slv (tk ch n p).2.2.1))] s' (fun r s7 => r = none ∧ R152 l E w d al (nI (slv (tk ch n p).2.2.1)) s7 Q)) : Exp l E w d al 1 s Q := by
  have ht := h.1.tk h.2.1.2
  have h66 : s.1 66 = 0 := h.2.2.1.1
  have rest : ∀ s', mX ch n hf s0 ((p, o), vs, oem (4000 * (1 - hf)) O c a, c + a.length, B, Y) s' → ((¬ (s'.1 62) = 3 → R152 l E w d al (-1) s' Q) ∧ ((s'.1 62) = 3 → (EvM l E w (d + 9) MX10_levelOf [.int (s'.2.1 64).toInt32] s' (fun r s5 => ∃ v6 : Int32, r = some (.int v6) ∧ ((v6 < 0 → R152 l E w d al v6 s5 Q) ∧ (¬ v6 < 0 → ((¬ v6 = 1 → (EvM l E w (d + 9) MX10_reduce [.ref w.1, .int v6] s5 (fun r s7 => r = none ∧ R152 l E w d al v6 s7 Q))) ∧ (v6 = 1 → (EvM l E w (d + 9) MX10_reduce [.ref w.1, .int 2] s5 (fun r s8 => r = none ∧ R152 l E w d al v6 s8 Q)))))))))) := by
    intro s' hs'
    have h62 : s'.1 62 = nI (tk ch n p).1 := hs'.2.1.1.1
    have h14 : (tk ch n p).1 ≤ 4 := ht.1.1
    refine bn_eq (tk ch n p).1 3 (fun z => hN s' hs' (if_neg z)) (fun z => ?_) h62 rfl
    have h64 : s'.2.1 64 = lN (mSg (tk ch n p).2.2.1) := hs'.2.1.1.2.2.2.2 z
    have h128 := tk_sg z
    rw [h64, lN_i32 (Nat.lt_trans (slvI_m h128).1 (by omega))]
    refine MP_levelOf hst h128 ⟨_, rfl, ?_⟩
    by_cases c9 : slv (tk ch n p).2.2.1 = 9
    · have e : slvI (tk ch n p).2.2.1 = -1 := if_pos c9
      rw [e]
      exact ⟨fun _ => hN s' hs' (by unfold lvT; rw [if_pos z, c9]), fun y => absurd (by decide) y⟩
    · have hv := slv_V c9
      have h3 := (sgV_slv hv).1
      rw [slvI_V hv]
      have hL := hL s' hs' z hv
      refine ⟨fun y => absurd y (nI_pos (by omega)), fun _ => bn_eq (slv (tk ch n p).2.2.1) 1 (fun y => ?_) (fun y => ?_) rfl rfl⟩
      · rw [if_neg y] at hL; exact hL
      · rw [if_pos y] at hL; exact hL
  have mid : EvM l E w (d + 9) MX10_isSign [.ref w.1, .int 91] s (fun r s1 => ∃ v2 : Int32, r = some (.int v2) ∧ ((v2 = 0 → (EvM l E w (d + 9) MX10_isWaiting [.ref w.1, .int 2] s1 (fun r s3 => ∃ v4 : Int32, r = some (.int v4) ∧ ((v4 = 0 → ((¬ (s3.1 62) = 3 → R152 l E w d al (-1) s3 Q) ∧ ((s3.1 62) = 3 → (EvM l E w (d + 9) MX10_levelOf [.int (s3.2.1 64).toInt32] s3 (fun r s5 => ∃ v6 : Int32, r = some (.int v6) ∧ ((v6 < 0 → R152 l E w d al v6 s5 Q) ∧ (¬ v6 < 0 → ((¬ v6 = 1 → (EvM l E w (d + 9) MX10_reduce [.ref w.1, .int v6] s5 (fun r s7 => r = none ∧ R152 l E w d al v6 s7 Q))) ∧ (v6 = 1 → (EvM l E w (d + 9) MX10_reduce [.ref w.1, .int 2] s5 (fun r s8 => r = none ∧ R152 l E w d al v6 s8 Q))))))))))) ∧ (¬ v4 = 0 → (inB ((s3.1 101) - 1) 80 ∧ (inB ((s3.1 101) - 1) 80 ∧ (EvM l E w (d + 9) MX10_order [.ref w.1, .int 4, .int (s3.2.2.1 96 ((s3.1 101) - 1).toNatClampNeg), .int 0, .int (s3.2.2.1 98 ((s3.1 101) - 1).toNatClampNeg)] (sI s3 101 ((s3.1 101) - 1)) (fun r s9 => ∃ v10 : Int32, r = some (.int v10) ∧ ((¬ (s9.1 62) = 3 → R152 l E w d al (-1) s9 Q) ∧ ((s9.1 62) = 3 → (EvM l E w (d + 9) MX10_levelOf [.int (s9.2.1 64).toInt32] s9 (fun r s11 => ∃ v12 : Int32, r = some (.int v12) ∧ ((v12 < 0 → R152 l E w d al v12 s11 Q) ∧ (¬ v12 < 0 → ((¬ v12 = 1 → (EvM l E w (d + 9) MX10_reduce [.ref w.1, .int v12] s11 (fun r s13 => r = none ∧ R152 l E w d al v12 s13 Q))) ∧ (v12 = 1 → (EvM l E w (d + 9) MX10_reduce [.ref w.1, .int 2] s11 (fun r s14 => r = none ∧ R152 l E w d al v12 s14 Q))))))))))))))))))) ∧ (¬ v2 = 0 → (∀ y15 : Int32, y15 = (s1.1 63) → (EvM l E w (d + 9) MX10_opens [.ref w.1, .int 91] s1 (fun r s16 => r = none ∧ (EvM l E w (d + 9) MX10_wait [.ref w.1, .int 4, .int 0, .int y15] s16 (fun r s17 => r = none ∧ Exp l E w d al 0 s17 Q)))))))) := by
    refine M_isSign hst (c := 91) h.2.1.1 ht.1.1 ht.2.1 (by decide) ⟨_, rfl, pk_b (fun _ => ?_) (fun z => absurd z hb)⟩
    refine MP_isWaiting hst (k := 2) h hl (by decide) (by decide) ⟨_, rfl, pk_b (fun z => ?_) (fun z => ?_)⟩
    · rcases ha with rfl | ⟨y, rfl, hy⟩
      · exact rest s h
      · exact absurd hy z
    · rcases ha with rfl | ⟨y, rfl, hy⟩
      · exact absurd ⟨rfl, z⟩ hY
      · obtain ⟨hp, g, e, e2⟩ := (show mX ch n hf s0 ((p, o), vs, O, c, B, y :: Y) s from h).pop
        have hl' : Y.length + 1 ≤ 80 := hl
        rw [e2, nI_clamp (by omega), g.2.1 (by omega), g.2.2.2.1]
        have eo : odY y = (4, y.2.1, 0, 0, nI y.2.2.2.1) := by unfold odY; rw [if_pos hy]
        have em : mSg y.2.1 = y.2.1 := by rcases g.2.2.2.2.2.2.2 hy with e | e <;> rw [e] <;> decide
        rw [em]
        refine ⟨inB_n (by omega), inB_n (by omega), MP_order hst (od := odY y) hp (by omega) (by rw [eo]; rfl) (by rw [eo]; rfl) (by rw [eo]; rfl) (by rw [eo]) (by rw [eo]; exact (by decide : ¬ 4 = 13)) (fun s' hs' _ => ⟨_, rfl, rest s' hs'⟩)⟩
  refine vX10_expression_7 ⟨fun z => absurd h66 z, fun _ => ⟨fun _ => ⟨fun _ => mid, fun hz => ⟨fun _ => mid, fun z => ?_⟩⟩, fun z => absurd z (by decide)⟩⟩
  rcases hal with e | e
  · exact absurd e hz
  · have hlen := h.len
    rw [hlen] at z
    have : (a ++ Y).length = 0 := (nI_eq (b := 0) (by omega) (by decide)).mp z
    exact absurd (List.eq_nil_of_length_eq_zero this) e
end XS
