/-! THE MODEL'S TEXT: its state between statements -/
abbrev BE : Type := Nat × Nat × Nat
/-- a function: name, place, parameters, first order, variables + 1 (0: still open) -/
abbrev FE : Type := Nat × Nat × Nat × Nat × Nat
abbrev TZ : Type := ((Nat × Nat) × List Nat × (Nat → Od) × Nat × List Tok) × List BE × List FE
def mBks (s : MS) : List BE → Prop
  | [] => True
  | x :: r => (s.2.2.1 91 r.length = nI x.1 ∧ s.2.2.1 92 r.length = nI x.2.1 ∧ s.2.2.1 93 r.length = nI x.2.2) ∧ mBks s r
def mBl (s : MS) (L : List BE) : Prop := s.1 94 = nI L.length ∧ mBks s L
def mFn (hf : Nat) (s : MS) (F : List FE) : Prop := s.1 72 = nI F.length ∧ F.length ≤ 12 ∧ ∀ k, k < F.length → s.2.2.2 73 (12 * (1 - hf) + k) = lN (F.getD k (0, 0, 0, 0, 0)).1 ∧ s.2.2.1 74 (12 * (1 - hf) + k) = nI (F.getD k (0, 0, 0, 0, 0)).2.1 ∧ s.2.2.1 75 (12 * (1 - hf) + k) = nI (F.getD k (0, 0, 0, 0, 0)).2.2.1 ∧ s.2.2.1 77 (12 * (1 - hf) + k) = nI (F.getD k (0, 0, 0, 0, 0)).2.2.2.1 ∧ (¬ (F.getD k (0, 0, 0, 0, 0)).2.2.2.2 = 0 → s.2.2.1 76 (12 * (1 - hf) + k) = nI ((F.getD k (0, 0, 0, 0, 0)).2.2.2.2 - 1))
/-- what a text leaves as it was -/
def mfT (hf : Nat) (s s' : MS) : Prop := (∀ j, j ∉ JX → ¬ j = 72 → ¬ j = 94 → s'.1 j = s.1 j) ∧ (∀ j, ¬ j = 64 → s'.2.1 j = s.2.1 j) ∧ (∀ j, j ∉ AX → j ∉ [74, 75, 76, 77, 91, 92, 93] → s'.2.2.1 j = s.2.2.1 j) ∧ (∀ j, j ∉ [73, 78, 90, 99] → s'.2.2.2 j = s.2.2.2 j) ∧ (∀ j i, (i < 4000 * (1 - hf) ∨ 4000 * (1 - hf) + 4000 ≤ i) → j ∈ [80, 81, 82, 83, 84] → s'.2.2.1 j i = s.2.2.1 j i) ∧ ∀ i, (i < 12 * (1 - hf) ∨ 12 * (1 - hf) + 12 ≤ i) → s'.2.2.2 73 i = s.2.2.2 73 i ∧ ∀ j ∈ [74, 75, 76, 77], s'.2.2.1 j i = s.2.2.1 j i
theorem mfT.rf (hf : Nat) (s : MS) : mfT hf s s := ⟨fun _ _ _ _ => rfl, fun _ _ => rfl, fun _ _ _ => rfl, fun _ _ => rfl, fun _ _ _ _ => rfl, fun _ _ => ⟨rfl, fun _ _ => rfl⟩⟩
theorem mfT.trans {hf : Nat} {s s' s'' : MS} (h : mfT hf s s') (k : mfT hf s' s'') : mfT hf s s'' :=
  ⟨fun j a b c => (k.1 j a b c).trans (h.1 j a b c), fun j a => (k.2.1 j a).trans (h.2.1 j a), fun j a b => (k.2.2.1 j a b).trans (h.2.2.1 j a b), fun j a => (k.2.2.2.1 j a).trans (h.2.2.2.1 j a), fun j i a b => (k.2.2.2.2.1 j i a b).trans (h.2.2.2.2.1 j i a b), fun i a => ⟨(k.2.2.2.2.2 i a).1.trans (h.2.2.2.2.2 i a).1, fun j hj => ((k.2.2.2.2.2 i a).2 j hj).trans ((h.2.2.2.2.2 i a).2 j hj)⟩⟩
theorem mfT.ofX {hf : Nat} {s s' : MS} (h : mfX (4000 * (1 - hf)) s s') : mfT hf s s' :=
  ⟨fun j a _ _ => h.1 j a, h.2.1, fun j a _ => h.2.2.1 j a, fun j a => h.2.2.2.1 j (fun z => a (by revert z; simp only [List.mem_cons, List.not_mem_nil, or_false]; omega)), h.2.2.2.2, fun i _ => ⟨by rw [h.2.2.2.1 73 (by decide)], fun j hj => by
    have : j ∉ AX := by
      simp only [List.mem_cons, List.not_mem_nil, or_false] at hj
      rcases hj with rfl | rfl | rfl | rfl <;> decide
    rw [h.2.2.1 j this]⟩⟩
theorem mBks.cg {s s' : MS} : ∀ {L : List BE}, mBks s L → (∀ j ∈ [91, 92, 93], ∀ k, k < L.length → s'.2.2.1 j k = s.2.2.1 j k) → mBks s' L
  | [], _, _ => trivial
  | x :: r, h, e => ⟨by
      have hl : r.length < (x :: r).length := Nat.lt_succ_self _
      rw [e 91 (by decide) _ hl, e 92 (by decide) _ hl, e 93 (by decide) _ hl]; exact h.1, mBks.cg h.2 (fun j hj k hk => e j hj k (Nat.lt_succ_of_lt hk))⟩
theorem mFn.cg {hf : Nat} {s s' : MS} {F : List FE} (h : mFn hf s F) (e1 : s'.1 72 = s.1 72) (e : ∀ j ∈ [74, 75, 76, 77], ∀ k, k < F.length → s'.2.2.1 j (12 * (1 - hf) + k) = s.2.2.1 j (12 * (1 - hf) + k)) (e2 : ∀ k, k < F.length → s'.2.2.2 73 (12 * (1 - hf) + k) = s.2.2.2 73 (12 * (1 - hf) + k)) : mFn hf s' F := ⟨e1.trans h.1, h.2.1, fun k hk => by
  rw [e 74 (by decide) k hk, e 75 (by decide) k hk, e 76 (by decide) k hk, e 77 (by decide) k hk, e2 k hk]
  exact h.2.2 k hk⟩
section TM
variable (l : Launch) (E : EN) (w : MO) (d : Nat) (ch : Nat → Nat) (n hf : Nat) (s00 : MS)
def mTt (z : TZ) (s : MS) : Prop := mXg 1 ch n hf s (z.1.1, z.1.2.1, z.1.2.2.1, z.1.2.2.2.1, z.1.2.2.2.2, []) s ∧ mBl s z.2.1 ∧ mFn hf s z.2.2 ∧ mfT hf s00 s
/-- between functions, where no names need be known -/
def mT0 (z : TZ) (s : MS) : Prop := mXg 0 ch n hf s (z.1.1, z.1.2.1, z.1.2.2.1, z.1.2.2.2.1, z.1.2.2.2.2, []) s ∧ mBl s z.2.1 ∧ mFn hf s z.2.2 ∧ mfT hf s00 s
/-- a fault is told -/
def mTF (k pl : Nat) (s : MS) : Prop := mfT hf s00 s ∧ s.1 66 = nI k ∧ s.1 67 = nI pl
def TE (s : MS) (Q : Option Value → MS → Prop) : Prop := ExM l E w (d + 13) MX10_textOf 5 [some (.ref w.1)] [] s Q
def TF (z z' : TZ) : Prop := ∀ Q, (∀ s, mTt ch n hf s00 z' s → TE l E w d s Q) → ∀ s, mTt ch n hf s00 z s → TE l E w d s Q
def TBt (z : TZ) (k pl : Nat) : Prop := ∀ Q, (∀ s, mTF hf s00 k pl s → Q none s) → ∀ s, mTt ch n hf s00 z s → TE l E w d s Q
def TT (z z' : TZ) : Prop := ∀ Q, (∀ s, mT0 ch n hf s00 z' s → TE l E w d s Q) → ∀ s, mT0 ch n hf s00 z s → TE l E w d s Q
def TB0 (z : TZ) (k pl : Nat) : Prop := ∀ Q, (∀ s, mTF hf s00 k pl s → Q none s) → ∀ s, mT0 ch n hf s00 z s → TE l E w d s Q
end TM
section TM2
variable {l : Launch} {E : EN} {w : MO} {d : Nat} {ch : Nat → Nat} {n hf : Nat} {s00 s s0 s' : MS} {z z' z'' : TZ} {k pl p o c cb : Nat} {vs : List Nat} {O : Nat → Od} {B : List Tok} {X : List XE} {Bl : List BE} {Fn : List FE} {Q : Option Value → MS → Prop}
theorem TT.rf : TT l E w d ch n hf s00 z z := fun _ h => h
theorem TT.trans (a : TT l E w d ch n hf s00 z z') (b : TT l E w d ch n hf s00 z' z'') : TT l E w d ch n hf s00 z z'' := fun Q h => a Q (b Q h)
theorem TT.bad (a : TT l E w d ch n hf s00 z z') (b : TB0 l E w d ch n hf s00 z' k pl) : TB0 l E w d ch n hf s00 z k pl := fun Q h => a Q (b Q h)
theorem mTt.t0 (h : mTt ch n hf s00 z s) : mT0 ch n hf s00 z s := ⟨h.1.le (by decide), h.2⟩
theorem TF.rf : TF l E w d ch n hf s00 z z := fun _ h => h
theorem TF.trans (a : TF l E w d ch n hf s00 z z') (b : TF l E w d ch n hf s00 z' z'') : TF l E w d ch n hf s00 z z'' := fun Q h => a Q (b Q h)
theorem TF.bad (a : TF l E w d ch n hf s00 z z') (b : TBt l E w d ch n hf s00 z' k pl) : TBt l E w d ch n hf s00 z k pl := fun Q h => a Q (b Q h)
theorem mXg.rebase {g : Nat} {z : PZ} (h : mXg g ch n hf s0 z s) : mXg g ch n hf s z s := ⟨⟨h.1.1, h.1.2.1, h.1.2.2.1, h.1.2.2.2.1, h.1.2.2.2.2.1, mfX.rf _ _⟩, h.2⟩
theorem mXg.frm {g : Nat} {z : PZ} (h : mXg g ch n hf s0 z s) : mfX (4000 * (1 - hf)) s0 s := h.1.2.2.2.2.2
theorem mBl.fr (h : mBl s Bl) (k : mfX (4000 * (1 - hf)) s s') : mBl s' Bl := ⟨(k.1 94 (by decide)).trans h.1, h.2.cg (fun j hj i _ => by
  have : j ∉ AX := by
    simp only [List.mem_cons, List.not_mem_nil, or_false] at hj
    rcases hj with rfl | rfl | rfl <;> decide
  rw [k.2.2.1 j this])⟩
theorem mFn.fr (h : mFn hf s Fn) (k : mfX (4000 * (1 - hf)) s s') : mFn hf s' Fn := h.cg (k.1 72 (by decide)) (fun j hj i _ => by
  have : j ∉ AX := by
    simp only [List.mem_cons, List.not_mem_nil, or_false] at hj
    rcases hj with rfl | rfl | rfl | rfl <;> decide
  rw [k.2.2.1 j this]) (fun i _ => by rw [k.2.2.2.1 73 (by decide)])
/-- a statement's end -/
theorem mTt.of {p' o' c' : Nat} {vs' : List Nat} {O' : Nat → Od} {B' : List Tok} (h : mTt ch n hf s00 (((p, o), vs, O, c, B), Bl, Fn) s) (h' : mXg 1 ch n hf s ((p', o'), vs', O', c', B', []) s') : mTt ch n hf s00 (((p', o'), vs', O', c', B'), Bl, Fn) s' :=
  ⟨h'.rebase, h.2.1.fr h'.frm, h.2.2.1.fr h'.frm, h.2.2.2.trans (mfT.ofX h'.frm)⟩
/-- told within a statement -/
def tF (hf : Nat) (s00 : MS) (cb nb k pl : Nat) (s : MS) : Prop := (1 ≤ k ∧ k ≤ 6 ∧ s.1 66 = nI k ∧ s.1 67 = nI pl) ∧ mfT hf s00 s ∧ (∃ c', s.1 85 = nI c' ∧ c' ≤ cb) ∧ (∃ b, s.1 94 = nI b ∧ b ≤ nb) ∧ s.1 69 = nI hf ∧ hf ≤ 1
theorem tF.pos {nb : Nat} (h : tF hf s00 cb nb k pl s) : ¬ s.1 66 ≤ 0 := by
  obtain ⟨⟨h1, h2, h3, -⟩, -⟩ := h
  rw [h3]
  rcases (show k = 1 ∨ k = 2 ∨ k = 3 ∨ k = 4 ∨ k = 5 ∨ k = 6 by omega) with rfl | rfl | rfl | rfl | rfl | rfl <;> decide
theorem tF.ne {nb : Nat} (h : tF hf s00 cb nb k pl s) : ¬ s.1 66 = 0 := fun z => h.pos (by rw [z]; decide)
theorem tF.fin {nb : Nat} (h : tF hf s00 cb nb k pl s) (hQ : ∀ s, mTF hf s00 k pl s → Q none s) : TE l E w d s Q :=
  vX10_textOf_5 ⟨fun _ => hQ s ⟨h.2.1, h.1.2.2.1, h.1.2.2.2⟩, fun z => absurd z h.ne⟩
/-- a fault of an expression or of a sign, seen from the text -/
theorem mFt.tF {nb : Nat} (h : mFt ch n hf s0 cb k pl s) (h66 : ¬ s.1 66 ≤ 0) (hT : mfT hf s00 s0) (h94 : s0.1 94 = nI nb) : tF hf s00 cb nb k pl s := by
  obtain ⟨h1, h2, h3⟩ := h
  rcases h3 with h3 | ⟨-, h3, -⟩
  · exact ⟨h3, hT.trans (mfT.ofX h1.2.2.2.2.2), h2, ⟨nb, (h1.2.2.2.2.2.1 94 (by decide)).trans h94, Nat.le_refl _⟩, h1.2.2.1, h1.2.2.2.1⟩
  · exact absurd (by rw [h3]; decide) h66
theorem tF_sign {nb : Nat} {x : Int32} (hst : l.stackTraces = false) (h : tF hf s00 cb nb k pl s) (hQ : Q none s) : EvM l E w (d + 1) MX10_sign [.ref w.1, .int x] s Q := eX10_sign hst ⟨fun z => absurd z h.pos, fun _ => hQ⟩
theorem tF_opens {nb : Nat} {x : Int32} (hst : l.stackTraces = false) (h : tF hf s00 cb nb k pl s) (hQ : Q none s) : EvM l E w (d + 1) MX10_opens [.ref w.1, .int x] s Q := eX10_opens hst ⟨fun z => absurd z h.pos, fun _ => hQ⟩
theorem tF_word {nb : Nat} {x : Int32} (hst : l.stackTraces = false) (h : tF hf s00 cb nb k pl s) (hQ : Q none s) : EvM l E w (d + 1) MX10_word [.ref w.1, .int x] s Q := eX10_word hst ⟨fun z => absurd z h.pos, fun _ => hQ⟩
theorem tF_name {nb : Nat} (hst : l.stackTraces = false) (h : tF hf s00 cb nb k pl s) (hQ : Q (some (.int 0)) s) : EvM l E w (d + 1) MX10_name [.ref w.1] s Q := eX10_name hst ⟨fun z => absurd z h.pos, fun _ => hQ⟩
theorem tF.put {nb : Nat} (h : tF hf s00 cb nb k pl s) {j : Nat} {v : Int32} (hj : j = 101) : tF hf s00 cb nb k pl (sI s j v) := by
  subst hj
  obtain ⟨h1, h2, h3, h4, h5, h6⟩ := h
  exact ⟨h1, h2.trans (mfT.ofX (mfX.sI _ _ 101 _)), h3, h4, h5, h6⟩
theorem tF_expr {nb : Nat} {x : Int32} (hst : l.stackTraces = false) (h : tF hf s00 cb nb k pl s) (hQ : ∀ s', tF hf s00 cb nb k pl s' → Q none s') : EvM l E w (d + 1) MX10_expression [.ref w.1, .int x] s Q :=
  eX10_expression hst (vX10_expression_7 ⟨fun _ => hQ _ (h.put rfl), fun z => absurd z (h.put (v := 0) rfl).ne⟩)
theorem tF_order {nb : Nat} {x1 x2 x3 x4 : Int32} (hst : l.stackTraces = false) (h : tF hf s00 cb nb k pl s) (hc : cb < 3999) (hQ : ∀ c' s', c' < 4000 → tF hf s00 (cb + 1) nb k pl s' → s'.1 63 = s.1 63 → Q (some (.int (nI (4000 * (1 - hf) + c')))) s') : EvM l E w d MX10_order [.ref w.1, .int x1, .int x2, .int x3, .int x4] s Q := by
  obtain ⟨h1, h2, ⟨c', h3, h3'⟩, h4, h5, h6⟩ := h
  have e : (4000 : Int32) * (1 - s.1 69) + s.1 85 = nI (4000 * (1 - hf) + c') := by rw [h5, base_eq h6, h3, nI_add]
  refine eX10_order hst (fun y ey => ?_)
  rw [e] at ey
  subst ey
  have hb : inB (nI (4000 * (1 - hf) + c')) 8000 := inB_n (by omega)
  refine ⟨hb, hb, hb, hb, hb, ?_⟩
  rw [nI_clamp (by omega), h3, ← nI_succ]
  have hk : ∀ j, j ∉ [80, 81, 82, 83, 84] ∨ (4000 * (1 - hf) ≤ 4000 * (1 - hf) + c' ∧ 4000 * (1 - hf) + c' < 4000 * (1 - hf) + 4000) := fun j => Or.inr (by omega)
  have fr : mfX (4000 * (1 - hf)) s (sI (sA (sA (sA (sA (sA s 80 (4000 * (1 - hf) + c') x1) 81 (4000 * (1 - hf) + c') x2) 82 (4000 * (1 - hf) + c') x3) 83 (4000 * (1 - hf) + c') 0) 84 (4000 * (1 - hf) + c') x4) 85 (nI (c' + 1))) :=
    ((((((mfX.sA _ s 80 _ x1 (by decide) (hk _)).trans (mfX.sA _ _ 81 _ x2 (by decide) (hk _))).trans (mfX.sA _ _ 82 _ x3 (by decide) (hk _))).trans (mfX.sA _ _ 83 _ 0 (by decide) (hk _))).trans (mfX.sA _ _ 84 _ x4 (by decide) (hk _))).trans (mfX.sI _ _ 85 _))
  exact hQ c' _ (by omega) ⟨h1, h2.trans (mfT.ofX fr), ⟨c' + 1, rfl, by omega⟩, h4, h5, h6⟩ rfl
/-- a cell of an order, in a fault -/
theorem tF.patch {nb : Nat} (h : tF hf s00 cb nb k pl s) {j i : Nat} {v : Int32} (hj : j ∈ [80, 81, 82, 83, 84]) (hi : 4000 * (1 - hf) ≤ i ∧ i < 4000 * (1 - hf) + 4000) : tF hf s00 cb nb k pl (sA s j i v) := by
  obtain ⟨h1, h2, h3, h4, h5, h6⟩ := h
  exact ⟨h1, h2.trans (mfT.ofX (mfX.sA _ s j i v (by simp only [List.mem_cons, List.not_mem_nil, or_false] at hj; rcases hj with rfl | rfl | rfl | rfl | rfl <;> decide) (Or.inr hi))), h3, h4, h5, h6⟩
theorem mfT.sA3 (s : MS) {j i : Nat} {v : Int32} (hj : j ∈ [91, 92, 93]) : mfT hf s (sA s j i v) := by
  refine ⟨fun _ _ _ _ => rfl, fun _ _ => rfl, fun q h1 h2 => funext fun i' => sA_ne s v (fun e => ?_), fun _ _ => rfl, fun q i' _ h2 => sA_ne s v (fun e => ?_), fun i' _ => ⟨rfl, fun q hq => sA_ne s v (fun e => ?_)⟩⟩
  · have := e.1; subst this
    simp only [List.mem_cons, List.not_mem_nil, or_false] at hj h2
    omega
  · have := e.1; subst this
    simp only [List.mem_cons, List.not_mem_nil, or_false] at hj h2
    omega
  · have := e.1; subst this
    simp only [List.mem_cons, List.not_mem_nil, or_false] at hj hq
    omega
theorem mfT.sI94 (s : MS) (v : Int32) : mfT hf s (sI s 94 v) := ⟨fun j _ _ h => sI_ne s v h, fun _ _ => rfl, fun _ _ _ => rfl, fun _ _ => rfl, fun _ _ _ _ => rfl, fun _ _ => ⟨rfl, fun _ _ => rfl⟩⟩
theorem tF_blockI {nb : Nat} {x1 x2 x3 : Int32} (h : tF hf s00 cb nb k pl s) (hn : nb ≤ 11) (hQ : ∀ s', tF hf s00 cb (nb + 1) k pl s' → Q none s') : inB (s.1 94) 12 ∧ (inB (s.1 94) 12 ∧ (inB (s.1 94) 12 ∧ Q none (sI (sA (sA (sA s 91 (s.1 94).toNatClampNeg x1) 92 (s.1 94).toNatClampNeg x2) 93 (s.1 94).toNatClampNeg x3) 94 ((s.1 94) + 1)))) := by
  obtain ⟨h1, h2, h3, ⟨b, h4, h4'⟩, h5, h6⟩ := h
  have hb : inB (s.1 94) 12 := by rw [h4]; exact inB_n (by omega)
  refine ⟨hb, hb, hb, hQ _ ⟨h1, h2.trans ((((mfT.sA3 s (by decide)).trans (mfT.sA3 _ (by decide))).trans (mfT.sA3 _ (by decide))).trans (mfT.sI94 _ _)), h3, ⟨b + 1, ?_, by omega⟩, h5, h6⟩⟩
  rw [h4, ← nI_succ]; rfl
theorem tF_block {nb : Nat} {x1 x2 x3 : Int32} (hst : l.stackTraces = false) (h : tF hf s00 cb nb k pl s) (hn : nb ≤ 11) (hQ : ∀ s', tF hf s00 cb (nb + 1) k pl s' → Q none s') : EvM l E w (d + 2) MX10_block [.ref w.1, .int x1, .int x2, .int x3] s Q :=
  eX10_block hst (tF_opens hst h ⟨rfl, tF_blockI h hn hQ⟩)
end TM2
