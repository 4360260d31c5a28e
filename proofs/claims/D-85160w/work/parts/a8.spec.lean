/-! NONTERMINALS: what they find, what they leave -/
def toB (e : CE) : Tok := (e.2.1, e.2.2.2.1, e.2.2.1, e.2.2.2.2)
def toA (e : CE) : Nat × Nat × Nat := (e.1, e.2.2.2.1, e.2.2.2.2)
/-- calls of a piece: in the order of their ends (dC), of their begins (dA) -/
def cLk (f : RH) (lo p p' : Nat) (dC : List CE) (dA : List (Nat × Nat × Nat)) : Prop :=
  (∀ e ∈ dC, (lo ≤ e.1 ∧ e.1 < f.1) ∧ oc f e.1 19 ∧ vl f e.1 175 = .long (lN (cv e.2.2.2.1)) ∧ vl f e.1 176 = .int (nI e.2.2.2.2) ∧ vl f e.1 177 = .int (nI e.2.2.1) ∧ vl f e.1 178 = .null ∧ e.2.2.2.1 < 27 ^ 8 ∧ e.2.2.1 ≤ 1000) ∧ List.Perm dA (dC.map toA) ∧ (dA.map (fun a => a.2.2)).Pairwise (· < ·) ∧ ∀ a ∈ dA, p ≤ a.2.2 ∧ a.2.2 < p'
theorem cLk.nil (f : RH) (lo p p' : Nat) : cLk f lo p p' [] [] := ⟨fun _ h => absurd h List.not_mem_nil, List.Perm.refl _, List.Pairwise.nil, fun _ h => absurd h List.not_mem_nil⟩
theorem cLk.app {f f' : RH} {lo p p1 lo2 p2 p3 : Nat} {C1 C2 : List CE} {A1 A2 : List (Nat × Nat × Nat)} {D : List Nat} (h1 : cLk f lo p p1 C1 A1) (h2 : cLk f' lo2 p2 p3 C2 A2) (hg : gE D f f') (hD : ∀ a ∈ D, a < lo ∨ f.1 ≤ a ∨ ¬ tg f a = some (.inl 19)) (hl : lo ≤ lo2) (hp : p1 ≤ p2) (hp1 : p ≤ p2) (hp3 : p1 ≤ p3) : cLk f' lo p p3 (C1 ++ C2) (A1 ++ A2) := by
  refine ⟨fun e he => ?_, ?_, ?_, fun a ha => ?_⟩
  · rcases List.mem_append.mp he with he | he
    · obtain ⟨⟨q1, q2⟩, q3, q4, q5, q6, q7, q8⟩ := h1.1 e he
      have c : f'.2.2.1 e.1 = f.2.2.1 e.1 := hg.ce q2 (fun z => by
        rcases hD _ z with y | y | y
        · omega
        · omega
        · exact y q3.1)
      have := hg.1
      exact ⟨⟨q1, by omega⟩, ocE c q3, by rw [(cellE c).2.2]; exact q4, by rw [(cellE c).2.2]; exact q5, by rw [(cellE c).2.2]; exact q6, by rw [(cellE c).2.2]; exact q7, q8⟩
    · obtain ⟨⟨q1, q2⟩, q3⟩ := h2.1 e he
      exact ⟨⟨by omega, q2⟩, q3⟩
  · rw [List.map_append]; exact h1.2.1.append h2.2.1
  · rw [List.map_append, List.pairwise_append]
    refine ⟨h1.2.2.1, h2.2.2.1, fun a ha b hb => ?_⟩
    obtain ⟨a', ha', rfl⟩ := List.mem_map.mp ha
    obtain ⟨b', hb', rfl⟩ := List.mem_map.mp hb
    have := h1.2.2.2 a' ha'
    have := h2.2.2.2 b' hb'
    omega
  · rcases List.mem_append.mp ha with ha | ha
    · have := h1.2.2.2 a ha; omega
    · have := h2.2.2.2 a ha; omega
theorem cLk.wide {f f' : RH} {lo p p1 lo2 p2 p3 : Nat} {C : List CE} {A : List (Nat × Nat × Nat)} {D : List Nat} (h : cLk f lo p p1 C A) (hg : gE D f f') (hD : ∀ a ∈ D, a < lo ∨ f.1 ≤ a ∨ ¬ tg f a = some (.inl 19)) (hl : lo2 ≤ lo) (hp : p2 ≤ p) (hp3 : p1 ≤ p3) : cLk f' lo2 p2 p3 C A := by
  refine ⟨fun e he => ?_, h.2.1, h.2.2.1, fun a ha => ?_⟩
  · obtain ⟨⟨q1, q2⟩, q3, q4, q5, q6, q7, q8⟩ := h.1 e he
    have c : f'.2.2.1 e.1 = f.2.2.1 e.1 := hg.ce q2 (fun z => by
      rcases hD _ z with y | y | y
      · omega
      · omega
      · exact y q3.1)
    have := hg.1
    exact ⟨⟨by omega, by omega⟩, ocE c q3, by rw [(cellE c).2.2]; exact q4, by rw [(cellE c).2.2]; exact q5, by rw [(cellE c).2.2]; exact q6, by rw [(cellE c).2.2]; exact q7, q8⟩
  · have := h.2.2.2 a ha; omega
/-- how much of the pile -/
def hN (p p' : Nat) : Nat := (p' - p + 140) / 2
section SP
variable (l : Launch) (E : EN) (w : CO) (wm : MO) (dm : Nat) (al : Int32) (ch : Nat → Nat) (n hf : Nat) (s0 : MS) (x0 nw na K0 : Nat)
/-- what a nonterminal finds -/
def pIn (p o ca cap c : Nat) (vs : List Nat) (A : List (Nat × Nat × Nat)) (B : List Tok) (X : List XE) (s : CS) (f : RH) : Prop :=
  cSc ch n p o s ∧ cKc E f ∧ rdR w f x0 nw na ca cap vs A ∧ f.2.2.2 ≤ f.1 ∧ (n ≤ 1260 ∧ c + 2 * X.length ≤ 3 * p + 1 ∧ 2 * B.length ≤ p ∧ 2 * A.length ≤ p) ∧ (∀ x ∈ X, x.2.2.1 ≤ p) ∧ f.2.1 + 100 * (n - p) + 20000 ≤ 2 * cap + K0 ∧ K0 ≤ BM
/-- what a nonterminal leaves -/
def pOk (p o ca cap c : Nat) (vs : List Nat) (O : Nat → Od) (A : List (Nat × Nat × Nat)) (B : List Tok) (X : List XE) (s : CS) (f : RH) (Rq : Nat × Nat → Tok → Prop) (gm v : Nat) (s' : CS) (f' : RH) : Prop :=
  ∃ (p' : Nat) (vs' : List Nat) (O' : Nat → Od) (c' : Nat) (dC : List CE) (dA : List (Nat × Nat × Nat)) (ca' cap' : Nat) (q' : Nat × Nat),
    (cfP s s' ∧ cSc ch n p' o s') ∧ (gE [x0, nw, na, ca] f f' ∧ rdR w f' x0 nw na ca' cap' vs' (A ++ dA) ∧ (ca' = ca ∨ f.1 ≤ ca')) ∧
    (Rq q' (tk ch n p') ∧ XF l E wm dm al ch n hf s0 (0, 0) ((p, o), vs, O, c, B, X) q' ((p', o), vs', O', c', B ++ dC.map toB, X)) ∧
    ((∀ i, i < 4000 * (1 - hf) + c → O' i = O i) ∧ nd f' v ∧ Rp f' O' dC f.1 f'.1 vs'.length (4000 * (1 - hf) + c) (4000 * (1 - hf) + c') gm (hN p p') (.ref v)) ∧
    cLk f' f.1 p p' dC dA ∧ (p < p' ∧ c ≤ c' ∧ c' + 3 * p ≤ c + 3 * p' ∧ 2 * dC.length + p ≤ p' ∧ cap ≤ cap' ∧ f'.2.1 + 2 * cap ≤ f.2.1 + 2 * cap' + 100 * (p' - p) ∧ vs.length ≤ vs'.length)
/-- what it leaves at a fault -/
def pBad (p o c : Nat) (vs : List Nat) (O : Nat → Od) (B : List Tok) (X : List XE) (s : CS) (s' : CS) (f' : RH) : Prop :=
  ∃ k pl, cFl s s' k pl ∧ f'.2.1 ≤ K0 ∧ (1 ≤ k ∧ k ≤ 6) ∧ XB l E wm dm al ch n hf s0 (0, 0) ((p, o), vs, O, c, B, X) k pl
end SP
/-- the model's rests are small enough -/
theorem pIn.nums {E : EN} {w : CO} {ch : Nat → Nat} {n x0 nw na K0 p o ca cap c : Nat} {vs : List Nat} {A : List (Nat × Nat × Nat)} {B : List Tok} {X : List XE} {s : CS} {f : RH} (h : pIn E w ch n x0 nw na K0 p o ca cap c vs A B X s f) : p ≤ n ∧ o ≤ 10 ∧ c < 3800 ∧ c + X.length < 3890 ∧ B.length < 800 ∧ A.length ≤ 700 ∧ (∀ x ∈ X, x.2.2.1 < 9999) ∧ cap ≤ 8000 ∧ f.2.1 + 100 * (n - p) + 4000 ≤ BM ∧ f.2.1 + 100 * (n - p) + 4000 ≤ K0 ∧ vs.length ≤ 14 := by
  obtain ⟨h1, h2, h3, h4, ⟨h5, h6, h7, h8⟩, h9, h10, h11⟩ := h
  have hp := h1.2.1.2.1
  have ho := h1.2.2.2.1
  have hc := h3.2.2.2.2.2.2.2.2.2.1
  have hv := h3.2.2.1.2.2.2.2.1
  exact ⟨hp, ho, by omega, by omega, by omega, by omega, fun x hx => by have := h9 x hx; omega, by omega, by omega, by omega, hv⟩
