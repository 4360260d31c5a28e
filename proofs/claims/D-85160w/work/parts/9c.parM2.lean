/-! THE MODEL'S PARSER: its state. (p, o): where the token at hand was looked for, how many are open; names; orders (O, c); calls; what waits (top first) -/
def JX : List Nat := [62, 63, 65, 66, 67, 68, 79, 85, 86, 101]
def AX : List Nat := [80, 81, 82, 83, 84, 87, 88, 89, 95, 96, 97, 98, 100]
def mfX (b : Nat) (s s' : MS) : Prop := (∀ j, j ∉ JX → s'.1 j = s.1 j) ∧ (∀ j, ¬ j = 64 → s'.2.1 j = s.2.1 j) ∧ (∀ j, j ∉ AX → s'.2.2.1 j = s.2.2.1 j) ∧ (∀ j, j ∉ [78, 90, 99] → s'.2.2.2 j = s.2.2.2 j) ∧ ∀ j i, (i < b ∨ b + 4000 ≤ i) → j ∈ [80, 81, 82, 83, 84] → s'.2.2.1 j i = s.2.2.1 j i
theorem mfX.rf (b : Nat) (s : MS) : mfX b s s := ⟨fun _ _ => rfl, fun _ _ => rfl, fun _ _ => rfl, fun _ _ => rfl, fun _ _ _ _ => rfl⟩
theorem mfX.trans {b : Nat} {s s' s'' : MS} (h : mfX b s s') (k : mfX b s' s'') : mfX b s s'' := ⟨fun j hj => (k.1 j hj).trans (h.1 j hj), fun j hj => (k.2.1 j hj).trans (h.2.1 j hj), fun j hj => (k.2.2.1 j hj).trans (h.2.2.1 j hj), fun j hj => (k.2.2.2.1 j hj).trans (h.2.2.2.1 j hj), fun j i a c => (k.2.2.2.2 j i a c).trans (h.2.2.2.2 j i a c)⟩
theorem mfX.ofK {b : Nat} {s s' : MS} (h : mfK s s') : mfX b s s' := ⟨fun j hj => h.1 j (fun z => hj (by revert z; unfold JX; simp only [List.mem_cons, List.not_mem_nil, or_false]; omega)), h.2.1, fun j _ => by rw [h.2.2], fun j _ => by rw [h.2.2], fun j i _ _ => by rw [h.2.2]⟩
theorem mfX.sI (b : Nat) (s : MS) (j : Nat) (v : Int32) (hj : j ∈ JX := by decide) : mfX b s (sI s j v) := ⟨fun i hi => sI_ne s v (fun e => hi (e ▸ hj)), fun _ _ => rfl, fun _ _ => rfl, fun _ _ => rfl, fun _ _ _ _ => rfl⟩
theorem mfX.sA (b : Nat) (s : MS) (j k : Nat) (v : Int32) (hj : j ∈ AX := by decide) (hk : j ∉ [80, 81, 82, 83, 84] ∨ (b ≤ k ∧ k < b + 4000)) : mfX b s (sA s j k v) := ⟨fun _ _ => rfl, fun _ _ => rfl, fun i hi => funext fun q => sA_ne s v (fun e => hi (e.1 ▸ hj)), fun _ _ => rfl, fun i q h1 h2 => sA_ne s v (fun e => by
  rcases hk with hk | hk
  · exact hk (e.1 ▸ h2)
  · omega)⟩
theorem sB_ne (s : MS) {j k i n : Nat} (v : Int64) (h : ¬ (i = j ∧ n = k)) : (sB s j k v).2.2.2 i n = s.2.2.2 i n := if_neg h
theorem mfX.sB (b : Nat) (s : MS) (j k : Nat) (v : Int64) (hj : j ∈ [78, 90, 99] := by decide) : mfX b s (sB s j k v) := ⟨fun _ _ => rfl, fun _ _ => rfl, fun _ _ => rfl, fun i hi => funext fun q => sB_ne s v (fun e => hi (e.1 ▸ hj)), fun _ _ _ _ => rfl⟩
/-- an order as the model keeps it -/
def mO (s : MS) (i : Nat) (o : Od) : Prop := s.2.2.1 80 i = nI o.1 ∧ s.2.2.1 81 i = (if o.1 = 2 then o.2.2.2.1 else if o.1 = 5 then zsM (nI o.2.1) else nI o.2.1) ∧ s.2.2.1 82 i = (if o.1 = 13 then (if o.2.2.1 = 0 then -1 else nI (o.2.2.1 - 1)) else nI o.2.2.1) ∧ (o.1 = 13 → s.2.2.1 83 i = o.2.2.2.1) ∧ s.2.2.1 84 i = o.2.2.2.2
def mOs (s : MS) (b c : Nat) (O : Nat → Od) : Prop := s.1 85 = nI c ∧ ∀ i, b ≤ i → i < b + c → mO s i (O i)
def mVs (s : MS) (vs : List Nat) : Prop := s.1 79 = nI vs.length ∧ vs.length ≤ 14 ∧ (∀ v ∈ vs, v < 2 ^ 50) ∧ ∀ k, k < vs.length → s.2.2.2 78 k = lN (vs.getD k 0)
/-- the calls' orders rise -/
def bOk (b c : Nat) (B : List Tok) : Prop := (∀ x ∈ B, b ≤ x.1 ∧ x.1 < b + c) ∧ (B.map (fun x => x.1)).Pairwise (· < ·)
def mBs (b c : Nat) (s : MS) (B : List Tok) : Prop := s.1 86 = nI B.length ∧ (∀ k, k < B.length → s.2.2.1 87 k = nI (B.getD k (0, 0, 0, 0)).1 ∧ s.2.2.2 90 k = lN (B.getD k (0, 0, 0, 0)).2.1 ∧ s.2.2.1 89 k = nI (B.getD k (0, 0, 0, 0)).2.2.1 ∧ s.2.2.1 88 k = nI (B.getD k (0, 0, 0, 0)).2.2.2) ∧ bOk b c B
/-- signs between two -/
def sgV (a : Nat) : Prop := a = 43 ∨ a = 45 ∨ a = 42 ∨ a = 47 ∨ a = 37 ∨ a = 38 ∨ a = 124 ∨ a = 60 ∨ a = 62 ∨ a = 317 ∨ a = 289 ∨ a = 316 ∨ a = 318
/-- how strong a sign is; 9: it is none -/
def slv (a : Nat) : Nat := if a = 38 ∨ a = 124 then 0 else if a = 317 ∨ a = 289 ∨ a = 316 ∨ a = 318 ∨ a = 60 ∨ a = 62 then 1 else if a = 43 ∨ a = 45 then 2 else if a = 42 ∨ a = 47 ∨ a = 37 then 3 else 9
/-- what waits: kind, sign or word, how many, where, name, where that is -/
abbrev XE : Type := Nat × Nat × Nat × Nat × Nat × Nat
def mXe (s : MS) (k : Nat) (x : XE) : Prop := s.2.2.1 95 k = nI x.1 ∧ (¬ x.1 = 6 → s.2.2.1 96 k = nI (mSg x.2.1)) ∧ s.2.2.1 97 k = nI x.2.2.1 ∧ s.2.2.1 98 k = nI x.2.2.2.1 ∧ (6 ≤ x.1 → s.2.2.2 99 k = lN x.2.2.2.2.1 ∧ s.2.2.1 100 k = nI x.2.2.2.2.2) ∧ (x.1 ≤ 8 ∧ x.2.1 < 1000 ∧ x.2.2.1 < 10000) ∧ (x.1 = 1 → sgV x.2.1) ∧ (x.1 = 2 → x.2.1 = 33 ∨ x.2.1 = 45)
def mXs (s : MS) : List XE → Prop
  | [] => True
  | x :: r => mXe s r.length x ∧ mXs s r
def mWs (s : MS) (X : List XE) : Prop := s.1 101 = nI X.length ∧ mXs s X
theorem mO.cg {s s' : MS} {i : Nat} {o : Od} (h : mO s i o) (e : ∀ j ∈ [80, 81, 82, 83, 84], s'.2.2.1 j i = s.2.2.1 j i) : mO s' i o := by
  unfold mO
  rw [e 80 (by decide), e 81 (by decide), e 82 (by decide), e 83 (by decide), e 84 (by decide)]
  exact h
theorem mXe.cg {s s' : MS} {k : Nat} {x : XE} (h : mXe s k x) (e : ∀ j ∈ [95, 96, 97, 98, 100], s'.2.2.1 j k = s.2.2.1 j k) (e2 : s'.2.2.2 99 k = s.2.2.2 99 k) : mXe s' k x := by
  unfold mXe
  rw [e 95 (by decide), e 96 (by decide), e 97 (by decide), e 98 (by decide), e 100 (by decide), e2]
  exact h
theorem mXs.cg {s s' : MS} : ∀ {X : List XE}, mXs s X → (∀ j ∈ [95, 96, 97, 98, 100], ∀ k, k < X.length → s'.2.2.1 j k = s.2.2.1 j k) → (∀ k, k < X.length → s'.2.2.2 99 k = s.2.2.2 99 k) → mXs s' X
  | [], _, _, _ => trivial
  | x :: r, h, e, e2 => ⟨h.1.cg (fun j hj => e j hj _ (Nat.lt_succ_self _)) (e2 _ (Nat.lt_succ_self _)), mXs.cg h.2 (fun j hj k hk => e j hj k (Nat.lt_succ_of_lt hk)) (fun k hk => e2 k (Nat.lt_succ_of_lt hk))⟩
theorem mOs.cg {s s' : MS} {b c : Nat} {O : Nat → Od} (h : mOs s b c O) (e1 : s'.1 85 = s.1 85) (e : ∀ j ∈ [80, 81, 82, 83, 84], ∀ i, b ≤ i → i < b + c → s'.2.2.1 j i = s.2.2.1 j i) : mOs s' b c O := ⟨e1.trans h.1, fun i h1 h2 => (h.2 i h1 h2).cg (fun j hj => e j hj i h1 h2)⟩
theorem mVs.cg {s s' : MS} {vs : List Nat} (h : mVs s vs) (e1 : s'.1 79 = s.1 79) (e : ∀ k, k < vs.length → s'.2.2.2 78 k = s.2.2.2 78 k) : mVs s' vs := ⟨e1.trans h.1, h.2.1, h.2.2.1, fun k hk => (e k hk).trans (h.2.2.2 k hk)⟩
theorem mBs.cg {s s' : MS} {b c : Nat} {B : List Tok} (h : mBs b c s B) (e1 : s'.1 86 = s.1 86) (e : ∀ j ∈ [87, 88, 89], ∀ k, k < B.length → s'.2.2.1 j k = s.2.2.1 j k) (e2 : ∀ k, k < B.length → s'.2.2.2 90 k = s.2.2.2 90 k) : mBs b c s' B := ⟨e1.trans h.1, fun k hk => by
  rw [e 87 (by decide) k hk, e 88 (by decide) k hk, e 89 (by decide) k hk, e2 k hk]
  exact h.2.1 k hk, h.2.2⟩
theorem mBs.up1 {s : MS} {b c : Nat} {B : List Tok} (h : mBs b c s B) : mBs b (c + 1) s B := ⟨h.1, h.2.1, fun x hx => ⟨(h.2.2.1 x hx).1, Nat.lt_succ_of_lt (h.2.2.1 x hx).2⟩, h.2.2.2⟩
theorem mWs.cg {s s' : MS} {X : List XE} (h : mWs s X) (e1 : s'.1 101 = s.1 101) (e : ∀ j ∈ [95, 96, 97, 98, 100], ∀ k, k < X.length → s'.2.2.1 j k = s.2.2.1 j k) (e2 : ∀ k, k < X.length → s'.2.2.2 99 k = s.2.2.2 99 k) : mWs s' X := ⟨e1.trans h.1, h.2.cg e e2⟩
/-- what stays: the text, the words, which half -/
def mXb (ch : Nat → Nat) (n hf : Nat) (s0 s : MS) : Prop := mTx s ch n ∧ mWd s ∧ s.1 69 = nI hf ∧ hf ≤ 1 ∧ n ≤ 1260 ∧ mfX (4000 * (1 - hf)) s0 s
theorem mXb.tk {ch : Nat → Nat} {n hf : Nat} {s0 s : MS} (h : mXb ch n hf s0 s) {k : Nat} (hk : k ≤ n) : tkW n k (tk ch n k) := tk_ok h.1.2.2.2 hk
theorem mXb.fr {ch : Nat → Nat} {n hf : Nat} {s0 s s' : MS} (h : mXb ch n hf s0 s) (k : mfX (4000 * (1 - hf)) s s') : mXb ch n hf s0 s' :=
  ⟨⟨(k.1 61 (by decide)).trans h.1.1, h.1.2.1, fun i hi => by rw [k.2.2.1 59 (by decide)]; exact h.1.2.2.1 i hi, h.1.2.2.2⟩, ⟨fun i hi => by rw [k.2.2.2.1 57 (by decide)]; exact h.2.1.1 i hi, fun i hi => by rw [k.2.2.1 58 (by decide)]; exact h.2.1.2 i hi⟩, (k.1 69 (by decide)).trans h.2.2.1, h.2.2.2.1, h.2.2.2.2.1, h.2.2.2.2.2.trans k⟩
abbrev PZ : Type := (Nat × Nat) × List Nat × (Nat → Od) × Nat × List Tok × List XE
/-- g: 0 neither the names nor what waits are known, 1 the names, 2 both -/
def mXg (g : Nat) (ch : Nat → Nat) (n hf : Nat) (s0 : MS) (z : PZ) (s : MS) : Prop :=
  mXb ch n hf s0 s ∧ (mTk s (tk ch n z.1.1) ∧ z.1.1 ≤ n) ∧ (s.1 66 = 0 ∧ s.1 68 = nI z.1.2 ∧ z.1.2 ≤ 10) ∧ (1 ≤ g → mVs s z.2.1) ∧ mOs s (4000 * (1 - hf)) z.2.2.2.1 z.2.2.1 ∧ mBs (4000 * (1 - hf)) z.2.2.2.1 s z.2.2.2.2.1 ∧ (2 ≤ g → mWs s z.2.2.2.2.2)
abbrev mX (ch : Nat → Nat) (n hf : Nat) (s0 : MS) (z : PZ) (s : MS) : Prop := mXg 2 ch n hf s0 z s
section PM2
variable {l : Launch} {E : EN} {w : MO} {d : Nat} {s s0 s' : MS} {Q : Option Value → MS → Prop} {ch : Nat → Nat} {n hf p p' o o' c : Nat} {vs : List Nat} {O : Nat → Od} {B : List Tok} {X : List XE} {g : Nat}
theorem mXg.tok (h : mXg g ch n hf s0 ((p, o), vs, O, c, B, X) s) (hk : mfK s s') (ht : mTk s' (tk ch n p')) (hp : p' ≤ n) : mXg g ch n hf s0 ((p', o), vs, O, c, B, X) s' := by
  obtain ⟨h1, h2, h3, h4, h5, h6, h7⟩ := h
  have e := hk.2.2
  refine ⟨h1.fr (mfX.ofK hk), ⟨ht, hp⟩, ⟨(hk.1 66 (by decide)).trans h3.1, (hk.1 68 (by decide)).trans h3.2.1, h3.2.2⟩, fun q => (h4 q).cg (hk.1 79 (by decide)) (fun _ _ => by rw [e]), h5.cg (hk.1 85 (by decide)) (fun _ _ _ _ _ => by rw [e]), h6.cg (hk.1 86 (by decide)) (fun _ _ _ _ => by rw [e]) (fun _ _ => by rw [e]), fun q => (h7 q).cg (hk.1 101 (by decide)) (fun _ _ _ _ => by rw [e]) (fun _ _ => by rw [e])⟩
theorem mXg.opn (h : mXg g ch n hf s0 ((p, o), vs, O, c, B, X) s) (ho : o' ≤ 10) : mXg g ch n hf s0 ((p, o'), vs, O, c, B, X) (sI s 68 (nI o')) := by
  obtain ⟨h1, h2, h3, h4, h5, h6, h7⟩ := h
  exact ⟨h1.fr (mfX.sI _ _ 68 _), h2, ⟨h3.1, rfl, ho⟩, fun q => (h4 q).cg rfl (fun _ _ => rfl), h5.cg rfl (fun _ _ _ _ _ => rfl), h6.cg rfl (fun _ _ _ _ => rfl) (fun _ _ => rfl), fun q => (h7 q).cg rfl (fun _ _ _ _ => rfl) (fun _ _ => rfl)⟩
theorem mXg.le {z : PZ} {g' : Nat} (h : mXg g ch n hf s0 z s) (hg : g' ≤ g) : mXg g' ch n hf s0 z s := ⟨h.1, h.2.1, h.2.2.1, fun q => h.2.2.2.1 (Nat.le_trans q hg), h.2.2.2.2.1, h.2.2.2.2.2.1, fun q => h.2.2.2.2.2.2 (Nat.le_trans q hg)⟩
theorem mXg.vv {z : PZ} (h : mXg g ch n hf s0 z s) (hg : 1 ≤ g := by decide) : mVs s z.2.1 := h.2.2.2.1 hg
theorem mXg.ww {z : PZ} (h : mXg g ch n hf s0 z s) (hg : 2 ≤ g := by decide) : mWs s z.2.2.2.2.2 := h.2.2.2.2.2.2 hg
/-- one more order -/
def oup (O : Nat → Od) (k : Nat) (x : Od) : Nat → Od := fun i => if i = k then x else O i
theorem oup_at (O : Nat → Od) (k : Nat) (x : Od) : oup O k x k = x := if_pos rfl
theorem oup_ne (O : Nat → Od) {k i : Nat} (x : Od) (h : ¬ i = k) : oup O k x i = O i := if_neg h
theorem sA_at (s : MS) (j k : Nat) (v : Int32) : (sA s j k v).2.2.1 j k = v := if_pos ⟨rfl, rfl⟩
theorem sB_at (s : MS) (j k : Nat) (v : Int64) : (sB s j k v).2.2.2 j k = v := if_pos ⟨rfl, rfl⟩
end PM2
