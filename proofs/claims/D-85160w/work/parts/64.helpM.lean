/-! THE MODEL: small rows -/
theorem inB_n {n N : Nat} (h : n < N) (hN : N < 2 ^ 31 := by omega) : inB (nI n) N := ⟨nI_pos (by omega), by rw [nI_clamp (by omega)]; exact h⟩
theorem inB_e {x : Int32} {N : Nat} (n : Nat) (e : x = nI n) (h : n < N) (hN : N < 2 ^ 31 := by omega) : inB x N := by rw [e]; exact inB_n h hN
theorem bn_le {x y : Int32} {A B : Prop} (a b : Nat) (g : b < a → B) (f : a ≤ b → A) (hx : x = nI a := by rfl) (hy : y = nI b := by rfl) (ha : a < 2 ^ 31 := by omega) (hb : b < 2 ^ 31 := by omega) : (¬ x ≤ y → B) ∧ (x ≤ y → A) := And.symm (pk_le a b f g hx hy ha hb)
theorem bn_lt {x y : Int32} {A B : Prop} (a b : Nat) (g : b ≤ a → B) (f : a < b → A) (hx : x = nI a := by rfl) (hy : y = nI b := by rfl) (ha : a < 2 ^ 31 := by omega) (hb : b < 2 ^ 31 := by omega) : (¬ x < y → B) ∧ (x < y → A) := And.symm (pk_lt a b f g hx hy ha hb)
theorem bn_eq {x y : Int32} {A B : Prop} (a b : Nat) (g : a ≠ b → B) (f : a = b → A) (hx : x = nI a := by rfl) (hy : y = nI b := by rfl) (ha : a < 2 ^ 31 := by omega) (hb : b < 2 ^ 31 := by omega) : (¬ x = y → B) ∧ (x = y → A) := And.symm (pk_eq a b f g hx hy ha hb)
theorem nI_l2 (a : Nat) : nI a + 2 = nI (a + 2) := nI_add a 2
theorem nI_l3 (a : Nat) : nI a + 3 = nI (a + 3) := nI_add a 3
theorem nI_m2 (a : Nat) : 2 * nI a = nI (2 * a) := pk_mul 2 a
theorem nI_2l (a : Nat) : 2 + nI a = nI (2 + a) := nI_add 2 a
theorem nI_4l (a : Nat) : 4 + nI a = nI (4 + a) := nI_add 4 a
theorem nI_1l (a : Nat) : 1 + nI a = nI (1 + a) := nI_add 1 a
theorem nI_p1 {a : Nat} (h : 0 < a) : nI a - 1 = nI (a - 1) := pk_sub (a := a) (b := 1) h
theorem zk_c (t : Th) : zk t = 0 ∨ zk t = 1 ∨ zk t = 2 ∨ zk t = 3 := by
  match t with
  | .leaf (.inl _) => exact Or.inl rfl
  | .leaf (.inr (.inl _)) => exact Or.inr (Or.inl rfl)
  | .leaf (.inr (.inr _)) => exact Or.inr (Or.inr (Or.inl rfl))
  | .branch _ _ _ => exact Or.inr (Or.inr (Or.inr rfl))
theorem zk_le (t : Th) : zk t ≤ 3 := by rcases zk_c t with e | e | e | e <;> omega
theorem zk0 {t : Th} (h : zk t = 0) : t = zI (zv t) := by
  match t, h with
  | .leaf (.inl _), _ => rfl
theorem zk1 {t : Th} (h : zk t = 1) : t = zR (zr t) := by
  match t, h with
  | .leaf (.inr (.inl _)), _ => rfl
theorem zk2 {t : Th} (h : zk t = 2) : t = zT (zt t) := by
  match t, h with
  | .leaf (.inr (.inr _)), _ => rfl
theorem zis_nil : zis [] = 0 := rfl
theorem zis_cons (a : List Int32) (r : List (List Int32)) : zis (a :: r) = a.length + zis r := by unfold zis; rw [List.map_cons, List.sum_cons]
theorem zis_app (a b : List (List Int32)) : zis (a ++ b) = zis a + zis b := by unfold zis; rw [List.map_append, List.sum_append]
theorem take_succ_getD {α : Type} (l : List α) (d : α) (i : Nat) (h : i < l.length) : l.take (i + 1) = l.take i ++ [l.getD i d] := by
  rw [List.take_succ, List.getD, List.getElem?_eq_getElem h]; rfl
theorem getD_lt {α : Type} {l : List α} (d : α) {i : Nat} (h : i < l.length) : l.getD i d = l[i] := by
  rw [List.getD, List.getElem?_eq_getElem h]; rfl
theorem getD_mem {α : Type} {l : List α} (d : α) {i : Nat} (h : i < l.length) : l.getD i d ∈ l := by
  rw [getD_lt d h]; exact List.getElem_mem h
theorem getD_app1 {α : Type} {l : List α} (r : List α) (d : α) {i : Nat} (h : i < l.length) : (l ++ r).getD i d = l.getD i d := by
  rw [List.getD, List.getD, List.getElem?_append_left h]
theorem getD_app2 {α : Type} (l : List α) (r : List α) (d : α) (i : Nat) : (l ++ r).getD (l.length + i) d = r.getD i d := by
  rw [List.getD, List.getD, List.getElem?_append_right (by omega)]; congr 2; omega
theorem getD_last {α : Type} (l : List α) (x d : α) : (l ++ [x]).getD l.length d = x := by
  have := getD_app2 l [x] d 0
  rw [Nat.add_zero] at this
  rw [this]; rfl
theorem getD_map {α β : Type} (g : α → β) (l : List α) (d : α) (e : β) {i : Nat} (h : i < l.length) : (l.map g).getD i e = g (l.getD i d) := by
  rw [getD_lt e (by rw [List.length_map]; exact h), getD_lt d h, List.getElem_map]
/-! what may have changed: numbers of J; h from b on; the pile from n on; what is looked through -/
def mfr (J : List Nat) (b n : Nat) (s s' : MS) : Prop :=
  (∀ j, j ∉ J → s'.1 j = s.1 j) ∧ s'.2.1 = s.2.1 ∧ s'.2.2.2 = s.2.2.2 ∧ (∀ i, i < b → s'.2.2.1 104 i = s.2.2.1 104 i) ∧ (∀ i, i < n → s'.2.2.1 106 i = s.2.2.1 106 i ∧ s'.2.2.1 107 i = s.2.2.1 107 i) ∧
  ∀ j, j ∉ [104, 106, 107, 109, 110, 111] → s'.2.2.1 j = s.2.2.1 j
abbrev J0 : List Nat := [105, 108, 112, 113, 114]
abbrev J1 : List Nat := [105, 108, 112, 113, 114, 119, 123, 124]
theorem mfr.rf (J : List Nat) (b n : Nat) (s : MS) : mfr J b n s s := ⟨fun _ _ => rfl, rfl, rfl, fun _ _ => rfl, fun _ _ => ⟨rfl, rfl⟩, fun _ _ => rfl⟩
theorem mfr.trans {J : List Nat} {b n : Nat} {s s' s'' : MS} (h : mfr J b n s s') (k : mfr J b n s' s'') : mfr J b n s s'' :=
  ⟨fun j hj => (k.1 j hj).trans (h.1 j hj), k.2.1.trans h.2.1, k.2.2.1.trans h.2.2.1, fun i hi => (k.2.2.2.1 i hi).trans (h.2.2.2.1 i hi), fun i hi => ⟨(k.2.2.2.2.1 i hi).1.trans (h.2.2.2.2.1 i hi).1, (k.2.2.2.2.1 i hi).2.trans (h.2.2.2.2.1 i hi).2⟩, fun j hj => (k.2.2.2.2.2 j hj).trans (h.2.2.2.2.2 j hj)⟩
theorem mfr.mono {J J' : List Nat} {b b' n n' : Nat} {s s' : MS} (h : mfr J b n s s') (hJ : ∀ j ∈ J, j ∈ J' := by decide) (hb : b' ≤ b := by omega) (hn : n' ≤ n := by omega) : mfr J' b' n' s s' :=
  ⟨fun j hj => h.1 j (fun z => hj (hJ j z)), h.2.1, h.2.2.1, fun i hi => h.2.2.2.1 i (by omega), fun i hi => h.2.2.2.2.1 i (by omega), h.2.2.2.2.2⟩
theorem sI_ne (s : MS) {j i : Nat} (v : Int32) (h : i ≠ j) : (sI s j v).1 i = s.1 i := if_neg h
theorem sA_ne (s : MS) {j k i n : Nat} (v : Int32) (h : ¬ (i = j ∧ n = k)) : (sA s j k v).2.2.1 i n = s.2.2.1 i n := if_neg h
theorem mfr.sI (J : List Nat) (b n : Nat) (s : MS) (j : Nat) (v : Int32) (hj : j ∈ J := by decide) : mfr J b n s (sI s j v) :=
  ⟨fun i hi => sI_ne s v (fun e => hi (e ▸ hj)), rfl, rfl, fun _ _ => rfl, fun _ _ => ⟨rfl, rfl⟩, fun _ _ => rfl⟩
theorem mfr.hA (J : List Nat) {b n : Nat} (s : MS) {k : Nat} (v : Int32) (hk : b ≤ k) : mfr J b n s (sA s 104 k v) := by
  refine ⟨fun i hi => rfl, rfl, rfl, fun i hi => sA_ne s v (fun e => ?_), fun i hi => ⟨sA_ne s v (fun e => ?_), sA_ne s v (fun e => ?_)⟩, fun j hj => ?_⟩
  · have := e.2; omega
  · exact absurd e.1 (by decide)
  · exact absurd e.1 (by decide)
  · funext i
    exact sA_ne s v (fun e => hj (by rw [e.1]; decide))
theorem mfr.pA (J : List Nat) {b n : Nat} (s : MS) {j k : Nat} (v : Int32) (hj : j = 106 ∨ j = 107) (hk : n ≤ k) : mfr J b n s (sA s j k v) := by
  refine ⟨fun i hi => rfl, rfl, rfl, fun i hi => sA_ne s v (fun e => ?_), fun i hi => ⟨sA_ne s v (fun e => ?_), sA_ne s v (fun e => ?_)⟩, fun j' hj' => ?_⟩
  · have := e.1; omega
  · have := e.2; omega
  · have := e.2; omega
  · funext i
    refine sA_ne s v (fun e => hj' ?_)
    rw [e.1]
    rcases hj with rfl | rfl <;> decide
theorem mfr.gA (J : List Nat) {b n : Nat} (s : MS) {j k : Nat} (v : Int32) (hj : j = 109 ∨ j = 110 ∨ j = 111) : mfr J b n s (sA s j k v) := by
  refine ⟨fun i hi => rfl, rfl, rfl, fun i hi => sA_ne s v (fun e => ?_), fun i hi => ⟨sA_ne s v (fun e => ?_), sA_ne s v (fun e => ?_)⟩, fun j' hj' => ?_⟩
  · have := e.1; omega
  · have := e.1; omega
  · have := e.1; omega
  · funext i
    refine sA_ne s v (fun e => hj' ?_)
    rw [e.1]
    rcases hj with rfl | rfl | rfl <;> decide
/-- a value more on the pile -/
def psh (s : MS) (n : Nat) (k v : Int32) : MS := sI (sA (sA s 106 n k) 107 n v) 108 (nI (n + 1))
theorem psh_fr (J : List Nat) (b : Nat) {n m : Nat} (s : MS) (k v : Int32) (h : n ≤ m) (hJ : 108 ∈ J := by decide) : mfr J b n s (psh s m k v) :=
  ((mfr.pA J s k (Or.inl rfl) h).trans (mfr.pA J _ v (Or.inr rfl) h)).trans (mfr.sI J b n _ 108 _ hJ)
theorem psh_k (s : MS) (n : Nat) (k v : Int32) (i : Nat) : (psh s n k v).2.2.1 106 i = if i = n then k else s.2.2.1 106 i := by
  show (if 106 = 107 ∧ i = n then v else if 106 = 106 ∧ i = n then k else s.2.2.1 106 i) = _
  by_cases h : i = n <;> simp [h]
theorem psh_v (s : MS) (n : Nat) (k v : Int32) (i : Nat) : (psh s n k v).2.2.1 107 i = if i = n then v else s.2.2.1 107 i := by
  show (if 107 = 107 ∧ i = n then v else if 107 = 106 ∧ i = n then k else s.2.2.1 107 i) = _
  by_cases h : i = n <;> simp [h]
theorem psh_h (s : MS) (n : Nat) (k v : Int32) : (psh s n k v).2.2.1 104 = s.2.2.1 104 := rfl
/-- from n on the pile has l; all that is in it lies below b, which is free -/
def MPl (b n : Nat) (l : List Th) (s : MS) : Prop := s.1 105 = nI b ∧ (154240 ≤ b ∧ b ≤ 160000) ∧ n + l.length ≤ 8900 ∧ s.1 108 = nI (n + l.length) ∧ ∀ i, i < l.length → rmV (s.2.2.1 104) b (s.2.2.1 106 (n + i)) (s.2.2.1 107 (n + i)) (l.getD i (zI 0))
theorem MPl.push {b n : Nat} {l : List Th} {s : MS} (h : MPl b n l s) {k v : Int32} {t : Th} (ht : rmV (s.2.2.1 104) b k v t) (hn : n + l.length < 8900) : MPl b n (l ++ [t]) (psh s (n + l.length) k v) := by
  obtain ⟨h1, h2, h3, h4, h5⟩ := h
  refine ⟨h1, h2, by rw [List.length_append]; exact hn, by rw [List.length_append]; rfl, fun i hi => ?_⟩
  rw [psh_k, psh_v, psh_h]
  by_cases e : i = l.length
  · subst e
    rw [if_pos rfl, if_pos rfl, getD_last]
    exact ht
  · have hi : i < l.length := by
      rw [List.length_append] at hi
      have : i < l.length + 1 := hi
      omega
    rw [if_neg (by omega), if_neg (by omega), getD_app1 _ _ hi]
    exact h5 i hi
section MG
variable {l : Launch} {E : EN} {w : MO} {d : Nat} {s : MS} {Q : Option Value → MS → Prop}
theorem M_push (hst : l.stackTraces = false) {n : Nat} {k v : Int32} (hn : s.1 108 = nI n) (h9 : n < 9000) (hQ : Q none (psh s n k v)) : EvM l E w d MX10_push [.ref w.1, .int k, .int v] s Q := by
  refine eX10_push hst ?_
  rw [hn, nI_clamp (by omega), nI_1]
  exact ⟨inB_n h9, inB_n h9, hQ⟩
theorem M_sizeAt (hst : l.stackTraces = false) {p : Nat} {v : Int32} (hp : p + 1 < 166300) (e : s.2.2.1 104 (p + 1) = v) (hQ : Q (some (.int v)) s) : EvM l E w d MX10_sizeAt [.ref w.1, .int (nI p)] s Q := by
  refine eX10_sizeAt hst ?_
  rw [nI_1, nI_clamp (by omega), e]
  exact ⟨inB_n hp, hQ⟩
theorem M_partT (hst : l.stackTraces = false) {p i q : Nat} (hk : s.2.2.1 104 p = 2) (hp : p + 2 + i < 166300) (e : s.2.2.1 104 (p + 2 + i) = nI q - nI p) (hQ : Q (some (.int (nI q))) s) : EvM l E w d MX10_partAt [.ref w.1, .int (nI p), .int (nI i)] s Q := by
  refine eX10_partAt hst ⟨inB_n (by omega), ?_⟩
  rw [nI_clamp (by omega), hk]
  refine ⟨fun c => absurd rfl c, fun _ => ?_⟩
  rw [nI_l2, nI_add, nI_clamp (by omega), e, nI_back]
  exact ⟨inB_n hp, hQ⟩
theorem M_partP (hst : l.stackTraces = false) {p i q : Nat} (hk : s.2.2.1 104 p = 3) (hp : p + 3 + 2 * i < 166300) (e : s.2.2.1 104 (p + 3 + 2 * i) = nI q - nI p) (hQ : Q (some (.int (nI q))) s) : EvM l E w d MX10_partAt [.ref w.1, .int (nI p), .int (nI i)] s Q := by
  refine eX10_partAt hst ⟨inB_n (by omega), ?_⟩
  rw [nI_clamp (by omega), hk]
  refine ⟨fun _ => ?_, fun c => absurd c (by decide)⟩
  rw [nI_l3, nI_m2, nI_add, nI_clamp (by omega), e, nI_back]
  exact ⟨inB_n hp, hQ⟩
theorem M_isInt (hst : l.stackTraces = false) {p i : Nat} (hp : p + 2 + 2 * i < 166300) (h0 : s.2.2.1 104 (p + 2 + 2 * i) = 0 → Q (some (.int 1)) s) (h1 : ¬ s.2.2.1 104 (p + 2 + 2 * i) = 0 → Q (some (.int 0)) s) : EvM l E w d MX10_isInt [.ref w.1, .int (nI p), .int (nI i)] s Q := by
  refine eX10_isInt hst ?_
  rw [nI_l2, nI_m2, nI_add, nI_clamp (by omega)]
  exact ⟨inB_n hp, h1, h0⟩
/-- part i of a table or pack -/
theorem M_part (hst : l.stackTraces = false) {p i b : Nat} {t : Th} (k : rmT (s.2.2.1 104) b true t p 0) (hb : b ≤ 166300) (hi : i < zn t) (hk : 1 < zk t) (he : ¬ zk (zel t i) = 0) (hQ : ∀ q, rmT (s.2.2.1 104) b true (zel t i) q 0 → Q (some (.int (nI q))) s) : EvM l E w d MX10_partAt [.ref w.1, .int (nI p), .int (nI i)] s Q := by
  have hh := rmT_head k
  rcases zk_c t with e | e | e | e
  · omega
  · omega
  · obtain ⟨g1, q, g2, g3, g4⟩ := rmT_tabAt e k hi
    exact M_partT hst (by rw [hh.2.1, e]; rfl) (by omega) g2 (hQ q g3)
  · obtain ⟨g1, g2⟩ := rmT_packAt e k hi
    rcases g2 with ⟨g2, _⟩ | ⟨g2, g3, q, g4, g5⟩
    · exact absurd g2 he
    · exact M_partP hst (by rw [hh.2.1, e]; rfl) (by omega) g4 (hQ q g5)
theorem M_element (hst : l.stackTraces = false) {p i b n : Nat} {t : Th} (k : rmT (s.2.2.1 104) b true t p 0) (hb : b ≤ 166300) (hi : i < zn t) (hn : s.1 108 = nI n) (h9 : n < 9000) (hQ : ∀ k v, rmV (s.2.2.1 104) b k v (zel t i) → Q none (psh s n k v)) : EvM l E w (d + 1) MX10_element [.ref w.1, .int (nI p), .int (nI i)] s Q := by
  have hh := rmT_head k
  refine eX10_element hst ⟨inB_n (by omega), ?_⟩
  rw [nI_clamp (by omega), hh.2.1]
  rcases zk_c t with e | e | e | e
  · exact absurd e hh.1
  · obtain ⟨g1, g2, g3⟩ := rmT_rowAt e k hi
    refine bn_eq (zk t) 1 (fun c => absurd e c) (fun _ => ?_) rfl rfl
    rw [nI_l2, nI_add, nI_clamp (by omega), g2]
    exact ⟨inB_n (by omega), M_push hst hn h9 ⟨rfl, hQ _ _ (Or.inl ⟨g3, rfl, rfl⟩)⟩⟩
  · refine bn_eq (zk t) 1 (fun c => ⟨inB_n (by omega), ?_⟩) (fun c => by omega) rfl rfl
    refine bn_eq (zk t) 3 (fun c => ?_) (fun c => by omega) rfl rfl
    obtain ⟨g1, q, g2, g3, g4⟩ := rmT_tabAt e k hi
    refine M_partT hst (by rw [hh.2.1, e]; rfl) (by omega) g2 ⟨_, rfl, ?_⟩
    exact M_push hst hn h9 ⟨rfl, hQ _ _ (Or.inr ⟨by omega, rfl, q, rfl, g3⟩)⟩
  · refine bn_eq (zk t) 1 (fun c => ⟨inB_n (by omega), ?_⟩) (fun c => by omega) rfl rfl
    refine bn_eq (zk t) 3 (fun c => absurd e c) (fun c => ?_) rfl rfl
    obtain ⟨g1, g2⟩ := rmT_packAt e k hi
    rcases g2 with ⟨g2, g3, g4⟩ | ⟨g2, g3, q, g4, g5⟩
    · refine M_isInt hst (by omega) (fun _ => ⟨_, rfl, fun c => absurd c (by decide), fun _ => ?_⟩) (fun c => absurd g3 c)
      rw [nI_l3, nI_m2, nI_add, nI_clamp (by omega), g4]
      exact ⟨inB_n (by omega), M_push hst hn h9 ⟨rfl, hQ _ _ (Or.inl ⟨g2, rfl, rfl⟩)⟩⟩
    · refine M_isInt hst (by omega) (fun c => absurd (c.symm.trans g3) (by decide)) (fun _ => ⟨_, rfl, fun _ => ?_, fun c => absurd rfl c⟩)
      refine M_partP hst (by rw [hh.2.1, e]; rfl) (by omega) g4 ⟨_, rfl, ?_⟩
      exact M_push hst hn h9 ⟨rfl, hQ _ _ (Or.inr ⟨g2, rfl, q, rfl, g5⟩)⟩
theorem M_trouble (hst : l.stackTraces = false) {k p : Int32} (h0 : s.1 123 = 0) (hQ : Q none (sI (sI s 123 k) 124 p)) : EvM l E w d MX10_trouble [.ref w.1, .int k, .int p] s Q :=
  eX10_trouble hst ⟨fun _ => hQ, fun c => absurd (by rw [h0]; decide) c⟩
theorem M_begins (hst : l.stackTraces = false) {b : Nat} {k n : Int32} (hb : s.1 105 = nI b) (h : b + 1 < 166300) (hQ : Q (some (.int (nI b))) (sI (sA (sA s 104 b k) 104 (b + 1) n) 105 (nI (b + 2)))) : EvM l E w d MX10_begins [.ref w.1, .int k, .int n] s Q := by
  refine eX10_begins hst fun y hy => ?_
  rw [hb] at hy
  subst hy
  rw [nI_1, nI_l2, nI_clamp (by omega), nI_clamp (by omega)]
  exact ⟨inB_n (by omega), inB_n h, hQ⟩
/-- what a thing counts -/
theorem M_counts (hst : l.stackTraces = false) {p b : Nat} {t : Th} (k : rmT (s.2.2.1 104) b true t p 0) (hb : b ≤ 166300) (hQ : Q (some (.int (nI (zm t)))) s) : EvM l E w (d + 1) MX10_counts [.ref w.1, .int (nI p)] s Q := by
  have hh := rmT_head k
  refine eX10_counts hst ⟨inB_n (by omega), ?_⟩
  rw [nI_clamp (by omega), hh.2.1]
  match t, k, hh, hQ with
  | .leaf (.inr (.inl a)), k, hh, hQ =>
    refine ⟨fun c => absurd rfl c, fun _ => M_sizeAt hst (by have := hh.2.2.2; omega) hh.2.2.1 ⟨_, rfl, ?_⟩⟩
    rw [nI_4l]; exact hQ
  | .branch a s' c, k, hh, hQ =>
    refine ⟨fun _ => ⟨inB_n (by have := hh.2.2.2; omega), fun c => absurd rfl c, fun _ => M_sizeAt hst (by have := hh.2.2.2; omega) hh.2.2.1 ⟨_, rfl, ?_⟩⟩, fun c => absurd c (by show ¬ nI 3 = 1; decide)⟩
    rw [nI_m2, nI_4l]; exact hQ
  | .leaf (.inr (.inr a)), k, hh, hQ =>
    refine ⟨fun _ => ⟨inB_n (by have := hh.2.2.2; omega), fun _ => ?_, fun c => absurd c (by show ¬ nI 2 = 3; decide)⟩, fun c => absurd c (by show ¬ nI 2 = 1; decide)⟩
    have hlen : p + 2 + a.length ≤ b := hh.2.2.2
    have main : ∀ m i, i + m = a.length → ExM l E w (d + 1) MX10_counts 42 [some (.ref w.1), some (.int (nI p)), some (.int (nI (4 + 4 * i + zis (a.take i)))), some (.int (nI i))] [] s Q := by
      intro m
      induction m with
      | zero =>
        intro i hi
        have hi : i = a.length := hi
        subst hi
        refine vX10_counts_42 (M_sizeAt hst (by omega) hh.2.2.1 ⟨_, rfl, pk_le a.length a.length (fun _ => ?_) (fun c => by omega) rfl rfl⟩)
        rw [List.take_length]; exact hQ
      | succ m ih =>
        intro i hi
        refine vX10_counts_42 (M_sizeAt hst (by omega) hh.2.2.1 ⟨_, rfl, pk_le a.length i (fun c => by omega) (fun _ => ?_) rfl rfl⟩)
        refine M_part hst k hb (show i < a.length by omega) (by show 1 < 2; decide) ?_ (fun q hq => ⟨_, rfl, ?_⟩)
        · show ¬ zk ((a.map zR).getD i (zI 0)) = 0
          rw [getD_map zR a [] (zI 0) (by omega)]; show ¬ 1 = 0; decide
        · have e : zel (zT a) i = zR (a.getD i []) := getD_map zR a [] (zI 0) (by omega)
          have hq : rmT (s.2.2.1 104) b true (zel (zT a) i) q 0 := hq
          rw [e] at hq
          have h1 := rmT_head hq
          refine M_sizeAt hst (by have := h1.2.2.2; omega) h1.2.2.1 ⟨_, rfl, fun y hy => ?_⟩
          have e2 : y = nI (4 + 4 * (i + 1) + zis (a.take (i + 1))) := by
            rw [hy, nI_4l, nI_add, take_succ_getD a [] i (by omega), zis_app, zis_cons, zis_nil]
            congr 1
            show _ + (4 + (a.getD i []).length) = _
            omega
          rw [e2, nI_1]
          exact ih (i + 1) (by omega)
    exact main a.length 0 (by omega)
end MG
