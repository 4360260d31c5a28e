/-! THE MODEL: ends of orders, once more, shorter -/
def MCtx (b n md : Nat) (s0 : MS) : Prop := b ≤ 157600 ∧ n ≤ 8350 ∧ s0.1 119 = nI md ∧ md ≤ 3000 ∧ s0.1 123 = 0
theorem MOk.ctx {b n md : Nat} {args : List Th} {s : MS} (h : MOk b n md args s) : MCtx b n md s := ⟨h.2.1, h.2.2.1, h.2.2.2.1, h.2.2.2.2.1, h.2.2.2.2.2.1⟩
section MK
variable {l : Launch} {E : EN} {w : MO} {d : Nat} {s s0 : MS} {Q : Option Value → MS → Prop} {b n md b1 : Nat}
theorem K_row (hst : l.stackTraces = false) (hC : MCtx b n md s0) {is : List Int32} (ha : MAcc b n s0 b (is.map zI) s) (hQ : ∀ s', mop b n md (zmk (zR is)) s0 s' → Q none s') : EvM l E w (d + 3) MX10_builds [.ref w.1, .int 1, .int (nI n)] s (fun r s1 => r = none ∧ Q none s1) :=
  M_brow hst ha hC.1 (by have := hC.2.1; omega) hC.2.2.1 hC.2.2.2.1 hC.2.2.2.2 (fun s' q => ⟨rfl, hQ s' q⟩)
theorem K_tab (hst : l.stackTraces = false) (hC : MCtx b n md s0) {rs : List (List Int32)} (ha : MAcc b n s0 b1 (rs.map zR) s) (hr : ∀ r ∈ rs, r.length ≤ 64) (h1 : b1 ≤ b + 2 * rs.length + zis rs) (hx : b1 ≤ b + 300) (hQ : ∀ s', mop b n md (zmk (zT rs)) s0 s' → Q none s') : EvM l E w (d + 3) MX10_builds [.ref w.1, .int 2, .int (nI n)] s (fun r s1 => r = none ∧ Q none s1) :=
  M_btab hst ha hr hC.1 (by have := hC.2.1; omega) h1 hx hC.2.2.1 hC.2.2.2.1 hC.2.2.2.2 (fun s' q => ⟨rfl, hQ s' q⟩)
theorem K_bm (hst : l.stackTraces = false) (hC : MCtx b n md s0) {k : Nat} {vs : List Th} (ha : MAcc b n s0 b vs s) (hk : k = 1 ∨ k = 2 ∨ k = 3) (h1 : k = 1 → ∀ v ∈ vs, zk v = 0) (h2 : k = 2 → ∀ v ∈ vs, zk v = 1) (h3 : ∀ v ∈ vs, ZW v) (hQ : ∀ s', mop b n md (zmk (zof k vs)) s0 s' → Q none s') : EvM l E w (d + 3) MX10_builds [.ref w.1, .int (nI k), .int (nI n)] s (fun r s1 => r = none ∧ Q none s1) :=
  M_bm0 hst ha hk h1 h2 h3 hC.1 (by have := hC.2.1; omega) hC.2.2.1 hC.2.2.2.1 hC.2.2.2.2 (fun s' q => ⟨rfl, hQ s' q⟩)
theorem K_tr (hst : l.stackTraces = false) (hC : MCtx b n md s0) {vs : List Th} (ha : MAcc b n s0 b1 vs s) (hx : b1 ≤ b + 300) (k : Nat) {kk : Int32} (hkk : kk = nI k) (hQ : ∀ s', mop b n md (.inl k) s0 s' → Q none s') : EvM l E w d MX10_trouble [.ref w.1, .int kk, .int (s.1 127)] s (fun r s1 => r = none ∧ Q none s1) :=
  M_tmop hst ha.1 ha.2.2.1 ha.2.1 hx hC.2.2.1 hC.2.2.2.2 (ha.1.1 127 (by decide)) hkk (fun s' q => ⟨rfl, hQ s' q⟩)
/-- an INT is pushed as the end of an order -/
theorem K_int (hst : l.stackTraces = false) (hC : MCtx b n md s0) (ha : MAcc b n s0 b [] s) {v : Int32} (hQ : ∀ s', mop b n md (.inr (zI v)) s0 s' → Q none s') : EvM l E w d MX10_push [.ref w.1, .int 0, .int v] s (fun r s1 => r = none ∧ Q none s1) :=
  M_push hst ha.sp (by have := hC.2.1; show n + 0 < 9000; omega) ⟨rfl, hQ _ (MAcc.mopI (ha.pushI v (by have := hC.2.1; show n + 0 < 8900; omega)) rfl hC.2.2.1 hC.2.2.2.2)⟩
/-- an INT is pushed on the way -/
theorem MAcc.pI {K : MS → Prop} (hst : l.stackTraces = false) {vs : List Th} (ha : MAcc b n s0 b1 vs s) (hn : n + vs.length < 8900) {v : Int32} (hQ : ∀ s', MAcc b n s0 b1 (vs ++ [zI v]) s' → K s') : EvM l E w d MX10_push [.ref w.1, .int 0, .int v] s (fun r s1 => r = none ∧ K s1) :=
  M_push hst ha.sp (by omega) ⟨rfl, hQ _ (ha.pushI v hn)⟩
/-- an element comes on the pile -/
theorem MAcc.pE {K : MS → Prop} (hst : l.stackTraces = false) {vs : List Th} (ha : MAcc b n s0 b1 vs s) {t : Th} {p i : Nat} (k : rmT (s0.2.2.1 104) b true t p 0) (hb : b1 ≤ 160000) (hi : i < zn t) (hn : n + vs.length < 8900) (hQ : ∀ s', MAcc b n s0 b1 (vs ++ [zel t i]) s' → K s') : EvM l E w (d + 1) MX10_element [.ref w.1, .int (nI p), .int (nI i)] s (fun r s1 => r = none ∧ K s1) :=
  M_element hst (ha.rep k) (by omega) hi ha.sp (by omega) (fun k v hkv => ⟨rfl, hQ _ (ha.push hkv hn)⟩)
theorem M_zeros (hst : l.stackTraces = false) {vs : List Th} (ha : MAcc b n s0 b1 vs s) {k : Nat} (hk : n + vs.length + k < 8900) (hQ : ∀ s', MAcc b n s0 b1 (vs ++ (List.replicate k (0 : Int32)).map zI) s' → Q none s') : EvM l E w (d + 1) MX10_zeros [.ref w.1, .int (nI k)] s Q := by
  refine eX10_zeros hst ?_
  have main : ∀ m i (s' : MS), i + m = k → MAcc b n s0 b1 (vs ++ (List.replicate i (0 : Int32)).map zI) s' → ExM l E w (d + 1) MX10_zeros 2 [some (.ref w.1), some (.int (nI k)), some (.int (nI i))] [] s' Q := by
    intro m
    induction m with
    | zero =>
      intro i s' hi hA
      have hi : i = k := hi
      subst hi
      exact vX10_zeros_2 (pk_le i i (fun _ => hQ s' hA) (fun c => by omega) rfl rfl)
    | succ m ih =>
      intro i s' hi hA
      have hl : (vs ++ (List.replicate i (0 : Int32)).map zI).length = vs.length + i := by rw [List.length_append, List.length_map, List.length_replicate]
      refine vX10_zeros_2 (pk_le k i (fun c => by omega) (fun _ => hA.pI hst (by omega) (fun s2 q => ?_)) rfl rfl)
      rw [nI_1]
      refine ih (i + 1) s2 (by omega) ?_
      rw [List.replicate_succ', List.map_append, ← List.append_assoc]
      exact q
  refine main k 0 s (by omega) ?_
  rw [List.replicate_zero, List.map_nil, List.append_nil]
  exact ha
theorem foldl_take_succ {α : Type} (g : α → Int32 → α) (x : α) (a : List Int32) (i : Nat) (h : i < a.length) : (a.take (i + 1)).foldl g x = g ((a.take i).foldl g x) (a.getD i 0) := by
  rw [take_succ_getD a 0 i h, List.foldl_append]; rfl
/-- sum, greatest, least of a row -/
theorem M_reduced (hst : l.stackTraces = false) {vs : List Th} (ha : MAcc b n s0 b1 vs s) {p k : Nat} {a : List Int32} (hr : rmT (s0.2.2.1 104) b true (zR a) p 0) (hb : b ≤ 157600) (hk : k = 9 ∨ k = 10 ∨ k = 11) (ha0 : k ≠ 9 → a ≠ []) (hQ : ∀ v, zfold k a = some v → Q (some (.int v)) s) : EvM l E w (d + 1) MX10_reduced [.ref w.1, .int (nI k), .int (nI p)] s Q := by
  have hh := rmT_head hr
  have hal : a.length ≤ b := by have := hh.2.2.2; show a.length ≤ b; have : p + 2 + a.length ≤ b := this; omega
  refine eX10_reduced hst ?_
  let g : Int32 → Int32 → Int32 := fun v w => if k = 9 then v + w else if k = 10 then (if v < w then w else v) else (if w < v then w else v)
  have main : ∀ (x0 : Int32), (∀ v, v = a.foldl g x0 → zfold k a = some v) → ∀ m i, i + m = a.length → ExM l E w (d + 1) MX10_reduced 22 [some (.ref w.1), some (.int (nI k)), some (.int (nI p)), some (.int ((a.take i).foldl g x0)), some (.int (nI i)), none] [] s Q := by
    intro x0 hx0 m
    induction m with
    | zero =>
      intro i hi
      have hi : i = a.length := hi
      subst hi
      rw [List.take_length]
      exact vX10_reduced_22 (M_sizeA hst ha hr (by omega) ⟨_, rfl, pk_le a.length a.length (fun _ => hQ _ (hx0 _ rfl)) (fun c => by omega) rfl rfl⟩)
    | succ m ih =>
      intro i hi
      have nx := ih (i + 1) (by omega)
      rw [foldl_take_succ g x0 a i (by omega)] at nx
      obtain ⟨r1, r2⟩ := ha.rowAt hr (show i < a.length by omega)
      refine vX10_reduced_22 (M_sizeA hst ha hr (by omega) ⟨_, rfl, pk_le a.length i (fun c => by omega) (fun _ => ?_) rfl rfl⟩)
      rw [nI_l2, nI_add, nI_clamp (by omega), r2, nI_1]
      refine ⟨inB_n (by omega), fun y ey => ?_⟩
      rw [← ey] at nx
      generalize (a.take i).foldl g x0 = v at nx
      rcases hk with rfl | rfl | rfl
      · refine ⟨fun c => absurd rfl c, fun _ y4 e4 => ?_⟩
        have eg : g v y = y4 := e4.symm
        rw [eg] at nx; exact nx
      · refine ⟨fun _ => ⟨fun c => absurd rfl c, fun _ => ⟨fun c => ?_, fun c => ?_⟩⟩, fun c => absurd c (by decide)⟩
        · have eg : g v y = v := if_neg (Int32.not_lt.mpr c)
          rw [eg] at nx; exact nx
        · have eg : g v y = y := if_pos (Int32.not_le.mp c)
          rw [eg] at nx; exact nx
      · refine ⟨fun _ => ⟨fun _ => ⟨fun c => ?_, fun c => ?_⟩, fun c => absurd c (by decide)⟩, fun c => absurd c (by decide)⟩
        · have eg : g v y = v := if_neg (Int32.not_lt.mpr c)
          rw [eg] at nx; exact nx
        · have eg : g v y = y := if_pos (Int32.not_le.mp c)
          rw [eg] at nx; exact nx
  by_cases h9 : k = 9
  · subst h9
    refine ⟨fun c => absurd rfl c, fun _ => ?_⟩
    exact main 0 (fun v e => by rw [e]; rfl) a.length 0 (by omega)
  · refine ⟨fun _ => ?_, fun c => absurd c (by rcases hk with rfl | rfl | rfl <;> first | exact absurd rfl h9 | decide)⟩
    match a, ha0 h9, hr, main, hal with
    | x :: r, _, hr, main, hal =>
      obtain ⟨r1, r2⟩ := ha.rowAt hr (show 0 < (x :: r).length from Nat.succ_pos _)
      rw [nI_l2, nI_clamp (by omega)]
      refine ⟨inB_n (by omega), fun y ey => ?_⟩
      have ey : y = x := ey.trans r2
      subst ey
      refine main y (fun v e => ?_) (y :: r).length 0 (by omega)
      have gy : g y y = y := by
        show (if k = 9 then _ else if k = 10 then (if y < y then y else y) else (if y < y then y else y)) = y
        rw [if_neg h9]
        split <;> split <;> rfl
      have e : v = r.foldl g y := by rw [e]; show r.foldl g (g y y) = _; rw [gy]
      rw [e]
      have eg : g = fun v w => if k = 10 then (if v < w then w else v) else (if w < v then w else v) := by
        funext v w
        exact if_neg h9
      rw [eg]
      unfold zfold
      rw [if_neg h9]
end MK
